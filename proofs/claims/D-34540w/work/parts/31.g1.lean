set_option maxRecDepth 100000
abbrev cJ18_checkIndex : ByteArray := prog_98_method_11_code
def yJ18_checkIndex : MethodName := ⟨RJ18, "checkIndex", "(IILjava/util/function/BiFunction;)I"⟩
def dkwJ18_checkIndex_0 : List UInt8 := [26, 155, 0, 8, 26, 27, 161, 0, 10, 44, 26, 27, 184, 0, 95, 191, 26, 172]
abbrev dktJ18_checkIndex_0 : List UInt8 := dkwJ18_checkIndex_0 ++ []
theorem dksJ18_checkIndex_0 : cJ18_checkIndex.data.toList.drop 0 = dktJ18_checkIndex_0 := by decide +kernel
theorem dJ18_checkIndex_0 : decode cJ18_checkIndex 0 = .ok (.iload_n 0, 1) := dk_26 (dk_at dksJ18_checkIndex_0 0 rfl rfl)
theorem dJ18_checkIndex_1 : decode cJ18_checkIndex 1 = .ok (.ifCond .lt 8, 3) := dk_155 0 8 (dk_at dksJ18_checkIndex_0 1 rfl rfl)
theorem dJ18_checkIndex_4 : decode cJ18_checkIndex 4 = .ok (.iload_n 0, 1) := dk_26 (dk_at dksJ18_checkIndex_0 4 rfl rfl)
theorem dJ18_checkIndex_5 : decode cJ18_checkIndex 5 = .ok (.iload_n 1, 1) := dk_27 (dk_at dksJ18_checkIndex_0 5 rfl rfl)
theorem dJ18_checkIndex_6 : decode cJ18_checkIndex 6 = .ok (.if_icmp .lt 10, 3) := dk_161 0 10 (dk_at dksJ18_checkIndex_0 6 rfl rfl)
theorem dJ18_checkIndex_9 : decode cJ18_checkIndex 9 = .ok (.aload_n 2, 1) := dk_44 (dk_at dksJ18_checkIndex_0 9 rfl rfl)
theorem dJ18_checkIndex_10 : decode cJ18_checkIndex 10 = .ok (.iload_n 0, 1) := dk_26 (dk_at dksJ18_checkIndex_0 10 rfl rfl)
theorem dJ18_checkIndex_11 : decode cJ18_checkIndex 11 = .ok (.iload_n 1, 1) := dk_27 (dk_at dksJ18_checkIndex_0 11 rfl rfl)
theorem dJ18_checkIndex_12 : decode cJ18_checkIndex 12 = .ok (.invokestatic 95, 3) := dk_184 0 95 (dk_at dksJ18_checkIndex_0 12 rfl rfl)
theorem dJ18_checkIndex_15 : decode cJ18_checkIndex 15 = .ok (.athrow, 1) := dk_191 (dk_at dksJ18_checkIndex_0 15 rfl rfl)
theorem dJ18_checkIndex_16 : decode cJ18_checkIndex 16 = .ok (.iload_n 0, 1) := dk_26 (dk_at dksJ18_checkIndex_0 16 rfl rfl)
theorem dJ18_checkIndex_17 : decode cJ18_checkIndex 17 = .ok (.ireturn, 1) := dk_172 (dk_at dksJ18_checkIndex_0 17 rfl rfl)
def fJ18_checkIndex_b9 (e : Nat → Nat) (N : Nat) (m : Mm) (v0 : Int32) (v1 : Int32) (v2 : Option Nat) : Rs (Int32) := none
def fJ18_checkIndex (e : Nat → Nat) (N : Nat) (m : Mm) (v0 : Int32) (v1 : Int32) (v2 : Option Nat) : Rs (Int32) := if v0 < 0 then (fJ18_checkIndex_b9 e N m v0 v1 v2) else (if v0 < v1 then (rt_ v0 m) else (fJ18_checkIndex_b9 e N m v0 v1 v2))
abbrev cJ23_checkIndex : ByteArray := prog_71_method_17_code
def yJ23_checkIndex : MethodName := ⟨RJ23, "checkIndex", "(II)I"⟩
def dkwJ23_checkIndex_0 : List UInt8 := [26, 27, 1, 184, 0, 105, 172]
abbrev dktJ23_checkIndex_0 : List UInt8 := dkwJ23_checkIndex_0 ++ []
theorem dksJ23_checkIndex_0 : cJ23_checkIndex.data.toList.drop 0 = dktJ23_checkIndex_0 := by decide +kernel
theorem dJ23_checkIndex_0 : decode cJ23_checkIndex 0 = .ok (.iload_n 0, 1) := dk_26 (dk_at dksJ23_checkIndex_0 0 rfl rfl)
theorem dJ23_checkIndex_1 : decode cJ23_checkIndex 1 = .ok (.iload_n 1, 1) := dk_27 (dk_at dksJ23_checkIndex_0 1 rfl rfl)
theorem dJ23_checkIndex_2 : decode cJ23_checkIndex 2 = .ok (.aconst_null, 1) := dk_1 (dk_at dksJ23_checkIndex_0 2 rfl rfl)
theorem dJ23_checkIndex_3 : decode cJ23_checkIndex 3 = .ok (.invokestatic 105, 3) := dk_184 0 105 (dk_at dksJ23_checkIndex_0 3 rfl rfl)
theorem dJ23_checkIndex_6 : decode cJ23_checkIndex 6 = .ok (.ireturn, 1) := dk_172 (dk_at dksJ23_checkIndex_0 6 rfl rfl)
def fJ23_checkIndex (e : Nat → Nat) (N : Nat) (m : Mm) (v0 : Int32) (v1 : Int32) : Rs (Int32) := bd_ (fJ18_checkIndex e N m v0 v1 none) (fun x1 m1 => rt_ x1 m1)
abbrev cJ2_elementData : ByteArray := prog_59_method_18_code
def yJ2_elementData : MethodName := ⟨RJ2, "elementData", "(I)Ljava/lang/Object;"⟩
def dkwJ2_elementData_0 : List UInt8 := [42, 180, 0, 9, 27, 50, 176]
abbrev dktJ2_elementData_0 : List UInt8 := dkwJ2_elementData_0 ++ []
theorem dksJ2_elementData_0 : cJ2_elementData.data.toList.drop 0 = dktJ2_elementData_0 := by decide +kernel
theorem dJ2_elementData_0 : decode cJ2_elementData 0 = .ok (.aload_n 0, 1) := dk_42 (dk_at dksJ2_elementData_0 0 rfl rfl)
theorem dJ2_elementData_1 : decode cJ2_elementData 1 = .ok (.getfield 9, 3) := dk_180 0 9 (dk_at dksJ2_elementData_0 1 rfl rfl)
theorem dJ2_elementData_4 : decode cJ2_elementData 4 = .ok (.iload_n 1, 1) := dk_27 (dk_at dksJ2_elementData_0 4 rfl rfl)
theorem dJ2_elementData_5 : decode cJ2_elementData 5 = .ok (.aaload, 1) := dk_50 (dk_at dksJ2_elementData_0 5 rfl rfl)
theorem dJ2_elementData_6 : decode cJ2_elementData 6 = .ok (.areturn, 1) := dk_176 (dk_at dksJ2_elementData_0 6 rfl rfl)
def fJ2_elementData (e : Nat → Nat) (N : Nat) (m : Mm) (v0 : Option Nat) (v1 : Int32) : Rs (Option Nat) := gr_ m v0 13 1 (fun x1 => ar_ m x1 204 v1 (fun x2 => rt_ x2 m))
abbrev cJ2_get : ByteArray := prog_59_method_20_code
def yJ2_get : MethodName := ⟨RJ2, "get", "(I)Ljava/lang/Object;"⟩
def dkwJ2_get_0 : List UInt8 := [27, 42, 180, 0, 48, 184, 0, 118, 87, 42, 27, 182, 0, 123, 176]
abbrev dktJ2_get_0 : List UInt8 := dkwJ2_get_0 ++ []
theorem dksJ2_get_0 : cJ2_get.data.toList.drop 0 = dktJ2_get_0 := by decide +kernel
theorem dJ2_get_0 : decode cJ2_get 0 = .ok (.iload_n 1, 1) := dk_27 (dk_at dksJ2_get_0 0 rfl rfl)
theorem dJ2_get_1 : decode cJ2_get 1 = .ok (.aload_n 0, 1) := dk_42 (dk_at dksJ2_get_0 1 rfl rfl)
theorem dJ2_get_2 : decode cJ2_get 2 = .ok (.getfield 48, 3) := dk_180 0 48 (dk_at dksJ2_get_0 2 rfl rfl)
theorem dJ2_get_5 : decode cJ2_get 5 = .ok (.invokestatic 118, 3) := dk_184 0 118 (dk_at dksJ2_get_0 5 rfl rfl)
theorem dJ2_get_8 : decode cJ2_get 8 = .ok (.pop, 1) := dk_87 (dk_at dksJ2_get_0 8 rfl rfl)
theorem dJ2_get_9 : decode cJ2_get 9 = .ok (.aload_n 0, 1) := dk_42 (dk_at dksJ2_get_0 9 rfl rfl)
theorem dJ2_get_10 : decode cJ2_get 10 = .ok (.iload_n 1, 1) := dk_27 (dk_at dksJ2_get_0 10 rfl rfl)
theorem dJ2_get_11 : decode cJ2_get 11 = .ok (.invokevirtual 123, 3) := dk_182 0 123 (dk_at dksJ2_get_0 11 rfl rfl)
theorem dJ2_get_14 : decode cJ2_get 14 = .ok (.areturn, 1) := dk_176 (dk_at dksJ2_get_0 14 rfl rfl)
def fJ2_get (e : Nat → Nat) (N : Nat) (m : Mm) (v0 : Option Nat) (v1 : Int32) : Rs (Option Nat) := gi_ m v0 13 2 (fun x1 => bd_ (fJ23_checkIndex e N m v1 x1) (fun x2 m1 => ck_ m1 v0 13 (bd_ (fJ2_elementData e N m1 v0 v1) (fun x3 m2 => rt_ x3 m2))))
abbrev cX1_klassAt : ByteArray := prog_1_method_10_code
def yX1_klassAt : MethodName := ⟨RX1, "klassAt", "(I)LMasterTree$Klass;"⟩
def dkwX1_klassAt_1 : List UInt8 := [192, 0, 147, 176]
abbrev dktX1_klassAt_1 : List UInt8 := dkwX1_klassAt_1 ++ []
def dkwX1_klassAt_0 : List UInt8 := [42, 180, 0, 57, 27, 42, 180, 0, 57, 185, 0, 137, 1, 0, 18, 145, 184, 0, 109, 185, 0, 113, 2, 0]
abbrev dktX1_klassAt_0 : List UInt8 := dkwX1_klassAt_0 ++ dktX1_klassAt_1
theorem dksX1_klassAt_0 : cX1_klassAt.data.toList.drop 0 = dktX1_klassAt_0 := by decide +kernel
theorem dksX1_klassAt_1 : cX1_klassAt.data.toList.drop 24 = dktX1_klassAt_1 := dk_seg dksX1_klassAt_0 24 rfl rfl
theorem dX1_klassAt_0 : decode cX1_klassAt 0 = .ok (.aload_n 0, 1) := dk_42 (dk_at dksX1_klassAt_0 0 rfl rfl)
theorem dX1_klassAt_1 : decode cX1_klassAt 1 = .ok (.getfield 57, 3) := dk_180 0 57 (dk_at dksX1_klassAt_0 1 rfl rfl)
theorem dX1_klassAt_4 : decode cX1_klassAt 4 = .ok (.iload_n 1, 1) := dk_27 (dk_at dksX1_klassAt_0 4 rfl rfl)
theorem dX1_klassAt_5 : decode cX1_klassAt 5 = .ok (.aload_n 0, 1) := dk_42 (dk_at dksX1_klassAt_0 5 rfl rfl)
theorem dX1_klassAt_6 : decode cX1_klassAt 6 = .ok (.getfield 57, 3) := dk_180 0 57 (dk_at dksX1_klassAt_0 6 rfl rfl)
theorem dX1_klassAt_9 : decode cX1_klassAt 9 = .ok (.invokeinterface 137 1, 5) := by decide +kernel
theorem dX1_klassAt_14 : decode cX1_klassAt 14 = .ok (.ldc 145, 2) := dk_18 145 (dk_at dksX1_klassAt_0 14 rfl rfl)
theorem dX1_klassAt_16 : decode cX1_klassAt 16 = .ok (.invokestatic 109, 3) := dk_184 0 109 (dk_at dksX1_klassAt_0 16 rfl rfl)
theorem dX1_klassAt_19 : decode cX1_klassAt 19 = .ok (.invokeinterface 113 2, 5) := by decide +kernel
theorem dX1_klassAt_24 : decode cX1_klassAt 24 = .ok (.checkcast 147, 3) := dk_192 0 147 (dk_at dksX1_klassAt_1 0 rfl rfl)
theorem dX1_klassAt_27 : decode cX1_klassAt 27 = .ok (.areturn, 1) := dk_176 (dk_at dksX1_klassAt_1 3 rfl rfl)
def fX1_klassAt (e : Nat → Nat) (N : Nat) (m : Mm) (v0 : Option Nat) (v1 : Int32) : Rs ((Option Nat) ⊕ Nat) := gr_ m v0 1 1 (fun x1 => gr_ m v0 1 1 (fun x2 => ck_ m x2 13 (bd_ (fJ2_size e N m x2) (fun x3 m1 => bd_ (fX1_place e N m1 v1 x3 (some (e (100 + 1)))) (xf_ (fun x4 m2 => ck_ m2 x1 13 (bd_ (fJ2_get e N m2 x1 x4) (fun x5 m3 => cc_ m3 x5 [6] (rt_ (.inl x5) m3)))))))))
abbrev cX1_objectClass : ByteArray := prog_1_method_15_code
def yX1_objectClass : MethodName := ⟨RX1, "objectClass", "(III)I"⟩
def dkwX1_objectClass_4 : List UInt8 := [185, 0, 137, 1, 0, 4, 100, 172]
abbrev dktX1_objectClass_4 : List UInt8 := dkwX1_objectClass_4 ++ []
def dkwX1_objectClass_3 : List UInt8 := [187, 0, 147, 89, 25, 4, 28, 29, 183, 0, 180, 185, 0, 80, 2, 0, 87, 42, 180, 0, 57]
abbrev dktX1_objectClass_3 : List UInt8 := dkwX1_objectClass_3 ++ dktX1_objectClass_4
def dkwX1_objectClass_2 : List UInt8 := [185, 0, 137, 1, 0, 16, 8, 162, 0, 7, 4, 167, 0, 4, 3, 18, 178, 184, 0, 165, 42, 180, 0, 57]
abbrev dktX1_objectClass_2 : List UInt8 := dkwX1_objectClass_2 ++ dktX1_objectClass_3
def dkwX1_objectClass_1 : List UInt8 := [185, 0, 137, 1, 0, 122, 153, 0, 13, 187, 0, 84, 89, 18, 176, 183, 0, 104, 191, 42, 180, 0, 57]
abbrev dktX1_objectClass_1 : List UInt8 := dkwX1_objectClass_1 ++ dktX1_objectClass_2
def dkwX1_objectClass_0 : List UInt8 := [27, 2, 160, 0, 7, 1, 167, 0, 8, 42, 27, 182, 0, 172, 58, 4, 28, 29, 128, 42, 180, 0, 53]
abbrev dktX1_objectClass_0 : List UInt8 := dkwX1_objectClass_0 ++ dktX1_objectClass_1
theorem dksX1_objectClass_0 : cX1_objectClass.data.toList.drop 0 = dktX1_objectClass_0 := by decide +kernel
theorem dksX1_objectClass_1 : cX1_objectClass.data.toList.drop 23 = dktX1_objectClass_1 := dk_seg dksX1_objectClass_0 23 rfl rfl
theorem dksX1_objectClass_2 : cX1_objectClass.data.toList.drop 46 = dktX1_objectClass_2 := dk_seg dksX1_objectClass_1 23 rfl rfl
theorem dksX1_objectClass_3 : cX1_objectClass.data.toList.drop 70 = dktX1_objectClass_3 := dk_seg dksX1_objectClass_2 24 rfl rfl
theorem dksX1_objectClass_4 : cX1_objectClass.data.toList.drop 91 = dktX1_objectClass_4 := dk_seg dksX1_objectClass_3 21 rfl rfl
theorem dX1_objectClass_0 : decode cX1_objectClass 0 = .ok (.iload_n 1, 1) := dk_27 (dk_at dksX1_objectClass_0 0 rfl rfl)
theorem dX1_objectClass_1 : decode cX1_objectClass 1 = .ok (.iconst (-1), 1) := dk_2 (dk_at dksX1_objectClass_0 1 rfl rfl)
theorem dX1_objectClass_2 : decode cX1_objectClass 2 = .ok (.if_icmp .ne 7, 3) := dk_160 0 7 (dk_at dksX1_objectClass_0 2 rfl rfl)
theorem dX1_objectClass_5 : decode cX1_objectClass 5 = .ok (.aconst_null, 1) := dk_1 (dk_at dksX1_objectClass_0 5 rfl rfl)
theorem dX1_objectClass_6 : decode cX1_objectClass 6 = .ok (.goto 8, 3) := dk_167 0 8 (dk_at dksX1_objectClass_0 6 rfl rfl)
theorem dX1_objectClass_9 : decode cX1_objectClass 9 = .ok (.aload_n 0, 1) := dk_42 (dk_at dksX1_objectClass_0 9 rfl rfl)
theorem dX1_objectClass_10 : decode cX1_objectClass 10 = .ok (.iload_n 1, 1) := dk_27 (dk_at dksX1_objectClass_0 10 rfl rfl)
theorem dX1_objectClass_11 : decode cX1_objectClass 11 = .ok (.invokevirtual 172, 3) := dk_182 0 172 (dk_at dksX1_objectClass_0 11 rfl rfl)
theorem dX1_objectClass_14 : decode cX1_objectClass 14 = .ok (.astore 4, 2) := dk_58 4 (dk_at dksX1_objectClass_0 14 rfl rfl)
theorem dX1_objectClass_16 : decode cX1_objectClass 16 = .ok (.iload_n 2, 1) := dk_28 (dk_at dksX1_objectClass_0 16 rfl rfl)
theorem dX1_objectClass_17 : decode cX1_objectClass 17 = .ok (.iload_n 3, 1) := dk_29 (dk_at dksX1_objectClass_0 17 rfl rfl)
theorem dX1_objectClass_18 : decode cX1_objectClass 18 = .ok (.ior, 1) := dk_128 (dk_at dksX1_objectClass_0 18 rfl rfl)
theorem dX1_objectClass_19 : decode cX1_objectClass 19 = .ok (.aload_n 0, 1) := dk_42 (dk_at dksX1_objectClass_0 19 rfl rfl)
theorem dX1_objectClass_20 : decode cX1_objectClass 20 = .ok (.getfield 53, 3) := dk_180 0 53 (dk_at dksX1_objectClass_0 20 rfl rfl)
theorem dX1_objectClass_23 : decode cX1_objectClass 23 = .ok (.invokeinterface 137 1, 5) := by decide +kernel
theorem dX1_objectClass_28 : decode cX1_objectClass 28 = .ok (.ishr, 1) := dk_122 (dk_at dksX1_objectClass_1 5 rfl rfl)
theorem dX1_objectClass_29 : decode cX1_objectClass 29 = .ok (.ifCond .eq 13, 3) := dk_153 0 13 (dk_at dksX1_objectClass_1 6 rfl rfl)
theorem dX1_objectClass_32 : decode cX1_objectClass 32 = .ok (.new 84, 3) := dk_187 0 84 (dk_at dksX1_objectClass_1 9 rfl rfl)
theorem dX1_objectClass_35 : decode cX1_objectClass 35 = .ok (.dup, 1) := dk_89 (dk_at dksX1_objectClass_1 12 rfl rfl)
theorem dX1_objectClass_36 : decode cX1_objectClass 36 = .ok (.ldc 176, 2) := dk_18 176 (dk_at dksX1_objectClass_1 13 rfl rfl)
theorem dX1_objectClass_38 : decode cX1_objectClass 38 = .ok (.invokespecial 104, 3) := dk_183 0 104 (dk_at dksX1_objectClass_1 15 rfl rfl)
theorem dX1_objectClass_41 : decode cX1_objectClass 41 = .ok (.athrow, 1) := dk_191 (dk_at dksX1_objectClass_1 18 rfl rfl)
theorem dX1_objectClass_42 : decode cX1_objectClass 42 = .ok (.aload_n 0, 1) := dk_42 (dk_at dksX1_objectClass_1 19 rfl rfl)
theorem dX1_objectClass_43 : decode cX1_objectClass 43 = .ok (.getfield 57, 3) := dk_180 0 57 (dk_at dksX1_objectClass_1 20 rfl rfl)
theorem dX1_objectClass_46 : decode cX1_objectClass 46 = .ok (.invokeinterface 137 1, 5) := by decide +kernel
theorem dX1_objectClass_51 : decode cX1_objectClass 51 = .ok (.bipush 8, 2) := dk_16 8 (dk_at dksX1_objectClass_2 5 rfl rfl)
theorem dX1_objectClass_53 : decode cX1_objectClass 53 = .ok (.if_icmp .ge 7, 3) := dk_162 0 7 (dk_at dksX1_objectClass_2 7 rfl rfl)
theorem dX1_objectClass_56 : decode cX1_objectClass 56 = .ok (.iconst 1, 1) := dk_4 (dk_at dksX1_objectClass_2 10 rfl rfl)
theorem dX1_objectClass_57 : decode cX1_objectClass 57 = .ok (.goto 4, 3) := dk_167 0 4 (dk_at dksX1_objectClass_2 11 rfl rfl)
theorem dX1_objectClass_60 : decode cX1_objectClass 60 = .ok (.iconst 0, 1) := dk_3 (dk_at dksX1_objectClass_2 14 rfl rfl)
theorem dX1_objectClass_61 : decode cX1_objectClass 61 = .ok (.ldc 178, 2) := dk_18 178 (dk_at dksX1_objectClass_2 15 rfl rfl)
theorem dX1_objectClass_63 : decode cX1_objectClass 63 = .ok (.invokestatic 165, 3) := dk_184 0 165 (dk_at dksX1_objectClass_2 17 rfl rfl)
theorem dX1_objectClass_66 : decode cX1_objectClass 66 = .ok (.aload_n 0, 1) := dk_42 (dk_at dksX1_objectClass_2 20 rfl rfl)
theorem dX1_objectClass_67 : decode cX1_objectClass 67 = .ok (.getfield 57, 3) := dk_180 0 57 (dk_at dksX1_objectClass_2 21 rfl rfl)
theorem dX1_objectClass_70 : decode cX1_objectClass 70 = .ok (.new 147, 3) := dk_187 0 147 (dk_at dksX1_objectClass_3 0 rfl rfl)
theorem dX1_objectClass_73 : decode cX1_objectClass 73 = .ok (.dup, 1) := dk_89 (dk_at dksX1_objectClass_3 3 rfl rfl)
theorem dX1_objectClass_74 : decode cX1_objectClass 74 = .ok (.aload 4, 2) := dk_25 4 (dk_at dksX1_objectClass_3 4 rfl rfl)
theorem dX1_objectClass_76 : decode cX1_objectClass 76 = .ok (.iload_n 2, 1) := dk_28 (dk_at dksX1_objectClass_3 6 rfl rfl)
theorem dX1_objectClass_77 : decode cX1_objectClass 77 = .ok (.iload_n 3, 1) := dk_29 (dk_at dksX1_objectClass_3 7 rfl rfl)
theorem dX1_objectClass_78 : decode cX1_objectClass 78 = .ok (.invokespecial 180, 3) := dk_183 0 180 (dk_at dksX1_objectClass_3 8 rfl rfl)
theorem dX1_objectClass_81 : decode cX1_objectClass 81 = .ok (.invokeinterface 80 2, 5) := by decide +kernel
theorem dX1_objectClass_86 : decode cX1_objectClass 86 = .ok (.pop, 1) := dk_87 (dk_at dksX1_objectClass_3 16 rfl rfl)
theorem dX1_objectClass_87 : decode cX1_objectClass 87 = .ok (.aload_n 0, 1) := dk_42 (dk_at dksX1_objectClass_3 17 rfl rfl)
theorem dX1_objectClass_88 : decode cX1_objectClass 88 = .ok (.getfield 57, 3) := dk_180 0 57 (dk_at dksX1_objectClass_3 18 rfl rfl)
theorem dX1_objectClass_91 : decode cX1_objectClass 91 = .ok (.invokeinterface 137 1, 5) := by decide +kernel
theorem dX1_objectClass_96 : decode cX1_objectClass 96 = .ok (.iconst 1, 1) := dk_4 (dk_at dksX1_objectClass_4 5 rfl rfl)
theorem dX1_objectClass_97 : decode cX1_objectClass 97 = .ok (.isub, 1) := dk_100 (dk_at dksX1_objectClass_4 6 rfl rfl)
theorem dX1_objectClass_98 : decode cX1_objectClass 98 = .ok (.ireturn, 1) := dk_172 (dk_at dksX1_objectClass_4 7 rfl rfl)
def fX1_objectClass_b61 (e : Nat → Nat) (N : Nat) (m : Mm) (v0 : Option Nat) (v2 : Int32) (v3 : Int32) (v4 : Option Nat) (s0 : Int32) : Rs (Int32 ⊕ Nat) := bd_ (fX1_must e N m s0 (some (e (100 + 6)))) (xf_ (fun _ m1 => gr_ m1 v0 1 1 (fun x1 => nw_ m1 6 3 (fun x2 m2 => bd_ (fX6_init e N m2 (some x2) v4 v2 v3) (fun _ m3 => ck_ m3 x1 13 (bd_ (fJ2_add e N m3 x1 (some x2)) (fun x3 m4 => gr_ m4 v0 1 1 (fun x4 => ck_ m4 x4 13 (bd_ (fJ2_size e N m4 x4) (fun x5 m5 => rt_ (.inl (x5 - 1)) m5))))))))))
def fX1_objectClass_b14 (e : Nat → Nat) (N : Nat) (m : Mm) (v0 : Option Nat) (v2 : Int32) (v3 : Int32) (s0 : Option Nat) : Rs (Int32 ⊕ Nat) := gr_ m v0 1 0 (fun x1 => ck_ m x1 13 (bd_ (fJ2_size e N m x1) (fun x2 m1 => if ((v2 ||| v3) >>> (x2 &&& 31)) = 0 then (gr_ m1 v0 1 1 (fun x3 => ck_ m1 x3 13 (bd_ (fJ2_size e N m1 x3) (fun x4 m2 => if x4 < 8 then (fX1_objectClass_b61 e N m2 v0 v2 v3 s0 1) else (fX1_objectClass_b61 e N m2 v0 v2 v3 s0 0))))) else (nx_ m1 0 (fun x5 m3 => xi_ m3 x5 0 (fun m4 => at_ m4 (some x5) 0 (.inr 0)))))))
def fX1_objectClass (e : Nat → Nat) (N : Nat) (m : Mm) (v0 : Option Nat) (v1 : Int32) (v2 : Int32) (v3 : Int32) : Rs (Int32 ⊕ Nat) := if v1 = (-1) then (fX1_objectClass_b14 e N m v0 v2 v3 none) else (ck_ m v0 1 (bd_ (fX1_klassAt e N m v0 v1) (xf_ (fun x1 m1 => fX1_objectClass_b14 e N m1 v0 v2 v3 x1))))
abbrev cX0_objectClass : ByteArray := method_4_code
def yX0_objectClass : MethodName := ⟨RX0, "objectClass", "(LMasterTree;III[J)I"⟩
def dkwX0_objectClass_1 : List UInt8 := [172]
abbrev dktX0_objectClass_1 : List UInt8 := dkwX0_objectClass_1 ++ []
def dkwX0_objectClass_0 : List UInt8 := [25, 4, 3, 42, 27, 28, 29, 182, 0, 15, 133, 80, 167, 0, 11, 58, 5, 4, 172, 58, 5, 5, 172, 3]
abbrev dktX0_objectClass_0 : List UInt8 := dkwX0_objectClass_0 ++ dktX0_objectClass_1
theorem dksX0_objectClass_0 : cX0_objectClass.data.toList.drop 0 = dktX0_objectClass_0 := by decide +kernel
theorem dksX0_objectClass_1 : cX0_objectClass.data.toList.drop 24 = dktX0_objectClass_1 := dk_seg dksX0_objectClass_0 24 rfl rfl
theorem dX0_objectClass_0 : decode cX0_objectClass 0 = .ok (.aload 4, 2) := dk_25 4 (dk_at dksX0_objectClass_0 0 rfl rfl)
theorem dX0_objectClass_2 : decode cX0_objectClass 2 = .ok (.iconst 0, 1) := dk_3 (dk_at dksX0_objectClass_0 2 rfl rfl)
theorem dX0_objectClass_3 : decode cX0_objectClass 3 = .ok (.aload_n 0, 1) := dk_42 (dk_at dksX0_objectClass_0 3 rfl rfl)
theorem dX0_objectClass_4 : decode cX0_objectClass 4 = .ok (.iload_n 1, 1) := dk_27 (dk_at dksX0_objectClass_0 4 rfl rfl)
theorem dX0_objectClass_5 : decode cX0_objectClass 5 = .ok (.iload_n 2, 1) := dk_28 (dk_at dksX0_objectClass_0 5 rfl rfl)
theorem dX0_objectClass_6 : decode cX0_objectClass 6 = .ok (.iload_n 3, 1) := dk_29 (dk_at dksX0_objectClass_0 6 rfl rfl)
theorem dX0_objectClass_7 : decode cX0_objectClass 7 = .ok (.invokevirtual 15, 3) := dk_182 0 15 (dk_at dksX0_objectClass_0 7 rfl rfl)
theorem dX0_objectClass_10 : decode cX0_objectClass 10 = .ok (.i2l, 1) := dk_133 (dk_at dksX0_objectClass_0 10 rfl rfl)
theorem dX0_objectClass_11 : decode cX0_objectClass 11 = .ok (.lastore, 1) := dk_80 (dk_at dksX0_objectClass_0 11 rfl rfl)
theorem dX0_objectClass_12 : decode cX0_objectClass 12 = .ok (.goto 11, 3) := dk_167 0 11 (dk_at dksX0_objectClass_0 12 rfl rfl)
theorem dX0_objectClass_15 : decode cX0_objectClass 15 = .ok (.astore 5, 2) := dk_58 5 (dk_at dksX0_objectClass_0 15 rfl rfl)
theorem dX0_objectClass_17 : decode cX0_objectClass 17 = .ok (.iconst 1, 1) := dk_4 (dk_at dksX0_objectClass_0 17 rfl rfl)
theorem dX0_objectClass_18 : decode cX0_objectClass 18 = .ok (.ireturn, 1) := dk_172 (dk_at dksX0_objectClass_0 18 rfl rfl)
theorem dX0_objectClass_19 : decode cX0_objectClass 19 = .ok (.astore 5, 2) := dk_58 5 (dk_at dksX0_objectClass_0 19 rfl rfl)
theorem dX0_objectClass_21 : decode cX0_objectClass 21 = .ok (.iconst 2, 1) := dk_5 (dk_at dksX0_objectClass_0 21 rfl rfl)
theorem dX0_objectClass_22 : decode cX0_objectClass 22 = .ok (.ireturn, 1) := dk_172 (dk_at dksX0_objectClass_0 22 rfl rfl)
theorem dX0_objectClass_23 : decode cX0_objectClass 23 = .ok (.iconst 0, 1) := dk_3 (dk_at dksX0_objectClass_0 23 rfl rfl)
theorem dX0_objectClass_24 : decode cX0_objectClass 24 = .ok (.ireturn, 1) := dk_172 (dk_at dksX0_objectClass_1 0 rfl rfl)
def fX0_objectClass (e : Nat → Nat) (N : Nat) (m : Mm) (v0 : Option Nat) (v1 : Int32) (v2 : Int32) (v3 : Int32) (v4 : Option Nat) : Rs (Int32) := ck_ m v0 1 (bd_ (fX1_objectClass e N m v0 v1 v2 v3) (ch_ (fun x1 m1 => bj_ m1 v4 203 0 ((x1 : Int32).toInt64) (fun m2 => rt_ 0 m2)) (fun i_ m0 => if i_ = 0 then rt_ 1 m0 else if i_ = 2 then rt_ 2 m0 else none)))
abbrev cX1_at : ByteArray := prog_1_method_6_code
def yX1_at : MethodName := ⟨RX1, "at", "(I)LMasterTree$Master;"⟩
def dkwX1_at_0 : List UInt8 := [42, 180, 0, 60, 27, 7, 18, 107, 184, 0, 109, 185, 0, 113, 2, 0, 192, 0, 75, 176]
abbrev dktX1_at_0 : List UInt8 := dkwX1_at_0 ++ []
theorem dksX1_at_0 : cX1_at.data.toList.drop 0 = dktX1_at_0 := by decide +kernel
theorem dX1_at_0 : decode cX1_at 0 = .ok (.aload_n 0, 1) := dk_42 (dk_at dksX1_at_0 0 rfl rfl)
theorem dX1_at_1 : decode cX1_at 1 = .ok (.getfield 60, 3) := dk_180 0 60 (dk_at dksX1_at_0 1 rfl rfl)
theorem dX1_at_4 : decode cX1_at 4 = .ok (.iload_n 1, 1) := dk_27 (dk_at dksX1_at_0 4 rfl rfl)
theorem dX1_at_5 : decode cX1_at 5 = .ok (.iconst 4, 1) := dk_7 (dk_at dksX1_at_0 5 rfl rfl)
theorem dX1_at_6 : decode cX1_at 6 = .ok (.ldc 107, 2) := dk_18 107 (dk_at dksX1_at_0 6 rfl rfl)
theorem dX1_at_8 : decode cX1_at 8 = .ok (.invokestatic 109, 3) := dk_184 0 109 (dk_at dksX1_at_0 8 rfl rfl)
theorem dX1_at_11 : decode cX1_at 11 = .ok (.invokeinterface 113 2, 5) := by decide +kernel
theorem dX1_at_16 : decode cX1_at 16 = .ok (.checkcast 75, 3) := dk_192 0 75 (dk_at dksX1_at_0 16 rfl rfl)
theorem dX1_at_19 : decode cX1_at 19 = .ok (.areturn, 1) := dk_176 (dk_at dksX1_at_0 19 rfl rfl)
def fX1_at (e : Nat → Nat) (N : Nat) (m : Mm) (v0 : Option Nat) (v1 : Int32) : Rs ((Option Nat) ⊕ Nat) := gr_ m v0 1 2 (fun x1 => bd_ (fX1_place e N m v1 4 (some (e (100 + 7)))) (xf_ (fun x2 m1 => ck_ m1 x1 13 (bd_ (fJ2_get e N m1 x1 x2) (fun x3 m2 => cc_ m2 x3 [2] (rt_ (.inl x3) m2))))))
abbrev cX1_serve : ByteArray := prog_1_method_16_code
def yX1_serve : MethodName := ⟨RX1, "serve", "(II)I"⟩
def dkwX1_serve_1 : List UInt8 := [181, 0, 189, 21, 4, 172]
abbrev dktX1_serve_1 : List UInt8 := dkwX1_serve_1 ++ []
def dkwX1_serve_0 : List UInt8 := [42, 27, 182, 0, 183, 78, 28, 16, 6, 18, 187, 184, 0, 109, 87, 45, 180, 0, 189, 54, 4, 45, 28]
abbrev dktX1_serve_0 : List UInt8 := dkwX1_serve_0 ++ dktX1_serve_1
theorem dksX1_serve_0 : cX1_serve.data.toList.drop 0 = dktX1_serve_0 := by decide +kernel
theorem dksX1_serve_1 : cX1_serve.data.toList.drop 23 = dktX1_serve_1 := dk_seg dksX1_serve_0 23 rfl rfl
theorem dX1_serve_0 : decode cX1_serve 0 = .ok (.aload_n 0, 1) := dk_42 (dk_at dksX1_serve_0 0 rfl rfl)
theorem dX1_serve_1 : decode cX1_serve 1 = .ok (.iload_n 1, 1) := dk_27 (dk_at dksX1_serve_0 1 rfl rfl)
theorem dX1_serve_2 : decode cX1_serve 2 = .ok (.invokevirtual 183, 3) := dk_182 0 183 (dk_at dksX1_serve_0 2 rfl rfl)
theorem dX1_serve_5 : decode cX1_serve 5 = .ok (.astore_n 3, 1) := dk_78 (dk_at dksX1_serve_0 5 rfl rfl)
theorem dX1_serve_6 : decode cX1_serve 6 = .ok (.iload_n 2, 1) := dk_28 (dk_at dksX1_serve_0 6 rfl rfl)
theorem dX1_serve_7 : decode cX1_serve 7 = .ok (.bipush 6, 2) := dk_16 6 (dk_at dksX1_serve_0 7 rfl rfl)
theorem dX1_serve_9 : decode cX1_serve 9 = .ok (.ldc 187, 2) := dk_18 187 (dk_at dksX1_serve_0 9 rfl rfl)
theorem dX1_serve_11 : decode cX1_serve 11 = .ok (.invokestatic 109, 3) := dk_184 0 109 (dk_at dksX1_serve_0 11 rfl rfl)
theorem dX1_serve_14 : decode cX1_serve 14 = .ok (.pop, 1) := dk_87 (dk_at dksX1_serve_0 14 rfl rfl)
theorem dX1_serve_15 : decode cX1_serve 15 = .ok (.aload_n 3, 1) := dk_45 (dk_at dksX1_serve_0 15 rfl rfl)
theorem dX1_serve_16 : decode cX1_serve 16 = .ok (.getfield 189, 3) := dk_180 0 189 (dk_at dksX1_serve_0 16 rfl rfl)
theorem dX1_serve_19 : decode cX1_serve 19 = .ok (.istore 4, 2) := dk_54 4 (dk_at dksX1_serve_0 19 rfl rfl)
theorem dX1_serve_21 : decode cX1_serve 21 = .ok (.aload_n 3, 1) := dk_45 (dk_at dksX1_serve_0 21 rfl rfl)
theorem dX1_serve_22 : decode cX1_serve 22 = .ok (.iload_n 2, 1) := dk_28 (dk_at dksX1_serve_0 22 rfl rfl)
theorem dX1_serve_23 : decode cX1_serve 23 = .ok (.putfield 189, 3) := dk_181 0 189 (dk_at dksX1_serve_1 0 rfl rfl)
theorem dX1_serve_26 : decode cX1_serve 26 = .ok (.iload 4, 2) := dk_21 4 (dk_at dksX1_serve_1 3 rfl rfl)
theorem dX1_serve_28 : decode cX1_serve 28 = .ok (.ireturn, 1) := dk_172 (dk_at dksX1_serve_1 5 rfl rfl)
def fX1_serve (e : Nat → Nat) (N : Nat) (m : Mm) (v0 : Option Nat) (v1 : Int32) (v2 : Int32) : Rs (Int32 ⊕ Nat) := ck_ m v0 1 (bd_ (fX1_at e N m v0 v1) (xf_ (fun x1 m1 => bd_ (fX1_place e N m1 v2 6 (some (e (100 + 8)))) (xf_ (fun x2 m2 => gi_ m2 x1 2 3 (fun x3 => pi_ m2 x1 2 3 v2 (fun m3 => rt_ (.inl x3) m3)))))))
abbrev cX0_serve : ByteArray := method_5_code
def yX0_serve : MethodName := ⟨RX0, "serve", "(LMasterTree;II[J)I"⟩
def dkwX0_serve_0 : List UInt8 := [45, 3, 42, 27, 28, 182, 0, 21, 133, 80, 167, 0, 7, 58, 4, 4, 172, 3, 172]
abbrev dktX0_serve_0 : List UInt8 := dkwX0_serve_0 ++ []
theorem dksX0_serve_0 : cX0_serve.data.toList.drop 0 = dktX0_serve_0 := by decide +kernel
theorem dX0_serve_0 : decode cX0_serve 0 = .ok (.aload_n 3, 1) := dk_45 (dk_at dksX0_serve_0 0 rfl rfl)
theorem dX0_serve_1 : decode cX0_serve 1 = .ok (.iconst 0, 1) := dk_3 (dk_at dksX0_serve_0 1 rfl rfl)
theorem dX0_serve_2 : decode cX0_serve 2 = .ok (.aload_n 0, 1) := dk_42 (dk_at dksX0_serve_0 2 rfl rfl)
theorem dX0_serve_3 : decode cX0_serve 3 = .ok (.iload_n 1, 1) := dk_27 (dk_at dksX0_serve_0 3 rfl rfl)
theorem dX0_serve_4 : decode cX0_serve 4 = .ok (.iload_n 2, 1) := dk_28 (dk_at dksX0_serve_0 4 rfl rfl)
theorem dX0_serve_5 : decode cX0_serve 5 = .ok (.invokevirtual 21, 3) := dk_182 0 21 (dk_at dksX0_serve_0 5 rfl rfl)
theorem dX0_serve_8 : decode cX0_serve 8 = .ok (.i2l, 1) := dk_133 (dk_at dksX0_serve_0 8 rfl rfl)
theorem dX0_serve_9 : decode cX0_serve 9 = .ok (.lastore, 1) := dk_80 (dk_at dksX0_serve_0 9 rfl rfl)
theorem dX0_serve_10 : decode cX0_serve 10 = .ok (.goto 7, 3) := dk_167 0 7 (dk_at dksX0_serve_0 10 rfl rfl)
theorem dX0_serve_13 : decode cX0_serve 13 = .ok (.astore 4, 2) := dk_58 4 (dk_at dksX0_serve_0 13 rfl rfl)
theorem dX0_serve_15 : decode cX0_serve 15 = .ok (.iconst 1, 1) := dk_4 (dk_at dksX0_serve_0 15 rfl rfl)
theorem dX0_serve_16 : decode cX0_serve 16 = .ok (.ireturn, 1) := dk_172 (dk_at dksX0_serve_0 16 rfl rfl)
theorem dX0_serve_17 : decode cX0_serve 17 = .ok (.iconst 0, 1) := dk_3 (dk_at dksX0_serve_0 17 rfl rfl)
theorem dX0_serve_18 : decode cX0_serve 18 = .ok (.ireturn, 1) := dk_172 (dk_at dksX0_serve_0 18 rfl rfl)
def fX0_serve (e : Nat → Nat) (N : Nat) (m : Mm) (v0 : Option Nat) (v1 : Int32) (v2 : Int32) (v3 : Option Nat) : Rs (Int32) := ck_ m v0 1 (bd_ (fX1_serve e N m v0 v1 v2) (ch_ (fun x1 m1 => bj_ m1 v3 203 0 ((x1 : Int32).toInt64) (fun m2 => rt_ 0 m2)) (fun i_ m0 => if i_ = 0 then rt_ 1 m0 else none)))
abbrev cX1_attributeAt : ByteArray := prog_1_method_9_code
def yX1_attributeAt : MethodName := ⟨RX1, "attributeAt", "(I)LMasterTree$Attribute;"⟩
def dkwX1_attributeAt_1 : List UInt8 := [192, 0, 143, 176]
abbrev dktX1_attributeAt_1 : List UInt8 := dkwX1_attributeAt_1 ++ []
def dkwX1_attributeAt_0 : List UInt8 := [42, 180, 0, 53, 27, 42, 180, 0, 53, 185, 0, 137, 1, 0, 18, 141, 184, 0, 109, 185, 0, 113, 2, 0]
abbrev dktX1_attributeAt_0 : List UInt8 := dkwX1_attributeAt_0 ++ dktX1_attributeAt_1
theorem dksX1_attributeAt_0 : cX1_attributeAt.data.toList.drop 0 = dktX1_attributeAt_0 := by decide +kernel
theorem dksX1_attributeAt_1 : cX1_attributeAt.data.toList.drop 24 = dktX1_attributeAt_1 := dk_seg dksX1_attributeAt_0 24 rfl rfl
theorem dX1_attributeAt_0 : decode cX1_attributeAt 0 = .ok (.aload_n 0, 1) := dk_42 (dk_at dksX1_attributeAt_0 0 rfl rfl)
theorem dX1_attributeAt_1 : decode cX1_attributeAt 1 = .ok (.getfield 53, 3) := dk_180 0 53 (dk_at dksX1_attributeAt_0 1 rfl rfl)
theorem dX1_attributeAt_4 : decode cX1_attributeAt 4 = .ok (.iload_n 1, 1) := dk_27 (dk_at dksX1_attributeAt_0 4 rfl rfl)
theorem dX1_attributeAt_5 : decode cX1_attributeAt 5 = .ok (.aload_n 0, 1) := dk_42 (dk_at dksX1_attributeAt_0 5 rfl rfl)
theorem dX1_attributeAt_6 : decode cX1_attributeAt 6 = .ok (.getfield 53, 3) := dk_180 0 53 (dk_at dksX1_attributeAt_0 6 rfl rfl)
theorem dX1_attributeAt_9 : decode cX1_attributeAt 9 = .ok (.invokeinterface 137 1, 5) := by decide +kernel
theorem dX1_attributeAt_14 : decode cX1_attributeAt 14 = .ok (.ldc 141, 2) := dk_18 141 (dk_at dksX1_attributeAt_0 14 rfl rfl)
theorem dX1_attributeAt_16 : decode cX1_attributeAt 16 = .ok (.invokestatic 109, 3) := dk_184 0 109 (dk_at dksX1_attributeAt_0 16 rfl rfl)
theorem dX1_attributeAt_19 : decode cX1_attributeAt 19 = .ok (.invokeinterface 113 2, 5) := by decide +kernel
theorem dX1_attributeAt_24 : decode cX1_attributeAt 24 = .ok (.checkcast 143, 3) := dk_192 0 143 (dk_at dksX1_attributeAt_1 0 rfl rfl)
theorem dX1_attributeAt_27 : decode cX1_attributeAt 27 = .ok (.areturn, 1) := dk_176 (dk_at dksX1_attributeAt_1 3 rfl rfl)
def fX1_attributeAt (e : Nat → Nat) (N : Nat) (m : Mm) (v0 : Option Nat) (v1 : Int32) : Rs ((Option Nat) ⊕ Nat) := gr_ m v0 1 0 (fun x1 => gr_ m v0 1 0 (fun x2 => ck_ m x2 13 (bd_ (fJ2_size e N m x2) (fun x3 m1 => bd_ (fX1_place e N m1 v1 x3 (some (e (100 + 9)))) (xf_ (fun x4 m2 => ck_ m2 x1 13 (bd_ (fJ2_get e N m2 x1 x4) (fun x5 m3 => cc_ m3 x5 [5] (rt_ (.inl x5) m3)))))))))
abbrev cX1_isWithin : ByteArray := prog_1_method_11_code
def yX1_isWithin : MethodName := ⟨RX1, "isWithin", "(III)V"⟩
def dkwX1_isWithin_2 : List UInt8 := [183, 0, 155, 191, 177]
abbrev dktX1_isWithin_2 : List UInt8 := dkwX1_isWithin_2 ++ []
def dkwX1_isWithin_1 : List UInt8 := [182, 0, 97, 18, 151, 182, 0, 91, 27, 182, 0, 97, 18, 153, 182, 0, 91, 28, 182, 0, 97, 182, 0, 100]
abbrev dktX1_isWithin_1 : List UInt8 := dkwX1_isWithin_1 ++ dktX1_isWithin_2
def dkwX1_isWithin_0 : List UInt8 := [26, 27, 161, 0, 8, 26, 28, 164, 0, 43, 187, 0, 149, 89, 187, 0, 86, 89, 183, 0, 88, 26]
abbrev dktX1_isWithin_0 : List UInt8 := dkwX1_isWithin_0 ++ dktX1_isWithin_1
theorem dksX1_isWithin_0 : cX1_isWithin.data.toList.drop 0 = dktX1_isWithin_0 := by decide +kernel
theorem dksX1_isWithin_1 : cX1_isWithin.data.toList.drop 22 = dktX1_isWithin_1 := dk_seg dksX1_isWithin_0 22 rfl rfl
theorem dksX1_isWithin_2 : cX1_isWithin.data.toList.drop 46 = dktX1_isWithin_2 := dk_seg dksX1_isWithin_1 24 rfl rfl
theorem dX1_isWithin_0 : decode cX1_isWithin 0 = .ok (.iload_n 0, 1) := dk_26 (dk_at dksX1_isWithin_0 0 rfl rfl)
theorem dX1_isWithin_1 : decode cX1_isWithin 1 = .ok (.iload_n 1, 1) := dk_27 (dk_at dksX1_isWithin_0 1 rfl rfl)
theorem dX1_isWithin_2 : decode cX1_isWithin 2 = .ok (.if_icmp .lt 8, 3) := dk_161 0 8 (dk_at dksX1_isWithin_0 2 rfl rfl)
theorem dX1_isWithin_5 : decode cX1_isWithin 5 = .ok (.iload_n 0, 1) := dk_26 (dk_at dksX1_isWithin_0 5 rfl rfl)
theorem dX1_isWithin_6 : decode cX1_isWithin 6 = .ok (.iload_n 2, 1) := dk_28 (dk_at dksX1_isWithin_0 6 rfl rfl)
theorem dX1_isWithin_7 : decode cX1_isWithin 7 = .ok (.if_icmp .le 43, 3) := dk_164 0 43 (dk_at dksX1_isWithin_0 7 rfl rfl)
theorem dX1_isWithin_10 : decode cX1_isWithin 10 = .ok (.new 149, 3) := dk_187 0 149 (dk_at dksX1_isWithin_0 10 rfl rfl)
theorem dX1_isWithin_13 : decode cX1_isWithin 13 = .ok (.dup, 1) := dk_89 (dk_at dksX1_isWithin_0 13 rfl rfl)
theorem dX1_isWithin_14 : decode cX1_isWithin 14 = .ok (.new 86, 3) := dk_187 0 86 (dk_at dksX1_isWithin_0 14 rfl rfl)
theorem dX1_isWithin_17 : decode cX1_isWithin 17 = .ok (.dup, 1) := dk_89 (dk_at dksX1_isWithin_0 17 rfl rfl)
theorem dX1_isWithin_18 : decode cX1_isWithin 18 = .ok (.invokespecial 88, 3) := dk_183 0 88 (dk_at dksX1_isWithin_0 18 rfl rfl)
theorem dX1_isWithin_21 : decode cX1_isWithin 21 = .ok (.iload_n 0, 1) := dk_26 (dk_at dksX1_isWithin_0 21 rfl rfl)
theorem dX1_isWithin_22 : decode cX1_isWithin 22 = .ok (.invokevirtual 97, 3) := dk_182 0 97 (dk_at dksX1_isWithin_1 0 rfl rfl)
theorem dX1_isWithin_25 : decode cX1_isWithin 25 = .ok (.ldc 151, 2) := dk_18 151 (dk_at dksX1_isWithin_1 3 rfl rfl)
theorem dX1_isWithin_27 : decode cX1_isWithin 27 = .ok (.invokevirtual 91, 3) := dk_182 0 91 (dk_at dksX1_isWithin_1 5 rfl rfl)
theorem dX1_isWithin_30 : decode cX1_isWithin 30 = .ok (.iload_n 1, 1) := dk_27 (dk_at dksX1_isWithin_1 8 rfl rfl)
theorem dX1_isWithin_31 : decode cX1_isWithin 31 = .ok (.invokevirtual 97, 3) := dk_182 0 97 (dk_at dksX1_isWithin_1 9 rfl rfl)
theorem dX1_isWithin_34 : decode cX1_isWithin 34 = .ok (.ldc 153, 2) := dk_18 153 (dk_at dksX1_isWithin_1 12 rfl rfl)
theorem dX1_isWithin_36 : decode cX1_isWithin 36 = .ok (.invokevirtual 91, 3) := dk_182 0 91 (dk_at dksX1_isWithin_1 14 rfl rfl)
theorem dX1_isWithin_39 : decode cX1_isWithin 39 = .ok (.iload_n 2, 1) := dk_28 (dk_at dksX1_isWithin_1 17 rfl rfl)
theorem dX1_isWithin_40 : decode cX1_isWithin 40 = .ok (.invokevirtual 97, 3) := dk_182 0 97 (dk_at dksX1_isWithin_1 18 rfl rfl)
theorem dX1_isWithin_43 : decode cX1_isWithin 43 = .ok (.invokevirtual 100, 3) := dk_182 0 100 (dk_at dksX1_isWithin_1 21 rfl rfl)
theorem dX1_isWithin_46 : decode cX1_isWithin 46 = .ok (.invokespecial 155, 3) := dk_183 0 155 (dk_at dksX1_isWithin_2 0 rfl rfl)
theorem dX1_isWithin_49 : decode cX1_isWithin 49 = .ok (.athrow, 1) := dk_191 (dk_at dksX1_isWithin_2 3 rfl rfl)
theorem dX1_isWithin_50 : decode cX1_isWithin 50 = .ok (.return_, 1) := dk_177 (dk_at dksX1_isWithin_2 4 rfl rfl)
def fX1_isWithin_b10 (e : Nat → Nat) (N : Nat) (m : Mm) (v0 : Int32) (v1 : Int32) (v2 : Int32) : Rs (Unit ⊕ Nat) := nx_ m 1 (fun x1 m1 => nw_ m1 30 4 (fun x2 m2 => bd_ (fJ16_init e N m2 (some x2)) (fun _ m3 => ck_ m3 (some x2) 30 (bd_ (fJ16_append_2 e N m3 (some x2) v0) (fun x3 m4 => ck_ m4 x3 30 (bd_ (fJ16_append e N m4 x3 (some (e (100 + 10)))) (fun x4 m5 => ck_ m5 x4 30 (bd_ (fJ16_append_2 e N m5 x4 v1) (fun x5 m6 => ck_ m6 x5 30 (bd_ (fJ16_append e N m6 x5 (some (e (100 + 11)))) (fun x6 m7 => ck_ m7 x6 30 (bd_ (fJ16_append_2 e N m7 x6 v2) (fun x7 m8 => ck_ m8 x7 30 (bd_ (fJ16_toString e N m8 x7) (fun x8 m9 => xi_ m9 x1 1 (fun m10 => at_ m10 (some x1) 1 (.inr 1)))))))))))))))))
def fX1_isWithin (e : Nat → Nat) (N : Nat) (m : Mm) (v0 : Int32) (v1 : Int32) (v2 : Int32) : Rs (Unit ⊕ Nat) := if v0 < v1 then (fX1_isWithin_b10 e N m v0 v1 v2) else (if v2 < v0 then (fX1_isWithin_b10 e N m v0 v1 v2) else (rt_ (.inl ()) m))
abbrev cX1_draft : ByteArray := prog_1_method_17_code
def yX1_draft : MethodName := ⟨RX1, "draft", "(II)I"⟩
def dkwX1_draft_2 : List UInt8 := [27, 79, 89, 4, 28, 79, 185, 0, 80, 2, 0, 87, 42, 180, 0, 63, 185, 0, 137, 1, 0, 172]
abbrev dktX1_draft_2 : List UInt8 := dkwX1_draft_2 ++ []
def dkwX1_draft_1 : List UInt8 := [16, 12, 162, 0, 7, 4, 167, 0, 4, 3, 18, 199, 184, 0, 165, 42, 180, 0, 63, 5, 188, 10, 89, 3]
abbrev dktX1_draft_1 : List UInt8 := dkwX1_draft_1 ++ dktX1_draft_2
def dkwX1_draft_0 : List UInt8 := [42, 27, 182, 0, 191, 87, 28, 3, 17, 3, 231, 184, 0, 195, 42, 180, 0, 63, 185, 0, 137, 1, 0]
abbrev dktX1_draft_0 : List UInt8 := dkwX1_draft_0 ++ dktX1_draft_1
theorem dksX1_draft_0 : cX1_draft.data.toList.drop 0 = dktX1_draft_0 := by decide +kernel
theorem dksX1_draft_1 : cX1_draft.data.toList.drop 23 = dktX1_draft_1 := dk_seg dksX1_draft_0 23 rfl rfl
theorem dksX1_draft_2 : cX1_draft.data.toList.drop 47 = dktX1_draft_2 := dk_seg dksX1_draft_1 24 rfl rfl
theorem dX1_draft_0 : decode cX1_draft 0 = .ok (.aload_n 0, 1) := dk_42 (dk_at dksX1_draft_0 0 rfl rfl)
theorem dX1_draft_1 : decode cX1_draft 1 = .ok (.iload_n 1, 1) := dk_27 (dk_at dksX1_draft_0 1 rfl rfl)
theorem dX1_draft_2 : decode cX1_draft 2 = .ok (.invokevirtual 191, 3) := dk_182 0 191 (dk_at dksX1_draft_0 2 rfl rfl)
theorem dX1_draft_5 : decode cX1_draft 5 = .ok (.pop, 1) := dk_87 (dk_at dksX1_draft_0 5 rfl rfl)
theorem dX1_draft_6 : decode cX1_draft 6 = .ok (.iload_n 2, 1) := dk_28 (dk_at dksX1_draft_0 6 rfl rfl)
theorem dX1_draft_7 : decode cX1_draft 7 = .ok (.iconst 0, 1) := dk_3 (dk_at dksX1_draft_0 7 rfl rfl)
theorem dX1_draft_8 : decode cX1_draft 8 = .ok (.sipush 999, 3) := dk_17 3 231 (dk_at dksX1_draft_0 8 rfl rfl)
theorem dX1_draft_11 : decode cX1_draft 11 = .ok (.invokestatic 195, 3) := dk_184 0 195 (dk_at dksX1_draft_0 11 rfl rfl)
theorem dX1_draft_14 : decode cX1_draft 14 = .ok (.aload_n 0, 1) := dk_42 (dk_at dksX1_draft_0 14 rfl rfl)
theorem dX1_draft_15 : decode cX1_draft 15 = .ok (.getfield 63, 3) := dk_180 0 63 (dk_at dksX1_draft_0 15 rfl rfl)
theorem dX1_draft_18 : decode cX1_draft 18 = .ok (.invokeinterface 137 1, 5) := by decide +kernel
theorem dX1_draft_23 : decode cX1_draft 23 = .ok (.bipush 12, 2) := dk_16 12 (dk_at dksX1_draft_1 0 rfl rfl)
theorem dX1_draft_25 : decode cX1_draft 25 = .ok (.if_icmp .ge 7, 3) := dk_162 0 7 (dk_at dksX1_draft_1 2 rfl rfl)
theorem dX1_draft_28 : decode cX1_draft 28 = .ok (.iconst 1, 1) := dk_4 (dk_at dksX1_draft_1 5 rfl rfl)
theorem dX1_draft_29 : decode cX1_draft 29 = .ok (.goto 4, 3) := dk_167 0 4 (dk_at dksX1_draft_1 6 rfl rfl)
theorem dX1_draft_32 : decode cX1_draft 32 = .ok (.iconst 0, 1) := dk_3 (dk_at dksX1_draft_1 9 rfl rfl)
theorem dX1_draft_33 : decode cX1_draft 33 = .ok (.ldc 199, 2) := dk_18 199 (dk_at dksX1_draft_1 10 rfl rfl)
theorem dX1_draft_35 : decode cX1_draft 35 = .ok (.invokestatic 165, 3) := dk_184 0 165 (dk_at dksX1_draft_1 12 rfl rfl)
theorem dX1_draft_38 : decode cX1_draft 38 = .ok (.aload_n 0, 1) := dk_42 (dk_at dksX1_draft_1 15 rfl rfl)
theorem dX1_draft_39 : decode cX1_draft 39 = .ok (.getfield 63, 3) := dk_180 0 63 (dk_at dksX1_draft_1 16 rfl rfl)
theorem dX1_draft_42 : decode cX1_draft 42 = .ok (.iconst 2, 1) := dk_5 (dk_at dksX1_draft_1 19 rfl rfl)
theorem dX1_draft_43 : decode cX1_draft 43 = .ok (.newarray .int, 2) := dk_188_10 (dk_at dksX1_draft_1 20 rfl rfl)
theorem dX1_draft_45 : decode cX1_draft 45 = .ok (.dup, 1) := dk_89 (dk_at dksX1_draft_1 22 rfl rfl)
theorem dX1_draft_46 : decode cX1_draft 46 = .ok (.iconst 0, 1) := dk_3 (dk_at dksX1_draft_1 23 rfl rfl)
theorem dX1_draft_47 : decode cX1_draft 47 = .ok (.iload_n 1, 1) := dk_27 (dk_at dksX1_draft_2 0 rfl rfl)
theorem dX1_draft_48 : decode cX1_draft 48 = .ok (.iastore, 1) := dk_79 (dk_at dksX1_draft_2 1 rfl rfl)
theorem dX1_draft_49 : decode cX1_draft 49 = .ok (.dup, 1) := dk_89 (dk_at dksX1_draft_2 2 rfl rfl)
theorem dX1_draft_50 : decode cX1_draft 50 = .ok (.iconst 1, 1) := dk_4 (dk_at dksX1_draft_2 3 rfl rfl)
theorem dX1_draft_51 : decode cX1_draft 51 = .ok (.iload_n 2, 1) := dk_28 (dk_at dksX1_draft_2 4 rfl rfl)
theorem dX1_draft_52 : decode cX1_draft 52 = .ok (.iastore, 1) := dk_79 (dk_at dksX1_draft_2 5 rfl rfl)
theorem dX1_draft_53 : decode cX1_draft 53 = .ok (.invokeinterface 80 2, 5) := by decide +kernel
theorem dX1_draft_58 : decode cX1_draft 58 = .ok (.pop, 1) := dk_87 (dk_at dksX1_draft_2 11 rfl rfl)
theorem dX1_draft_59 : decode cX1_draft 59 = .ok (.aload_n 0, 1) := dk_42 (dk_at dksX1_draft_2 12 rfl rfl)
theorem dX1_draft_60 : decode cX1_draft 60 = .ok (.getfield 63, 3) := dk_180 0 63 (dk_at dksX1_draft_2 13 rfl rfl)
theorem dX1_draft_63 : decode cX1_draft 63 = .ok (.invokeinterface 137 1, 5) := by decide +kernel
theorem dX1_draft_68 : decode cX1_draft 68 = .ok (.ireturn, 1) := dk_172 (dk_at dksX1_draft_2 21 rfl rfl)
def fX1_draft_b33 (e : Nat → Nat) (N : Nat) (m : Mm) (v0 : Option Nat) (v1 : Int32) (v2 : Int32) (s0 : Int32) : Rs (Int32 ⊕ Nat) := bd_ (fX1_must e N m s0 (some (e (100 + 12)))) (xf_ (fun _ m1 => gr_ m1 v0 1 3 (fun x1 => na_ m1 200 2 (fun x2 m2 => bi_ m2 (some x2) 200 0 v1 (fun m3 => bi_ m3 (some x2) 200 1 v2 (fun m4 => ck_ m4 x1 13 (bd_ (fJ2_add e N m4 x1 (some x2)) (fun x3 m5 => gr_ m5 v0 1 3 (fun x4 => ck_ m5 x4 13 (bd_ (fJ2_size e N m5 x4) (fun x5 m6 => rt_ (.inl x5) m6)))))))))))
def fX1_draft (e : Nat → Nat) (N : Nat) (m : Mm) (v0 : Option Nat) (v1 : Int32) (v2 : Int32) : Rs (Int32 ⊕ Nat) := ck_ m v0 1 (bd_ (fX1_attributeAt e N m v0 v1) (xf_ (fun x1 m1 => bd_ (fX1_isWithin e N m1 v2 0 999) (xf_ (fun _ m2 => gr_ m2 v0 1 3 (fun x2 => ck_ m2 x2 13 (bd_ (fJ2_size e N m2 x2) (fun x3 m3 => if x3 < 12 then (fX1_draft_b33 e N m3 v0 v1 v2 1) else (fX1_draft_b33 e N m3 v0 v1 v2 0)))))))))
abbrev cX0_draft : ByteArray := method_6_code
def yX0_draft : MethodName := ⟨RX0, "draft", "(LMasterTree;II[J)I"⟩
def dkwX0_draft_1 : List UInt8 := [172, 3, 172]
abbrev dktX0_draft_1 : List UInt8 := dkwX0_draft_1 ++ []
def dkwX0_draft_0 : List UInt8 := [45, 3, 42, 27, 28, 182, 0, 25, 133, 80, 167, 0, 15, 58, 4, 4, 172, 58, 4, 5, 172, 58, 4, 6]
abbrev dktX0_draft_0 : List UInt8 := dkwX0_draft_0 ++ dktX0_draft_1
theorem dksX0_draft_0 : cX0_draft.data.toList.drop 0 = dktX0_draft_0 := by decide +kernel
theorem dksX0_draft_1 : cX0_draft.data.toList.drop 24 = dktX0_draft_1 := dk_seg dksX0_draft_0 24 rfl rfl
theorem dX0_draft_0 : decode cX0_draft 0 = .ok (.aload_n 3, 1) := dk_45 (dk_at dksX0_draft_0 0 rfl rfl)
theorem dX0_draft_1 : decode cX0_draft 1 = .ok (.iconst 0, 1) := dk_3 (dk_at dksX0_draft_0 1 rfl rfl)
theorem dX0_draft_2 : decode cX0_draft 2 = .ok (.aload_n 0, 1) := dk_42 (dk_at dksX0_draft_0 2 rfl rfl)
theorem dX0_draft_3 : decode cX0_draft 3 = .ok (.iload_n 1, 1) := dk_27 (dk_at dksX0_draft_0 3 rfl rfl)
theorem dX0_draft_4 : decode cX0_draft 4 = .ok (.iload_n 2, 1) := dk_28 (dk_at dksX0_draft_0 4 rfl rfl)
theorem dX0_draft_5 : decode cX0_draft 5 = .ok (.invokevirtual 25, 3) := dk_182 0 25 (dk_at dksX0_draft_0 5 rfl rfl)
theorem dX0_draft_8 : decode cX0_draft 8 = .ok (.i2l, 1) := dk_133 (dk_at dksX0_draft_0 8 rfl rfl)
theorem dX0_draft_9 : decode cX0_draft 9 = .ok (.lastore, 1) := dk_80 (dk_at dksX0_draft_0 9 rfl rfl)
theorem dX0_draft_10 : decode cX0_draft 10 = .ok (.goto 15, 3) := dk_167 0 15 (dk_at dksX0_draft_0 10 rfl rfl)
theorem dX0_draft_13 : decode cX0_draft 13 = .ok (.astore 4, 2) := dk_58 4 (dk_at dksX0_draft_0 13 rfl rfl)
theorem dX0_draft_15 : decode cX0_draft 15 = .ok (.iconst 1, 1) := dk_4 (dk_at dksX0_draft_0 15 rfl rfl)
theorem dX0_draft_16 : decode cX0_draft 16 = .ok (.ireturn, 1) := dk_172 (dk_at dksX0_draft_0 16 rfl rfl)
theorem dX0_draft_17 : decode cX0_draft 17 = .ok (.astore 4, 2) := dk_58 4 (dk_at dksX0_draft_0 17 rfl rfl)
theorem dX0_draft_19 : decode cX0_draft 19 = .ok (.iconst 2, 1) := dk_5 (dk_at dksX0_draft_0 19 rfl rfl)
theorem dX0_draft_20 : decode cX0_draft 20 = .ok (.ireturn, 1) := dk_172 (dk_at dksX0_draft_0 20 rfl rfl)
theorem dX0_draft_21 : decode cX0_draft 21 = .ok (.astore 4, 2) := dk_58 4 (dk_at dksX0_draft_0 21 rfl rfl)
theorem dX0_draft_23 : decode cX0_draft 23 = .ok (.iconst 3, 1) := dk_6 (dk_at dksX0_draft_0 23 rfl rfl)
theorem dX0_draft_24 : decode cX0_draft 24 = .ok (.ireturn, 1) := dk_172 (dk_at dksX0_draft_1 0 rfl rfl)
theorem dX0_draft_25 : decode cX0_draft 25 = .ok (.iconst 0, 1) := dk_3 (dk_at dksX0_draft_1 1 rfl rfl)
theorem dX0_draft_26 : decode cX0_draft 26 = .ok (.ireturn, 1) := dk_172 (dk_at dksX0_draft_1 2 rfl rfl)
def fX0_draft (e : Nat → Nat) (N : Nat) (m : Mm) (v0 : Option Nat) (v1 : Int32) (v2 : Int32) (v3 : Option Nat) : Rs (Int32) := ck_ m v0 1 (bd_ (fX1_draft e N m v0 v1 v2) (ch_ (fun x1 m1 => bj_ m1 v3 203 0 ((x1 : Int32).toInt64) (fun m2 => rt_ 0 m2)) (fun i_ m0 => if i_ = 0 then rt_ 1 m0 else if i_ = 1 then rt_ 2 m0 else if i_ = 2 then rt_ 3 m0 else none)))
abbrev cJ34_hasNext : ByteArray := prog_60_method_2_code
def yJ34_hasNext : MethodName := ⟨RJ34, "hasNext", "()Z"⟩
def dkwJ34_hasNext_0 : List UInt8 := [42, 180, 0, 25, 42, 180, 0, 1, 180, 0, 28, 159, 0, 7, 4, 167, 0, 4, 3, 172]
abbrev dktJ34_hasNext_0 : List UInt8 := dkwJ34_hasNext_0 ++ []
theorem dksJ34_hasNext_0 : cJ34_hasNext.data.toList.drop 0 = dktJ34_hasNext_0 := by decide +kernel
theorem dJ34_hasNext_0 : decode cJ34_hasNext 0 = .ok (.aload_n 0, 1) := dk_42 (dk_at dksJ34_hasNext_0 0 rfl rfl)
theorem dJ34_hasNext_1 : decode cJ34_hasNext 1 = .ok (.getfield 25, 3) := dk_180 0 25 (dk_at dksJ34_hasNext_0 1 rfl rfl)
theorem dJ34_hasNext_4 : decode cJ34_hasNext 4 = .ok (.aload_n 0, 1) := dk_42 (dk_at dksJ34_hasNext_0 4 rfl rfl)
theorem dJ34_hasNext_5 : decode cJ34_hasNext 5 = .ok (.getfield 1, 3) := dk_180 0 1 (dk_at dksJ34_hasNext_0 5 rfl rfl)
theorem dJ34_hasNext_8 : decode cJ34_hasNext 8 = .ok (.getfield 28, 3) := dk_180 0 28 (dk_at dksJ34_hasNext_0 8 rfl rfl)
theorem dJ34_hasNext_11 : decode cJ34_hasNext 11 = .ok (.if_icmp .eq 7, 3) := dk_159 0 7 (dk_at dksJ34_hasNext_0 11 rfl rfl)
theorem dJ34_hasNext_14 : decode cJ34_hasNext 14 = .ok (.iconst 1, 1) := dk_4 (dk_at dksJ34_hasNext_0 14 rfl rfl)
theorem dJ34_hasNext_15 : decode cJ34_hasNext 15 = .ok (.goto 4, 3) := dk_167 0 4 (dk_at dksJ34_hasNext_0 15 rfl rfl)
theorem dJ34_hasNext_18 : decode cJ34_hasNext 18 = .ok (.iconst 0, 1) := dk_3 (dk_at dksJ34_hasNext_0 18 rfl rfl)
theorem dJ34_hasNext_19 : decode cJ34_hasNext 19 = .ok (.ireturn, 1) := dk_172 (dk_at dksJ34_hasNext_0 19 rfl rfl)
def fJ34_hasNext_b19 (e : Nat → Nat) (N : Nat) (m : Mm) (s0 : Int32) : Rs (Int32) := rz_ s0 s0 m
def fJ34_hasNext (e : Nat → Nat) (N : Nat) (m : Mm) (v0 : Option Nat) : Rs (Int32) := gi_ m v0 14 0 (fun x1 => gr_ m v0 14 3 (fun x2 => gi_ m x2 13 2 (fun x3 => if x1 = x3 then (fJ34_hasNext_b19 e N m 0) else (fJ34_hasNext_b19 e N m 1))))
abbrev cJ2_clear : ByteArray := prog_59_method_40_code
def yJ2_clear : MethodName := ⟨RJ2, "clear", "()V"⟩
def dkwJ2_clear_1 : List UInt8 := [181, 0, 48, 62, 29, 28, 162, 0, 13, 43, 29, 1, 83, 132, 3, 1, 167, 255, 244, 177]
abbrev dktJ2_clear_1 : List UInt8 := dkwJ2_clear_1 ++ []
def dkwJ2_clear_0 : List UInt8 := [42, 89, 180, 0, 63, 4, 96, 181, 0, 63, 42, 180, 0, 9, 76, 42, 180, 0, 48, 61, 42, 3, 90]
abbrev dktJ2_clear_0 : List UInt8 := dkwJ2_clear_0 ++ dktJ2_clear_1
theorem dksJ2_clear_0 : cJ2_clear.data.toList.drop 0 = dktJ2_clear_0 := by decide +kernel
theorem dksJ2_clear_1 : cJ2_clear.data.toList.drop 23 = dktJ2_clear_1 := dk_seg dksJ2_clear_0 23 rfl rfl
theorem dJ2_clear_0 : decode cJ2_clear 0 = .ok (.aload_n 0, 1) := dk_42 (dk_at dksJ2_clear_0 0 rfl rfl)
theorem dJ2_clear_1 : decode cJ2_clear 1 = .ok (.dup, 1) := dk_89 (dk_at dksJ2_clear_0 1 rfl rfl)
theorem dJ2_clear_2 : decode cJ2_clear 2 = .ok (.getfield 63, 3) := dk_180 0 63 (dk_at dksJ2_clear_0 2 rfl rfl)
theorem dJ2_clear_5 : decode cJ2_clear 5 = .ok (.iconst 1, 1) := dk_4 (dk_at dksJ2_clear_0 5 rfl rfl)
theorem dJ2_clear_6 : decode cJ2_clear 6 = .ok (.iadd, 1) := dk_96 (dk_at dksJ2_clear_0 6 rfl rfl)
theorem dJ2_clear_7 : decode cJ2_clear 7 = .ok (.putfield 63, 3) := dk_181 0 63 (dk_at dksJ2_clear_0 7 rfl rfl)
theorem dJ2_clear_10 : decode cJ2_clear 10 = .ok (.aload_n 0, 1) := dk_42 (dk_at dksJ2_clear_0 10 rfl rfl)
theorem dJ2_clear_11 : decode cJ2_clear 11 = .ok (.getfield 9, 3) := dk_180 0 9 (dk_at dksJ2_clear_0 11 rfl rfl)
theorem dJ2_clear_14 : decode cJ2_clear 14 = .ok (.astore_n 1, 1) := dk_76 (dk_at dksJ2_clear_0 14 rfl rfl)
theorem dJ2_clear_15 : decode cJ2_clear 15 = .ok (.aload_n 0, 1) := dk_42 (dk_at dksJ2_clear_0 15 rfl rfl)
theorem dJ2_clear_16 : decode cJ2_clear 16 = .ok (.getfield 48, 3) := dk_180 0 48 (dk_at dksJ2_clear_0 16 rfl rfl)
theorem dJ2_clear_19 : decode cJ2_clear 19 = .ok (.istore_n 2, 1) := dk_61 (dk_at dksJ2_clear_0 19 rfl rfl)
theorem dJ2_clear_20 : decode cJ2_clear 20 = .ok (.aload_n 0, 1) := dk_42 (dk_at dksJ2_clear_0 20 rfl rfl)
theorem dJ2_clear_21 : decode cJ2_clear 21 = .ok (.iconst 0, 1) := dk_3 (dk_at dksJ2_clear_0 21 rfl rfl)
theorem dJ2_clear_22 : decode cJ2_clear 22 = .ok (.dup_x1, 1) := dk_90 (dk_at dksJ2_clear_0 22 rfl rfl)
theorem dJ2_clear_23 : decode cJ2_clear 23 = .ok (.putfield 48, 3) := dk_181 0 48 (dk_at dksJ2_clear_1 0 rfl rfl)
theorem dJ2_clear_26 : decode cJ2_clear 26 = .ok (.istore_n 3, 1) := dk_62 (dk_at dksJ2_clear_1 3 rfl rfl)
theorem dJ2_clear_27 : decode cJ2_clear 27 = .ok (.iload_n 3, 1) := dk_29 (dk_at dksJ2_clear_1 4 rfl rfl)
theorem dJ2_clear_28 : decode cJ2_clear 28 = .ok (.iload_n 2, 1) := dk_28 (dk_at dksJ2_clear_1 5 rfl rfl)
theorem dJ2_clear_29 : decode cJ2_clear 29 = .ok (.if_icmp .ge 13, 3) := dk_162 0 13 (dk_at dksJ2_clear_1 6 rfl rfl)
theorem dJ2_clear_32 : decode cJ2_clear 32 = .ok (.aload_n 1, 1) := dk_43 (dk_at dksJ2_clear_1 9 rfl rfl)
theorem dJ2_clear_33 : decode cJ2_clear 33 = .ok (.iload_n 3, 1) := dk_29 (dk_at dksJ2_clear_1 10 rfl rfl)
theorem dJ2_clear_34 : decode cJ2_clear 34 = .ok (.aconst_null, 1) := dk_1 (dk_at dksJ2_clear_1 11 rfl rfl)
theorem dJ2_clear_35 : decode cJ2_clear 35 = .ok (.aastore, 1) := dk_83 (dk_at dksJ2_clear_1 12 rfl rfl)
theorem dJ2_clear_36 : decode cJ2_clear 36 = .ok (.iinc 3 1, 3) := dk_132 3 1 (dk_at dksJ2_clear_1 13 rfl rfl)
theorem dJ2_clear_39 : decode cJ2_clear 39 = .ok (.goto (-12), 3) := dk_167 255 244 (dk_at dksJ2_clear_1 16 rfl rfl)
theorem dJ2_clear_42 : decode cJ2_clear 42 = .ok (.return_, 1) := dk_177 (dk_at dksJ2_clear_1 19 rfl rfl)
def fJ2_clear_b27 (e : Nat → Nat) (N : Nat) : Nat → Mm → Option Nat → Int32 → Int32 → Rs (Unit)
  | 0, _, _, _, _ => none
  | F + 1, m, v1, v2, v3 => if v3 < v2 then (bk_ m none [2, 5, 6, 7, 8, 9, 10, 11, 27, 200] (br_ m v1 204 v3 none (fun m1 => fJ2_clear_b27 e N F m1 v1 v2 (v3 + 1)))) else (rt_ () m)
def fJ2_clear (e : Nat → Nat) (N : Nat) (m : Mm) (v0 : Option Nat) : Rs (Unit) := gi_ m v0 13 0 (fun x1 => pi_ m v0 13 0 (x1 + 1) (fun m1 => gr_ m1 v0 13 1 (fun x2 => gi_ m1 v0 13 2 (fun x3 => pi_ m1 v0 13 2 0 (fun m2 => fJ2_clear_b27 e N N m2 x2 x3 0)))))
abbrev cX7_init : ByteArray := prog_5_method_1_code
def yX7_init : MethodName := ⟨RX7, "<init>", "(IIILMasterTree$Kind;IIIILjava/util/List;)V"⟩
def dkwX7_init_2 : List UInt8 := [181, 0, 32, 42, 25, 9, 181, 0, 35, 177]
abbrev dktX7_init_2 : List UInt8 := dkwX7_init_2 ++ []
def dkwX7_init_1 : List UInt8 := [181, 0, 19, 42, 21, 5, 181, 0, 23, 42, 21, 6, 181, 0, 26, 42, 21, 7, 181, 0, 29, 42, 21, 8]
abbrev dktX7_init_1 : List UInt8 := dkwX7_init_1 ++ dktX7_init_2
def dkwX7_init_0 : List UInt8 := [42, 183, 0, 1, 42, 27, 181, 0, 7, 42, 28, 181, 0, 13, 42, 29, 181, 0, 16, 42, 25, 4]
abbrev dktX7_init_0 : List UInt8 := dkwX7_init_0 ++ dktX7_init_1
theorem dksX7_init_0 : cX7_init.data.toList.drop 0 = dktX7_init_0 := by decide +kernel
theorem dksX7_init_1 : cX7_init.data.toList.drop 22 = dktX7_init_1 := dk_seg dksX7_init_0 22 rfl rfl
theorem dksX7_init_2 : cX7_init.data.toList.drop 46 = dktX7_init_2 := dk_seg dksX7_init_1 24 rfl rfl
theorem dX7_init_0 : decode cX7_init 0 = .ok (.aload_n 0, 1) := dk_42 (dk_at dksX7_init_0 0 rfl rfl)
theorem dX7_init_1 : decode cX7_init 1 = .ok (.invokespecial 1, 3) := dk_183 0 1 (dk_at dksX7_init_0 1 rfl rfl)
theorem dX7_init_4 : decode cX7_init 4 = .ok (.aload_n 0, 1) := dk_42 (dk_at dksX7_init_0 4 rfl rfl)
theorem dX7_init_5 : decode cX7_init 5 = .ok (.iload_n 1, 1) := dk_27 (dk_at dksX7_init_0 5 rfl rfl)
theorem dX7_init_6 : decode cX7_init 6 = .ok (.putfield 7, 3) := dk_181 0 7 (dk_at dksX7_init_0 6 rfl rfl)
theorem dX7_init_9 : decode cX7_init 9 = .ok (.aload_n 0, 1) := dk_42 (dk_at dksX7_init_0 9 rfl rfl)
theorem dX7_init_10 : decode cX7_init 10 = .ok (.iload_n 2, 1) := dk_28 (dk_at dksX7_init_0 10 rfl rfl)
theorem dX7_init_11 : decode cX7_init 11 = .ok (.putfield 13, 3) := dk_181 0 13 (dk_at dksX7_init_0 11 rfl rfl)
theorem dX7_init_14 : decode cX7_init 14 = .ok (.aload_n 0, 1) := dk_42 (dk_at dksX7_init_0 14 rfl rfl)
theorem dX7_init_15 : decode cX7_init 15 = .ok (.iload_n 3, 1) := dk_29 (dk_at dksX7_init_0 15 rfl rfl)
theorem dX7_init_16 : decode cX7_init 16 = .ok (.putfield 16, 3) := dk_181 0 16 (dk_at dksX7_init_0 16 rfl rfl)
theorem dX7_init_19 : decode cX7_init 19 = .ok (.aload_n 0, 1) := dk_42 (dk_at dksX7_init_0 19 rfl rfl)
theorem dX7_init_20 : decode cX7_init 20 = .ok (.aload 4, 2) := dk_25 4 (dk_at dksX7_init_0 20 rfl rfl)
theorem dX7_init_22 : decode cX7_init 22 = .ok (.putfield 19, 3) := dk_181 0 19 (dk_at dksX7_init_1 0 rfl rfl)
theorem dX7_init_25 : decode cX7_init 25 = .ok (.aload_n 0, 1) := dk_42 (dk_at dksX7_init_1 3 rfl rfl)
theorem dX7_init_26 : decode cX7_init 26 = .ok (.iload 5, 2) := dk_21 5 (dk_at dksX7_init_1 4 rfl rfl)
theorem dX7_init_28 : decode cX7_init 28 = .ok (.putfield 23, 3) := dk_181 0 23 (dk_at dksX7_init_1 6 rfl rfl)
theorem dX7_init_31 : decode cX7_init 31 = .ok (.aload_n 0, 1) := dk_42 (dk_at dksX7_init_1 9 rfl rfl)
theorem dX7_init_32 : decode cX7_init 32 = .ok (.iload 6, 2) := dk_21 6 (dk_at dksX7_init_1 10 rfl rfl)
theorem dX7_init_34 : decode cX7_init 34 = .ok (.putfield 26, 3) := dk_181 0 26 (dk_at dksX7_init_1 12 rfl rfl)
theorem dX7_init_37 : decode cX7_init 37 = .ok (.aload_n 0, 1) := dk_42 (dk_at dksX7_init_1 15 rfl rfl)
theorem dX7_init_38 : decode cX7_init 38 = .ok (.iload 7, 2) := dk_21 7 (dk_at dksX7_init_1 16 rfl rfl)
theorem dX7_init_40 : decode cX7_init 40 = .ok (.putfield 29, 3) := dk_181 0 29 (dk_at dksX7_init_1 18 rfl rfl)
theorem dX7_init_43 : decode cX7_init 43 = .ok (.aload_n 0, 1) := dk_42 (dk_at dksX7_init_1 21 rfl rfl)
theorem dX7_init_44 : decode cX7_init 44 = .ok (.iload 8, 2) := dk_21 8 (dk_at dksX7_init_1 22 rfl rfl)
theorem dX7_init_46 : decode cX7_init 46 = .ok (.putfield 32, 3) := dk_181 0 32 (dk_at dksX7_init_2 0 rfl rfl)
theorem dX7_init_49 : decode cX7_init 49 = .ok (.aload_n 0, 1) := dk_42 (dk_at dksX7_init_2 3 rfl rfl)
theorem dX7_init_50 : decode cX7_init 50 = .ok (.aload 9, 2) := dk_25 9 (dk_at dksX7_init_2 4 rfl rfl)
theorem dX7_init_52 : decode cX7_init 52 = .ok (.putfield 35, 3) := dk_181 0 35 (dk_at dksX7_init_2 6 rfl rfl)
theorem dX7_init_55 : decode cX7_init 55 = .ok (.return_, 1) := dk_177 (dk_at dksX7_init_2 9 rfl rfl)
def fX7_init (e : Nat → Nat) (N : Nat) (m : Mm) (v0 : Option Nat) (v1 : Int32) (v2 : Int32) (v3 : Int32) (v4 : Option Nat) (v5 : Int32) (v6 : Int32) (v7 : Int32) (v8 : Int32) (v9 : Option Nat) : Rs (Unit) := ok_ v0 (pi_ m v0 7 0 v1 (fun m1 => pi_ m1 v0 7 1 v2 (fun m2 => pi_ m2 v0 7 2 v3 (fun m3 => pr_ m3 v0 7 3 v4 (fun m4 => pi_ m4 v0 7 4 v5 (fun m5 => pi_ m5 v0 7 5 v6 (fun m6 => pi_ m6 v0 7 6 v7 (fun m7 => pi_ m7 v0 7 7 v8 (fun m8 => pr_ m8 v0 7 8 v9 (fun m9 => rt_ () m9))))))))))
abbrev cX1_isAbove : ByteArray := prog_1_method_3_code
def yX1_isAbove : MethodName := ⟨RX1, "isAbove", "([III)Z"⟩
def dkwX1_isAbove_1 : List UInt8 := [4, 167, 0, 4, 3, 172]
abbrev dktX1_isAbove_1 : List UInt8 := dkwX1_isAbove_1 ++ []
def dkwX1_isAbove_0 : List UInt8 := [28, 62, 29, 2, 159, 0, 15, 29, 27, 159, 0, 10, 42, 29, 46, 62, 167, 255, 242, 29, 27, 160, 0, 7]
abbrev dktX1_isAbove_0 : List UInt8 := dkwX1_isAbove_0 ++ dktX1_isAbove_1
theorem dksX1_isAbove_0 : cX1_isAbove.data.toList.drop 0 = dktX1_isAbove_0 := by decide +kernel
theorem dksX1_isAbove_1 : cX1_isAbove.data.toList.drop 24 = dktX1_isAbove_1 := dk_seg dksX1_isAbove_0 24 rfl rfl
theorem dX1_isAbove_0 : decode cX1_isAbove 0 = .ok (.iload_n 2, 1) := dk_28 (dk_at dksX1_isAbove_0 0 rfl rfl)
theorem dX1_isAbove_1 : decode cX1_isAbove 1 = .ok (.istore_n 3, 1) := dk_62 (dk_at dksX1_isAbove_0 1 rfl rfl)
theorem dX1_isAbove_2 : decode cX1_isAbove 2 = .ok (.iload_n 3, 1) := dk_29 (dk_at dksX1_isAbove_0 2 rfl rfl)
theorem dX1_isAbove_3 : decode cX1_isAbove 3 = .ok (.iconst (-1), 1) := dk_2 (dk_at dksX1_isAbove_0 3 rfl rfl)
theorem dX1_isAbove_4 : decode cX1_isAbove 4 = .ok (.if_icmp .eq 15, 3) := dk_159 0 15 (dk_at dksX1_isAbove_0 4 rfl rfl)
theorem dX1_isAbove_7 : decode cX1_isAbove 7 = .ok (.iload_n 3, 1) := dk_29 (dk_at dksX1_isAbove_0 7 rfl rfl)
theorem dX1_isAbove_8 : decode cX1_isAbove 8 = .ok (.iload_n 1, 1) := dk_27 (dk_at dksX1_isAbove_0 8 rfl rfl)
theorem dX1_isAbove_9 : decode cX1_isAbove 9 = .ok (.if_icmp .eq 10, 3) := dk_159 0 10 (dk_at dksX1_isAbove_0 9 rfl rfl)
theorem dX1_isAbove_12 : decode cX1_isAbove 12 = .ok (.aload_n 0, 1) := dk_42 (dk_at dksX1_isAbove_0 12 rfl rfl)
theorem dX1_isAbove_13 : decode cX1_isAbove 13 = .ok (.iload_n 3, 1) := dk_29 (dk_at dksX1_isAbove_0 13 rfl rfl)
theorem dX1_isAbove_14 : decode cX1_isAbove 14 = .ok (.iaload, 1) := dk_46 (dk_at dksX1_isAbove_0 14 rfl rfl)
theorem dX1_isAbove_15 : decode cX1_isAbove 15 = .ok (.istore_n 3, 1) := dk_62 (dk_at dksX1_isAbove_0 15 rfl rfl)
theorem dX1_isAbove_16 : decode cX1_isAbove 16 = .ok (.goto (-14), 3) := dk_167 255 242 (dk_at dksX1_isAbove_0 16 rfl rfl)
theorem dX1_isAbove_19 : decode cX1_isAbove 19 = .ok (.iload_n 3, 1) := dk_29 (dk_at dksX1_isAbove_0 19 rfl rfl)
theorem dX1_isAbove_20 : decode cX1_isAbove 20 = .ok (.iload_n 1, 1) := dk_27 (dk_at dksX1_isAbove_0 20 rfl rfl)
theorem dX1_isAbove_21 : decode cX1_isAbove 21 = .ok (.if_icmp .ne 7, 3) := dk_160 0 7 (dk_at dksX1_isAbove_0 21 rfl rfl)
theorem dX1_isAbove_24 : decode cX1_isAbove 24 = .ok (.iconst 1, 1) := dk_4 (dk_at dksX1_isAbove_1 0 rfl rfl)
theorem dX1_isAbove_25 : decode cX1_isAbove 25 = .ok (.goto 4, 3) := dk_167 0 4 (dk_at dksX1_isAbove_1 1 rfl rfl)
theorem dX1_isAbove_28 : decode cX1_isAbove 28 = .ok (.iconst 0, 1) := dk_3 (dk_at dksX1_isAbove_1 4 rfl rfl)
theorem dX1_isAbove_29 : decode cX1_isAbove 29 = .ok (.ireturn, 1) := dk_172 (dk_at dksX1_isAbove_1 5 rfl rfl)
def fX1_isAbove_b29 (e : Nat → Nat) (N : Nat) (m : Mm) (s0 : Int32) : Rs (Int32) := rz_ s0 s0 m
def fX1_isAbove_b19 (e : Nat → Nat) (N : Nat) (m : Mm) (v1 : Int32) (v3 : Int32) : Rs (Int32) := if v3 = v1 then (fX1_isAbove_b29 e N m 1) else (fX1_isAbove_b29 e N m 0)
def fX1_isAbove_b2 (e : Nat → Nat) (N : Nat) : Nat → Mm → Option Nat → Int32 → Int32 → Rs (Int32)
  | 0, _, _, _, _ => none
  | F + 1, m, v0, v1, v3 => if v3 = (-1) then (fX1_isAbove_b19 e N m v1 v3) else (if v3 = v1 then (fX1_isAbove_b19 e N m v1 v3) else (ai_ m v0 200 v3 (fun x1 => fX1_isAbove_b2 e N F m v0 v1 x1)))
def fX1_isAbove (e : Nat → Nat) (N : Nat) (m : Mm) (v0 : Option Nat) (v1 : Int32) (v2 : Int32) : Rs (Int32) := fX1_isAbove_b2 e N N m v0 v1 v2
abbrev cJ34_checkForComodification : ByteArray := prog_60_method_6_code
def yJ34_checkForComodification : MethodName := ⟨RJ34, "checkForComodification", "()V"⟩
def dkwJ34_checkForComodification_0 : List UInt8 := [42, 180, 0, 1, 180, 0, 17, 42, 180, 0, 22, 159, 0, 11, 187, 0, 41, 89, 183, 0, 43, 191, 177]
abbrev dktJ34_checkForComodification_0 : List UInt8 := dkwJ34_checkForComodification_0 ++ []
theorem dksJ34_checkForComodification_0 : cJ34_checkForComodification.data.toList.drop 0 = dktJ34_checkForComodification_0 := by decide +kernel
theorem dJ34_checkForComodification_0 : decode cJ34_checkForComodification 0 = .ok (.aload_n 0, 1) := dk_42 (dk_at dksJ34_checkForComodification_0 0 rfl rfl)
theorem dJ34_checkForComodification_1 : decode cJ34_checkForComodification 1 = .ok (.getfield 1, 3) := dk_180 0 1 (dk_at dksJ34_checkForComodification_0 1 rfl rfl)
theorem dJ34_checkForComodification_4 : decode cJ34_checkForComodification 4 = .ok (.getfield 17, 3) := dk_180 0 17 (dk_at dksJ34_checkForComodification_0 4 rfl rfl)
theorem dJ34_checkForComodification_7 : decode cJ34_checkForComodification 7 = .ok (.aload_n 0, 1) := dk_42 (dk_at dksJ34_checkForComodification_0 7 rfl rfl)
theorem dJ34_checkForComodification_8 : decode cJ34_checkForComodification 8 = .ok (.getfield 22, 3) := dk_180 0 22 (dk_at dksJ34_checkForComodification_0 8 rfl rfl)
theorem dJ34_checkForComodification_11 : decode cJ34_checkForComodification 11 = .ok (.if_icmp .eq 11, 3) := dk_159 0 11 (dk_at dksJ34_checkForComodification_0 11 rfl rfl)
theorem dJ34_checkForComodification_14 : decode cJ34_checkForComodification 14 = .ok (.new 41, 3) := dk_187 0 41 (dk_at dksJ34_checkForComodification_0 14 rfl rfl)
theorem dJ34_checkForComodification_17 : decode cJ34_checkForComodification 17 = .ok (.dup, 1) := dk_89 (dk_at dksJ34_checkForComodification_0 17 rfl rfl)
theorem dJ34_checkForComodification_18 : decode cJ34_checkForComodification 18 = .ok (.invokespecial 43, 3) := dk_183 0 43 (dk_at dksJ34_checkForComodification_0 18 rfl rfl)
theorem dJ34_checkForComodification_21 : decode cJ34_checkForComodification 21 = .ok (.athrow, 1) := dk_191 (dk_at dksJ34_checkForComodification_0 21 rfl rfl)
theorem dJ34_checkForComodification_22 : decode cJ34_checkForComodification 22 = .ok (.return_, 1) := dk_177 (dk_at dksJ34_checkForComodification_0 22 rfl rfl)
def fJ34_checkForComodification (e : Nat → Nat) (N : Nat) (m : Mm) (v0 : Option Nat) : Rs (Unit) := gr_ m v0 14 3 (fun x1 => gi_ m x1 13 0 (fun x2 => gi_ m v0 14 2 (fun x3 => if x2 = x3 then (rt_ () m) else (none))))
abbrev cJ34_next : ByteArray := prog_60_method_3_code
def yJ34_next : MethodName := ⟨RJ34, "next", "()Ljava/lang/Object;"⟩
def dkwJ34_next_2 : List UInt8 := [183, 0, 43, 191, 42, 27, 4, 96, 181, 0, 25, 44, 42, 27, 90, 181, 0, 13, 50, 176]
abbrev dktJ34_next_2 : List UInt8 := dkwJ34_next_2 ++ []
def dkwJ34_next_1 : List UInt8 := [183, 0, 36, 191, 42, 180, 0, 1, 180, 0, 37, 77, 27, 44, 190, 161, 0, 11, 187, 0, 41, 89]
abbrev dktJ34_next_1 : List UInt8 := dkwJ34_next_1 ++ dktJ34_next_2
def dkwJ34_next_0 : List UInt8 := [42, 182, 0, 31, 42, 180, 0, 25, 60, 27, 42, 180, 0, 1, 180, 0, 28, 161, 0, 11, 187, 0, 34, 89]
abbrev dktJ34_next_0 : List UInt8 := dkwJ34_next_0 ++ dktJ34_next_1
theorem dksJ34_next_0 : cJ34_next.data.toList.drop 0 = dktJ34_next_0 := by decide +kernel
theorem dksJ34_next_1 : cJ34_next.data.toList.drop 24 = dktJ34_next_1 := dk_seg dksJ34_next_0 24 rfl rfl
theorem dksJ34_next_2 : cJ34_next.data.toList.drop 46 = dktJ34_next_2 := dk_seg dksJ34_next_1 22 rfl rfl
theorem dJ34_next_0 : decode cJ34_next 0 = .ok (.aload_n 0, 1) := dk_42 (dk_at dksJ34_next_0 0 rfl rfl)
theorem dJ34_next_1 : decode cJ34_next 1 = .ok (.invokevirtual 31, 3) := dk_182 0 31 (dk_at dksJ34_next_0 1 rfl rfl)
theorem dJ34_next_4 : decode cJ34_next 4 = .ok (.aload_n 0, 1) := dk_42 (dk_at dksJ34_next_0 4 rfl rfl)
theorem dJ34_next_5 : decode cJ34_next 5 = .ok (.getfield 25, 3) := dk_180 0 25 (dk_at dksJ34_next_0 5 rfl rfl)
theorem dJ34_next_8 : decode cJ34_next 8 = .ok (.istore_n 1, 1) := dk_60 (dk_at dksJ34_next_0 8 rfl rfl)
theorem dJ34_next_9 : decode cJ34_next 9 = .ok (.iload_n 1, 1) := dk_27 (dk_at dksJ34_next_0 9 rfl rfl)
theorem dJ34_next_10 : decode cJ34_next 10 = .ok (.aload_n 0, 1) := dk_42 (dk_at dksJ34_next_0 10 rfl rfl)
theorem dJ34_next_11 : decode cJ34_next 11 = .ok (.getfield 1, 3) := dk_180 0 1 (dk_at dksJ34_next_0 11 rfl rfl)
theorem dJ34_next_14 : decode cJ34_next 14 = .ok (.getfield 28, 3) := dk_180 0 28 (dk_at dksJ34_next_0 14 rfl rfl)
theorem dJ34_next_17 : decode cJ34_next 17 = .ok (.if_icmp .lt 11, 3) := dk_161 0 11 (dk_at dksJ34_next_0 17 rfl rfl)
theorem dJ34_next_20 : decode cJ34_next 20 = .ok (.new 34, 3) := dk_187 0 34 (dk_at dksJ34_next_0 20 rfl rfl)
theorem dJ34_next_23 : decode cJ34_next 23 = .ok (.dup, 1) := dk_89 (dk_at dksJ34_next_0 23 rfl rfl)
theorem dJ34_next_24 : decode cJ34_next 24 = .ok (.invokespecial 36, 3) := dk_183 0 36 (dk_at dksJ34_next_1 0 rfl rfl)
theorem dJ34_next_27 : decode cJ34_next 27 = .ok (.athrow, 1) := dk_191 (dk_at dksJ34_next_1 3 rfl rfl)
theorem dJ34_next_28 : decode cJ34_next 28 = .ok (.aload_n 0, 1) := dk_42 (dk_at dksJ34_next_1 4 rfl rfl)
theorem dJ34_next_29 : decode cJ34_next 29 = .ok (.getfield 1, 3) := dk_180 0 1 (dk_at dksJ34_next_1 5 rfl rfl)
theorem dJ34_next_32 : decode cJ34_next 32 = .ok (.getfield 37, 3) := dk_180 0 37 (dk_at dksJ34_next_1 8 rfl rfl)
theorem dJ34_next_35 : decode cJ34_next 35 = .ok (.astore_n 2, 1) := dk_77 (dk_at dksJ34_next_1 11 rfl rfl)
theorem dJ34_next_36 : decode cJ34_next 36 = .ok (.iload_n 1, 1) := dk_27 (dk_at dksJ34_next_1 12 rfl rfl)
theorem dJ34_next_37 : decode cJ34_next 37 = .ok (.aload_n 2, 1) := dk_44 (dk_at dksJ34_next_1 13 rfl rfl)
theorem dJ34_next_38 : decode cJ34_next 38 = .ok (.arraylength, 1) := dk_190 (dk_at dksJ34_next_1 14 rfl rfl)
theorem dJ34_next_39 : decode cJ34_next 39 = .ok (.if_icmp .lt 11, 3) := dk_161 0 11 (dk_at dksJ34_next_1 15 rfl rfl)
theorem dJ34_next_42 : decode cJ34_next 42 = .ok (.new 41, 3) := dk_187 0 41 (dk_at dksJ34_next_1 18 rfl rfl)
theorem dJ34_next_45 : decode cJ34_next 45 = .ok (.dup, 1) := dk_89 (dk_at dksJ34_next_1 21 rfl rfl)
theorem dJ34_next_46 : decode cJ34_next 46 = .ok (.invokespecial 43, 3) := dk_183 0 43 (dk_at dksJ34_next_2 0 rfl rfl)
theorem dJ34_next_49 : decode cJ34_next 49 = .ok (.athrow, 1) := dk_191 (dk_at dksJ34_next_2 3 rfl rfl)
theorem dJ34_next_50 : decode cJ34_next 50 = .ok (.aload_n 0, 1) := dk_42 (dk_at dksJ34_next_2 4 rfl rfl)
theorem dJ34_next_51 : decode cJ34_next 51 = .ok (.iload_n 1, 1) := dk_27 (dk_at dksJ34_next_2 5 rfl rfl)
theorem dJ34_next_52 : decode cJ34_next 52 = .ok (.iconst 1, 1) := dk_4 (dk_at dksJ34_next_2 6 rfl rfl)
theorem dJ34_next_53 : decode cJ34_next 53 = .ok (.iadd, 1) := dk_96 (dk_at dksJ34_next_2 7 rfl rfl)
theorem dJ34_next_54 : decode cJ34_next 54 = .ok (.putfield 25, 3) := dk_181 0 25 (dk_at dksJ34_next_2 8 rfl rfl)
theorem dJ34_next_57 : decode cJ34_next 57 = .ok (.aload_n 2, 1) := dk_44 (dk_at dksJ34_next_2 11 rfl rfl)
theorem dJ34_next_58 : decode cJ34_next 58 = .ok (.aload_n 0, 1) := dk_42 (dk_at dksJ34_next_2 12 rfl rfl)
theorem dJ34_next_59 : decode cJ34_next 59 = .ok (.iload_n 1, 1) := dk_27 (dk_at dksJ34_next_2 13 rfl rfl)
theorem dJ34_next_60 : decode cJ34_next 60 = .ok (.dup_x1, 1) := dk_90 (dk_at dksJ34_next_2 14 rfl rfl)
theorem dJ34_next_61 : decode cJ34_next 61 = .ok (.putfield 13, 3) := dk_181 0 13 (dk_at dksJ34_next_2 15 rfl rfl)
theorem dJ34_next_64 : decode cJ34_next 64 = .ok (.aaload, 1) := dk_50 (dk_at dksJ34_next_2 18 rfl rfl)
theorem dJ34_next_65 : decode cJ34_next 65 = .ok (.areturn, 1) := dk_176 (dk_at dksJ34_next_2 19 rfl rfl)
def fJ34_next (e : Nat → Nat) (N : Nat) (m : Mm) (v0 : Option Nat) : Rs (Option Nat) := ck_ m v0 14 (bd_ (fJ34_checkForComodification e N m v0) (fun _ m1 => gi_ m1 v0 14 0 (fun x1 => gr_ m1 v0 14 3 (fun x2 => gi_ m1 x2 13 2 (fun x3 => if x1 < x3 then (gr_ m1 v0 14 3 (fun x4 => gr_ m1 x4 13 1 (fun x5 => ln_ m1 x5 204 (fun x6 => if x1 < x6 then (pi_ m1 v0 14 0 (x1 + 1) (fun m2 => pi_ m2 v0 14 1 x1 (fun m3 => ar_ m3 x5 204 x1 (fun x7 => rt_ x7 m3)))) else (none))))) else (none))))))
abbrev cJ34_init : ByteArray := prog_60_method_1_code
def yJ34_init : MethodName := ⟨RJ34, "<init>", "(Ljava/util/ArrayList;)V"⟩
def dkwJ34_init_1 : List UInt8 := [181, 0, 22, 177]
abbrev dktJ34_init_1 : List UInt8 := dkwJ34_init_1 ++ []
def dkwJ34_init_0 : List UInt8 := [42, 43, 181, 0, 1, 42, 183, 0, 7, 42, 2, 181, 0, 13, 42, 42, 180, 0, 1, 180, 0, 17]
abbrev dktJ34_init_0 : List UInt8 := dkwJ34_init_0 ++ dktJ34_init_1
theorem dksJ34_init_0 : cJ34_init.data.toList.drop 0 = dktJ34_init_0 := by decide +kernel
theorem dksJ34_init_1 : cJ34_init.data.toList.drop 22 = dktJ34_init_1 := dk_seg dksJ34_init_0 22 rfl rfl
theorem dJ34_init_0 : decode cJ34_init 0 = .ok (.aload_n 0, 1) := dk_42 (dk_at dksJ34_init_0 0 rfl rfl)
theorem dJ34_init_1 : decode cJ34_init 1 = .ok (.aload_n 1, 1) := dk_43 (dk_at dksJ34_init_0 1 rfl rfl)
theorem dJ34_init_2 : decode cJ34_init 2 = .ok (.putfield 1, 3) := dk_181 0 1 (dk_at dksJ34_init_0 2 rfl rfl)
theorem dJ34_init_5 : decode cJ34_init 5 = .ok (.aload_n 0, 1) := dk_42 (dk_at dksJ34_init_0 5 rfl rfl)
theorem dJ34_init_6 : decode cJ34_init 6 = .ok (.invokespecial 7, 3) := dk_183 0 7 (dk_at dksJ34_init_0 6 rfl rfl)
theorem dJ34_init_9 : decode cJ34_init 9 = .ok (.aload_n 0, 1) := dk_42 (dk_at dksJ34_init_0 9 rfl rfl)
theorem dJ34_init_10 : decode cJ34_init 10 = .ok (.iconst (-1), 1) := dk_2 (dk_at dksJ34_init_0 10 rfl rfl)
theorem dJ34_init_11 : decode cJ34_init 11 = .ok (.putfield 13, 3) := dk_181 0 13 (dk_at dksJ34_init_0 11 rfl rfl)
theorem dJ34_init_14 : decode cJ34_init 14 = .ok (.aload_n 0, 1) := dk_42 (dk_at dksJ34_init_0 14 rfl rfl)
theorem dJ34_init_15 : decode cJ34_init 15 = .ok (.aload_n 0, 1) := dk_42 (dk_at dksJ34_init_0 15 rfl rfl)
theorem dJ34_init_16 : decode cJ34_init 16 = .ok (.getfield 1, 3) := dk_180 0 1 (dk_at dksJ34_init_0 16 rfl rfl)
theorem dJ34_init_19 : decode cJ34_init 19 = .ok (.getfield 17, 3) := dk_180 0 17 (dk_at dksJ34_init_0 19 rfl rfl)
theorem dJ34_init_22 : decode cJ34_init 22 = .ok (.putfield 22, 3) := dk_181 0 22 (dk_at dksJ34_init_1 0 rfl rfl)
theorem dJ34_init_25 : decode cJ34_init 25 = .ok (.return_, 1) := dk_177 (dk_at dksJ34_init_1 3 rfl rfl)
def fJ34_init (e : Nat → Nat) (N : Nat) (m : Mm) (v0 : Option Nat) (v1 : Option Nat) : Rs (Unit) := pr_ m v0 14 3 v1 (fun m1 => ok_ v0 (pi_ m1 v0 14 1 (-1) (fun m2 => gr_ m2 v0 14 3 (fun x1 => gi_ m2 x1 13 0 (fun x2 => pi_ m2 v0 14 2 x2 (fun m3 => rt_ () m3))))))
abbrev cJ2_iterator : ByteArray := prog_59_method_55_code
def yJ2_iterator : MethodName := ⟨RJ2, "iterator", "()Ljava/util/Iterator;"⟩
def dkwJ2_iterator_0 : List UInt8 := [187, 1, 11, 89, 42, 183, 1, 13, 176]
abbrev dktJ2_iterator_0 : List UInt8 := dkwJ2_iterator_0 ++ []
theorem dksJ2_iterator_0 : cJ2_iterator.data.toList.drop 0 = dktJ2_iterator_0 := by decide +kernel
theorem dJ2_iterator_0 : decode cJ2_iterator 0 = .ok (.new 267, 3) := dk_187 1 11 (dk_at dksJ2_iterator_0 0 rfl rfl)
theorem dJ2_iterator_3 : decode cJ2_iterator 3 = .ok (.dup, 1) := dk_89 (dk_at dksJ2_iterator_0 3 rfl rfl)
theorem dJ2_iterator_4 : decode cJ2_iterator 4 = .ok (.aload_n 0, 1) := dk_42 (dk_at dksJ2_iterator_0 4 rfl rfl)
theorem dJ2_iterator_5 : decode cJ2_iterator 5 = .ok (.invokespecial 269, 3) := dk_183 1 13 (dk_at dksJ2_iterator_0 5 rfl rfl)
theorem dJ2_iterator_8 : decode cJ2_iterator 8 = .ok (.areturn, 1) := dk_176 (dk_at dksJ2_iterator_0 8 rfl rfl)
def fJ2_iterator (e : Nat → Nat) (N : Nat) (m : Mm) (v0 : Option Nat) : Rs (Option Nat) := nw_ m 14 4 (fun x1 m1 => bd_ (fJ34_init e N m1 (some x1) v0) (fun _ m2 => rt_ (some x1) m2))
abbrev cX1_findsParents : ByteArray := prog_1_method_2_code
def yX1_findsParents : MethodName := ⟨RX1, "findsParents", "(Ljava/util/List;[I)V"⟩
def dkwX1_findsParents_5 : List UInt8 := [180, 0, 33, 46, 79, 167, 255, 159, 177]
abbrev dktX1_findsParents_5 : List UInt8 := dkwX1_findsParents_5 ++ []
def dkwX1_findsParents_4 : List UInt8 := [180, 0, 33, 21, 4, 154, 0, 8, 21, 5, 153, 0, 10, 45, 180, 0, 37, 167, 0, 9, 43, 45]
abbrev dktX1_findsParents_4 : List UInt8 := dkwX1_findsParents_4 ++ dktX1_findsParents_5
def dkwX1_findsParents_3 : List UInt8 := [45, 180, 0, 33, 45, 180, 0, 37, 184, 0, 40, 154, 0, 7, 4, 167, 0, 4, 3, 54, 5, 43, 45]
abbrev dktX1_findsParents_3 : List UInt8 := dkwX1_findsParents_3 ++ dktX1_findsParents_4
def dkwX1_findsParents_2 : List UInt8 := [178, 0, 25, 166, 0, 7, 4, 167, 0, 4, 3, 54, 4, 45, 180, 0, 21, 178, 0, 30, 166, 0, 22, 43]
abbrev dktX1_findsParents_2 : List UInt8 := dkwX1_findsParents_2 ++ dktX1_findsParents_3
def dkwX1_findsParents_1 : List UInt8 := [77, 44, 185, 0, 9, 1, 0, 153, 0, 94, 44, 185, 0, 15, 1, 0, 192, 0, 19, 78, 45, 180, 0, 21]
abbrev dktX1_findsParents_1 : List UInt8 := dkwX1_findsParents_1 ++ dktX1_findsParents_2
def dkwX1_findsParents_0 : List UInt8 := [3, 61, 28, 16, 48, 162, 0, 13, 43, 28, 2, 79, 132, 2, 1, 167, 255, 243, 42, 185, 0, 3, 1, 0]
abbrev dktX1_findsParents_0 : List UInt8 := dkwX1_findsParents_0 ++ dktX1_findsParents_1
theorem dksX1_findsParents_0 : cX1_findsParents.data.toList.drop 0 = dktX1_findsParents_0 := by decide +kernel
theorem dksX1_findsParents_1 : cX1_findsParents.data.toList.drop 24 = dktX1_findsParents_1 := dk_seg dksX1_findsParents_0 24 rfl rfl
theorem dksX1_findsParents_2 : cX1_findsParents.data.toList.drop 48 = dktX1_findsParents_2 := dk_seg dksX1_findsParents_1 24 rfl rfl
theorem dksX1_findsParents_3 : cX1_findsParents.data.toList.drop 72 = dktX1_findsParents_3 := dk_seg dksX1_findsParents_2 24 rfl rfl
theorem dksX1_findsParents_4 : cX1_findsParents.data.toList.drop 95 = dktX1_findsParents_4 := dk_seg dksX1_findsParents_3 23 rfl rfl
theorem dksX1_findsParents_5 : cX1_findsParents.data.toList.drop 117 = dktX1_findsParents_5 := dk_seg dksX1_findsParents_4 22 rfl rfl
theorem dX1_findsParents_0 : decode cX1_findsParents 0 = .ok (.iconst 0, 1) := dk_3 (dk_at dksX1_findsParents_0 0 rfl rfl)
theorem dX1_findsParents_1 : decode cX1_findsParents 1 = .ok (.istore_n 2, 1) := dk_61 (dk_at dksX1_findsParents_0 1 rfl rfl)
theorem dX1_findsParents_2 : decode cX1_findsParents 2 = .ok (.iload_n 2, 1) := dk_28 (dk_at dksX1_findsParents_0 2 rfl rfl)
theorem dX1_findsParents_3 : decode cX1_findsParents 3 = .ok (.bipush 48, 2) := dk_16 48 (dk_at dksX1_findsParents_0 3 rfl rfl)
theorem dX1_findsParents_5 : decode cX1_findsParents 5 = .ok (.if_icmp .ge 13, 3) := dk_162 0 13 (dk_at dksX1_findsParents_0 5 rfl rfl)
theorem dX1_findsParents_8 : decode cX1_findsParents 8 = .ok (.aload_n 1, 1) := dk_43 (dk_at dksX1_findsParents_0 8 rfl rfl)
theorem dX1_findsParents_9 : decode cX1_findsParents 9 = .ok (.iload_n 2, 1) := dk_28 (dk_at dksX1_findsParents_0 9 rfl rfl)
theorem dX1_findsParents_10 : decode cX1_findsParents 10 = .ok (.iconst (-1), 1) := dk_2 (dk_at dksX1_findsParents_0 10 rfl rfl)
theorem dX1_findsParents_11 : decode cX1_findsParents 11 = .ok (.iastore, 1) := dk_79 (dk_at dksX1_findsParents_0 11 rfl rfl)
theorem dX1_findsParents_12 : decode cX1_findsParents 12 = .ok (.iinc 2 1, 3) := dk_132 2 1 (dk_at dksX1_findsParents_0 12 rfl rfl)
theorem dX1_findsParents_15 : decode cX1_findsParents 15 = .ok (.goto (-13), 3) := dk_167 255 243 (dk_at dksX1_findsParents_0 15 rfl rfl)
theorem dX1_findsParents_18 : decode cX1_findsParents 18 = .ok (.aload_n 0, 1) := dk_42 (dk_at dksX1_findsParents_0 18 rfl rfl)
theorem dX1_findsParents_19 : decode cX1_findsParents 19 = .ok (.invokeinterface 3 1, 5) := by decide +kernel
theorem dX1_findsParents_24 : decode cX1_findsParents 24 = .ok (.astore_n 2, 1) := dk_77 (dk_at dksX1_findsParents_1 0 rfl rfl)
theorem dX1_findsParents_25 : decode cX1_findsParents 25 = .ok (.aload_n 2, 1) := dk_44 (dk_at dksX1_findsParents_1 1 rfl rfl)
theorem dX1_findsParents_26 : decode cX1_findsParents 26 = .ok (.invokeinterface 9 1, 5) := by decide +kernel
theorem dX1_findsParents_31 : decode cX1_findsParents 31 = .ok (.ifCond .eq 94, 3) := dk_153 0 94 (dk_at dksX1_findsParents_1 7 rfl rfl)
theorem dX1_findsParents_34 : decode cX1_findsParents 34 = .ok (.aload_n 2, 1) := dk_44 (dk_at dksX1_findsParents_1 10 rfl rfl)
theorem dX1_findsParents_35 : decode cX1_findsParents 35 = .ok (.invokeinterface 15 1, 5) := by decide +kernel
theorem dX1_findsParents_40 : decode cX1_findsParents 40 = .ok (.checkcast 19, 3) := dk_192 0 19 (dk_at dksX1_findsParents_1 16 rfl rfl)
theorem dX1_findsParents_43 : decode cX1_findsParents 43 = .ok (.astore_n 3, 1) := dk_78 (dk_at dksX1_findsParents_1 19 rfl rfl)
theorem dX1_findsParents_44 : decode cX1_findsParents 44 = .ok (.aload_n 3, 1) := dk_45 (dk_at dksX1_findsParents_1 20 rfl rfl)
theorem dX1_findsParents_45 : decode cX1_findsParents 45 = .ok (.getfield 21, 3) := dk_180 0 21 (dk_at dksX1_findsParents_1 21 rfl rfl)
theorem dX1_findsParents_48 : decode cX1_findsParents 48 = .ok (.getstatic 25, 3) := dk_178 0 25 (dk_at dksX1_findsParents_2 0 rfl rfl)
theorem dX1_findsParents_51 : decode cX1_findsParents 51 = .ok (.if_acmp .ne 7, 3) := dk_166 0 7 (dk_at dksX1_findsParents_2 3 rfl rfl)
theorem dX1_findsParents_54 : decode cX1_findsParents 54 = .ok (.iconst 1, 1) := dk_4 (dk_at dksX1_findsParents_2 6 rfl rfl)
theorem dX1_findsParents_55 : decode cX1_findsParents 55 = .ok (.goto 4, 3) := dk_167 0 4 (dk_at dksX1_findsParents_2 7 rfl rfl)
theorem dX1_findsParents_58 : decode cX1_findsParents 58 = .ok (.iconst 0, 1) := dk_3 (dk_at dksX1_findsParents_2 10 rfl rfl)
theorem dX1_findsParents_59 : decode cX1_findsParents 59 = .ok (.istore 4, 2) := dk_54 4 (dk_at dksX1_findsParents_2 11 rfl rfl)
theorem dX1_findsParents_61 : decode cX1_findsParents 61 = .ok (.aload_n 3, 1) := dk_45 (dk_at dksX1_findsParents_2 13 rfl rfl)
theorem dX1_findsParents_62 : decode cX1_findsParents 62 = .ok (.getfield 21, 3) := dk_180 0 21 (dk_at dksX1_findsParents_2 14 rfl rfl)
theorem dX1_findsParents_65 : decode cX1_findsParents 65 = .ok (.getstatic 30, 3) := dk_178 0 30 (dk_at dksX1_findsParents_2 17 rfl rfl)
theorem dX1_findsParents_68 : decode cX1_findsParents 68 = .ok (.if_acmp .ne 22, 3) := dk_166 0 22 (dk_at dksX1_findsParents_2 20 rfl rfl)
theorem dX1_findsParents_71 : decode cX1_findsParents 71 = .ok (.aload_n 1, 1) := dk_43 (dk_at dksX1_findsParents_2 23 rfl rfl)
theorem dX1_findsParents_72 : decode cX1_findsParents 72 = .ok (.aload_n 3, 1) := dk_45 (dk_at dksX1_findsParents_3 0 rfl rfl)
theorem dX1_findsParents_73 : decode cX1_findsParents 73 = .ok (.getfield 33, 3) := dk_180 0 33 (dk_at dksX1_findsParents_3 1 rfl rfl)
theorem dX1_findsParents_76 : decode cX1_findsParents 76 = .ok (.aload_n 3, 1) := dk_45 (dk_at dksX1_findsParents_3 4 rfl rfl)
theorem dX1_findsParents_77 : decode cX1_findsParents 77 = .ok (.getfield 37, 3) := dk_180 0 37 (dk_at dksX1_findsParents_3 5 rfl rfl)
theorem dX1_findsParents_80 : decode cX1_findsParents 80 = .ok (.invokestatic 40, 3) := dk_184 0 40 (dk_at dksX1_findsParents_3 8 rfl rfl)
theorem dX1_findsParents_83 : decode cX1_findsParents 83 = .ok (.ifCond .ne 7, 3) := dk_154 0 7 (dk_at dksX1_findsParents_3 11 rfl rfl)
theorem dX1_findsParents_86 : decode cX1_findsParents 86 = .ok (.iconst 1, 1) := dk_4 (dk_at dksX1_findsParents_3 14 rfl rfl)
theorem dX1_findsParents_87 : decode cX1_findsParents 87 = .ok (.goto 4, 3) := dk_167 0 4 (dk_at dksX1_findsParents_3 15 rfl rfl)
theorem dX1_findsParents_90 : decode cX1_findsParents 90 = .ok (.iconst 0, 1) := dk_3 (dk_at dksX1_findsParents_3 18 rfl rfl)
theorem dX1_findsParents_91 : decode cX1_findsParents 91 = .ok (.istore 5, 2) := dk_54 5 (dk_at dksX1_findsParents_3 19 rfl rfl)
theorem dX1_findsParents_93 : decode cX1_findsParents 93 = .ok (.aload_n 1, 1) := dk_43 (dk_at dksX1_findsParents_3 21 rfl rfl)
theorem dX1_findsParents_94 : decode cX1_findsParents 94 = .ok (.aload_n 3, 1) := dk_45 (dk_at dksX1_findsParents_3 22 rfl rfl)
theorem dX1_findsParents_95 : decode cX1_findsParents 95 = .ok (.getfield 33, 3) := dk_180 0 33 (dk_at dksX1_findsParents_4 0 rfl rfl)
theorem dX1_findsParents_98 : decode cX1_findsParents 98 = .ok (.iload 4, 2) := dk_21 4 (dk_at dksX1_findsParents_4 3 rfl rfl)
theorem dX1_findsParents_100 : decode cX1_findsParents 100 = .ok (.ifCond .ne 8, 3) := dk_154 0 8 (dk_at dksX1_findsParents_4 5 rfl rfl)
theorem dX1_findsParents_103 : decode cX1_findsParents 103 = .ok (.iload 5, 2) := dk_21 5 (dk_at dksX1_findsParents_4 8 rfl rfl)
theorem dX1_findsParents_105 : decode cX1_findsParents 105 = .ok (.ifCond .eq 10, 3) := dk_153 0 10 (dk_at dksX1_findsParents_4 10 rfl rfl)
theorem dX1_findsParents_108 : decode cX1_findsParents 108 = .ok (.aload_n 3, 1) := dk_45 (dk_at dksX1_findsParents_4 13 rfl rfl)
theorem dX1_findsParents_109 : decode cX1_findsParents 109 = .ok (.getfield 37, 3) := dk_180 0 37 (dk_at dksX1_findsParents_4 14 rfl rfl)
theorem dX1_findsParents_112 : decode cX1_findsParents 112 = .ok (.goto 9, 3) := dk_167 0 9 (dk_at dksX1_findsParents_4 17 rfl rfl)
theorem dX1_findsParents_115 : decode cX1_findsParents 115 = .ok (.aload_n 1, 1) := dk_43 (dk_at dksX1_findsParents_4 20 rfl rfl)
theorem dX1_findsParents_116 : decode cX1_findsParents 116 = .ok (.aload_n 3, 1) := dk_45 (dk_at dksX1_findsParents_4 21 rfl rfl)
theorem dX1_findsParents_117 : decode cX1_findsParents 117 = .ok (.getfield 33, 3) := dk_180 0 33 (dk_at dksX1_findsParents_5 0 rfl rfl)
theorem dX1_findsParents_120 : decode cX1_findsParents 120 = .ok (.iaload, 1) := dk_46 (dk_at dksX1_findsParents_5 3 rfl rfl)
theorem dX1_findsParents_121 : decode cX1_findsParents 121 = .ok (.iastore, 1) := dk_79 (dk_at dksX1_findsParents_5 4 rfl rfl)
theorem dX1_findsParents_122 : decode cX1_findsParents 122 = .ok (.goto (-97), 3) := dk_167 255 159 (dk_at dksX1_findsParents_5 5 rfl rfl)
theorem dX1_findsParents_125 : decode cX1_findsParents 125 = .ok (.return_, 1) := dk_177 (dk_at dksX1_findsParents_5 8 rfl rfl)
def fX1_findsParents_b121 (e : Nat → Nat) (N : Nat) (k25 : Mm → Option Nat → Option Nat → Rs (Unit)) (m : Mm) (v1 : Option Nat) (v2 : Option Nat) (s0 : Option Nat) (s1 : Int32) (s2 : Int32) : Rs (Unit) := bi_ m s0 200 s1 s2 (fun m1 => k25 m1 v1 v2)
def fX1_findsParents_b108 (e : Nat → Nat) (N : Nat) (k25 : Mm → Option Nat → Option Nat → Rs (Unit)) (m : Mm) (v1 : Option Nat) (v2 : Option Nat) (v3 : Option Nat) (s0 : Option Nat) (s1 : Int32) : Rs (Unit) := gi_ m v3 7 5 (fun x1 => fX1_findsParents_b121 e N k25 m v1 v2 s0 s1 x1)
def fX1_findsParents_b91 (e : Nat → Nat) (N : Nat) (k25 : Mm → Option Nat → Option Nat → Rs (Unit)) (m : Mm) (v1 : Option Nat) (v2 : Option Nat) (v3 : Option Nat) (v4 : Int32) (s0 : Int32) : Rs (Unit) := gi_ m v3 7 4 (fun x1 => if v4 = 0 then (if s0 = 0 then (gi_ m v3 7 4 (fun x2 => ai_ m v1 200 x2 (fun x3 => fX1_findsParents_b121 e N k25 m v1 v2 v1 x1 x3))) else (fX1_findsParents_b108 e N k25 m v1 v2 v3 v1 x1)) else (fX1_findsParents_b108 e N k25 m v1 v2 v3 v1 x1))
def fX1_findsParents_b90 (e : Nat → Nat) (N : Nat) (k25 : Mm → Option Nat → Option Nat → Rs (Unit)) (m : Mm) (v1 : Option Nat) (v2 : Option Nat) (v3 : Option Nat) (v4 : Int32) : Rs (Unit) := fX1_findsParents_b91 e N k25 m v1 v2 v3 v4 0
def fX1_findsParents_b59 (e : Nat → Nat) (N : Nat) (k25 : Mm → Option Nat → Option Nat → Rs (Unit)) (m : Mm) (v1 : Option Nat) (v2 : Option Nat) (v3 : Option Nat) (s0 : Int32) : Rs (Unit) := gr_ m v3 7 3 (fun x1 => if x1 = (some (e 13)) then (gi_ m v3 7 4 (fun x2 => gi_ m v3 7 5 (fun x3 => bd_ (fX1_isAbove e N m v1 x2 x3) (fun x4 m1 => if x4 = 0 then (fX1_findsParents_b91 e N k25 m1 v1 v2 v3 s0 1) else (fX1_findsParents_b90 e N k25 m1 v1 v2 v3 s0))))) else (fX1_findsParents_b90 e N k25 m v1 v2 v3 s0))
def fX1_findsParents_b25 (e : Nat → Nat) (N : Nat) : Nat → Mm → Option Nat → Option Nat → Rs (Unit)
  | 0, _, _, _ => none
  | F + 1, m, v1, v2 => ck_ m v2 14 (bd_ (fJ34_hasNext e N m v2) (fun x1 m1 => if x1 = 0 then (rt_ () m1) else (ck_ m1 v2 14 (bd_ (fJ34_next e N m1 v2) (fun x2 m2 => cc_ m2 x2 [7] (gr_ m2 x2 7 3 (fun x3 => if x3 = (some (e 6)) then (fX1_findsParents_b59 e N (fX1_findsParents_b25 e N F) m2 v1 v2 x2 1) else (fX1_findsParents_b59 e N (fX1_findsParents_b25 e N F) m2 v1 v2 x2 0))))))))
def fX1_findsParents_b2 (e : Nat → Nat) (N : Nat) : Nat → Mm → Option Nat → Option Nat → Int32 → Rs (Unit)
  | 0, _, _, _, _ => none
  | F + 1, m, v0, v1, v2 => if v2 < 48 then (bi_ m v1 200 v2 (-1) (fun m1 => fX1_findsParents_b2 e N F m1 v0 v1 (v2 + 1))) else (ck_ m v0 13 (bd_ (fJ2_iterator e N m v0) (fun x1 m2 => fX1_findsParents_b25 e N N m2 v1 x1)))
def fX1_findsParents (e : Nat → Nat) (N : Nat) (m : Mm) (v0 : Option Nat) (v1 : Option Nat) : Rs (Unit) := fX1_findsParents_b2 e N N m v0 v1 0
abbrev cJ20_init : ByteArray := prog_43_method_1_code
def yJ20_init : MethodName := ⟨RJ20, "<init>", "()V"⟩
theorem dJ20_init_0 : decode cJ20_init 0 = .ok (.aload_n 0, 1) := by decide +kernel
theorem dJ20_init_1 : decode cJ20_init 1 = .ok (.invokespecial 1, 3) := by decide +kernel
theorem dJ20_init_4 : decode cJ20_init 4 = .ok (.return_, 1) := by decide +kernel
def fJ20_init_t28 (e : Nat → Nat) (N : Nat) (m : Mm) (v0 : Option Nat) : Rs (Unit) := ok_ v0 (rt_ () m)
abbrev cJ28_init : ByteArray := prog_40_method_26_code
def yJ28_init : MethodName := ⟨RJ28, "<init>", "(J)V"⟩
def dkwJ28_init_0 : List UInt8 := [42, 183, 1, 14, 42, 31, 181, 1, 17, 177]
abbrev dktJ28_init_0 : List UInt8 := dkwJ28_init_0 ++ []
theorem dksJ28_init_0 : cJ28_init.data.toList.drop 0 = dktJ28_init_0 := by decide +kernel
theorem dJ28_init_0 : decode cJ28_init 0 = .ok (.aload_n 0, 1) := dk_42 (dk_at dksJ28_init_0 0 rfl rfl)
theorem dJ28_init_1 : decode cJ28_init 1 = .ok (.invokespecial 270, 3) := dk_183 1 14 (dk_at dksJ28_init_0 1 rfl rfl)
theorem dJ28_init_4 : decode cJ28_init 4 = .ok (.aload_n 0, 1) := dk_42 (dk_at dksJ28_init_0 4 rfl rfl)
theorem dJ28_init_5 : decode cJ28_init 5 = .ok (.lload_n 1, 1) := dk_31 (dk_at dksJ28_init_0 5 rfl rfl)
theorem dJ28_init_6 : decode cJ28_init 6 = .ok (.putfield 273, 3) := dk_181 1 17 (dk_at dksJ28_init_0 6 rfl rfl)
theorem dJ28_init_9 : decode cJ28_init 9 = .ok (.return_, 1) := dk_177 (dk_at dksJ28_init_0 9 rfl rfl)
def fJ28_init (e : Nat → Nat) (N : Nat) (m : Mm) (v0 : Option Nat) (v1 : Int64) : Rs (Unit) := ok_ v0 (bd_ (fJ20_init_t28 e N m v0) (fun _ m1 => wb_ m1 v0 (pj_ m1 v0 28 0 v1 (fun m2 => rt_ () m2))))
abbrev cJ28_valueOf : ByteArray := prog_40_method_24_code
def yJ28_valueOf : MethodName := ⟨RJ28, "valueOf", "(J)Ljava/lang/Long;"⟩
def dkwJ28_valueOf_1 : List UInt8 := [136, 17, 0, 128, 96, 50, 176, 187, 0, 1, 89, 30, 183, 0, 240, 176]
abbrev dktJ28_valueOf_1 : List UInt8 := dkwJ28_valueOf_1 ++ []
def dkwJ28_valueOf_0 : List UInt8 := [17, 0, 128, 61, 30, 20, 0, 230, 148, 155, 0, 22, 30, 20, 0, 232, 148, 157, 0, 14, 178, 0, 234, 30]
abbrev dktJ28_valueOf_0 : List UInt8 := dkwJ28_valueOf_0 ++ dktJ28_valueOf_1
theorem dksJ28_valueOf_0 : cJ28_valueOf.data.toList.drop 0 = dktJ28_valueOf_0 := by decide +kernel
theorem dksJ28_valueOf_1 : cJ28_valueOf.data.toList.drop 24 = dktJ28_valueOf_1 := dk_seg dksJ28_valueOf_0 24 rfl rfl
theorem dJ28_valueOf_0 : decode cJ28_valueOf 0 = .ok (.sipush 128, 3) := dk_17 0 128 (dk_at dksJ28_valueOf_0 0 rfl rfl)
theorem dJ28_valueOf_3 : decode cJ28_valueOf 3 = .ok (.istore_n 2, 1) := dk_61 (dk_at dksJ28_valueOf_0 3 rfl rfl)
theorem dJ28_valueOf_4 : decode cJ28_valueOf 4 = .ok (.lload_n 0, 1) := dk_30 (dk_at dksJ28_valueOf_0 4 rfl rfl)
theorem dJ28_valueOf_5 : decode cJ28_valueOf 5 = .ok (.ldc2_w 230, 3) := dk_20 0 230 (dk_at dksJ28_valueOf_0 5 rfl rfl)
theorem dJ28_valueOf_8 : decode cJ28_valueOf 8 = .ok (.lcmp, 1) := dk_148 (dk_at dksJ28_valueOf_0 8 rfl rfl)
theorem dJ28_valueOf_9 : decode cJ28_valueOf 9 = .ok (.ifCond .lt 22, 3) := dk_155 0 22 (dk_at dksJ28_valueOf_0 9 rfl rfl)
theorem dJ28_valueOf_12 : decode cJ28_valueOf 12 = .ok (.lload_n 0, 1) := dk_30 (dk_at dksJ28_valueOf_0 12 rfl rfl)
theorem dJ28_valueOf_13 : decode cJ28_valueOf 13 = .ok (.ldc2_w 232, 3) := dk_20 0 232 (dk_at dksJ28_valueOf_0 13 rfl rfl)
theorem dJ28_valueOf_16 : decode cJ28_valueOf 16 = .ok (.lcmp, 1) := dk_148 (dk_at dksJ28_valueOf_0 16 rfl rfl)
theorem dJ28_valueOf_17 : decode cJ28_valueOf 17 = .ok (.ifCond .gt 14, 3) := dk_157 0 14 (dk_at dksJ28_valueOf_0 17 rfl rfl)
theorem dJ28_valueOf_20 : decode cJ28_valueOf 20 = .ok (.getstatic 234, 3) := dk_178 0 234 (dk_at dksJ28_valueOf_0 20 rfl rfl)
theorem dJ28_valueOf_23 : decode cJ28_valueOf 23 = .ok (.lload_n 0, 1) := dk_30 (dk_at dksJ28_valueOf_0 23 rfl rfl)
theorem dJ28_valueOf_24 : decode cJ28_valueOf 24 = .ok (.l2i, 1) := dk_136 (dk_at dksJ28_valueOf_1 0 rfl rfl)
theorem dJ28_valueOf_25 : decode cJ28_valueOf 25 = .ok (.sipush 128, 3) := dk_17 0 128 (dk_at dksJ28_valueOf_1 1 rfl rfl)
theorem dJ28_valueOf_28 : decode cJ28_valueOf 28 = .ok (.iadd, 1) := dk_96 (dk_at dksJ28_valueOf_1 4 rfl rfl)
theorem dJ28_valueOf_29 : decode cJ28_valueOf 29 = .ok (.aaload, 1) := dk_50 (dk_at dksJ28_valueOf_1 5 rfl rfl)
theorem dJ28_valueOf_30 : decode cJ28_valueOf 30 = .ok (.areturn, 1) := dk_176 (dk_at dksJ28_valueOf_1 6 rfl rfl)
theorem dJ28_valueOf_31 : decode cJ28_valueOf 31 = .ok (.new 1, 3) := dk_187 0 1 (dk_at dksJ28_valueOf_1 7 rfl rfl)
theorem dJ28_valueOf_34 : decode cJ28_valueOf 34 = .ok (.dup, 1) := dk_89 (dk_at dksJ28_valueOf_1 10 rfl rfl)
theorem dJ28_valueOf_35 : decode cJ28_valueOf 35 = .ok (.lload_n 0, 1) := dk_30 (dk_at dksJ28_valueOf_1 11 rfl rfl)
theorem dJ28_valueOf_36 : decode cJ28_valueOf 36 = .ok (.invokespecial 240, 3) := dk_183 0 240 (dk_at dksJ28_valueOf_1 12 rfl rfl)
theorem dJ28_valueOf_39 : decode cJ28_valueOf 39 = .ok (.areturn, 1) := dk_176 (dk_at dksJ28_valueOf_1 15 rfl rfl)
def fJ28_valueOf_b31 (e : Nat → Nat) (N : Nat) (m : Mm) (v0 : Int64) : Rs (Option Nat) := nw_ m 28 1 (fun x1 m1 => bd_ (fJ28_init e N m1 (some x1) v0) (fun _ m2 => rt_ (some x1) m2))
def fJ28_valueOf (e : Nat → Nat) (N : Nat) (m : Mm) (v0 : Int64) : Rs (Option Nat) := if (lg_cmp v0 (-128)) < 0 then (fJ28_valueOf_b31 e N m v0) else (if 0 < (lg_cmp v0 127) then (fJ28_valueOf_b31 e N m v0) else (ar_ m (some (e 5)) 208 (((v0 : Int64).toInt32) + 128) (fun x1 => rt_ x1 m)))
abbrev cJ4_parentOf : ByteArray := prog_79_method_77_code
def yJ4_parentOf : MethodName := ⟨RJ4, "parentOf", "(Ljava/util/TreeMap$Entry;)Ljava/util/TreeMap$Entry;"⟩
def dkwJ4_parentOf_0 : List UInt8 := [42, 199, 0, 7, 1, 167, 0, 7, 42, 180, 0, 124, 176]
abbrev dktJ4_parentOf_0 : List UInt8 := dkwJ4_parentOf_0 ++ []
theorem dksJ4_parentOf_0 : cJ4_parentOf.data.toList.drop 0 = dktJ4_parentOf_0 := by decide +kernel
theorem dJ4_parentOf_0 : decode cJ4_parentOf 0 = .ok (.aload_n 0, 1) := dk_42 (dk_at dksJ4_parentOf_0 0 rfl rfl)
theorem dJ4_parentOf_1 : decode cJ4_parentOf 1 = .ok (.ifnonnull 7, 3) := dk_199 0 7 (dk_at dksJ4_parentOf_0 1 rfl rfl)
theorem dJ4_parentOf_4 : decode cJ4_parentOf 4 = .ok (.aconst_null, 1) := dk_1 (dk_at dksJ4_parentOf_0 4 rfl rfl)
theorem dJ4_parentOf_5 : decode cJ4_parentOf 5 = .ok (.goto 7, 3) := dk_167 0 7 (dk_at dksJ4_parentOf_0 5 rfl rfl)
theorem dJ4_parentOf_8 : decode cJ4_parentOf 8 = .ok (.aload_n 0, 1) := dk_42 (dk_at dksJ4_parentOf_0 8 rfl rfl)
theorem dJ4_parentOf_9 : decode cJ4_parentOf 9 = .ok (.getfield 124, 3) := dk_180 0 124 (dk_at dksJ4_parentOf_0 9 rfl rfl)
theorem dJ4_parentOf_12 : decode cJ4_parentOf 12 = .ok (.areturn, 1) := dk_176 (dk_at dksJ4_parentOf_0 12 rfl rfl)
def fJ4_parentOf_b12 (e : Nat → Nat) (N : Nat) (m : Mm) (s0 : Option Nat) : Rs (Option Nat) := rt_ s0 m
def fJ4_parentOf (e : Nat → Nat) (N : Nat) (m : Mm) (v0 : Option Nat) : Rs (Option Nat) := if v0 = none then (fJ4_parentOf_b12 e N m none) else (gr_ m v0 16 4 (fun x1 => fJ4_parentOf_b12 e N m x1))
abbrev cJ4_setColor : ByteArray := prog_79_method_78_code
def yJ4_setColor : MethodName := ⟨RJ4, "setColor", "(Ljava/util/TreeMap$Entry;Z)V"⟩
def dkwJ4_setColor_0 : List UInt8 := [42, 198, 0, 8, 42, 27, 181, 1, 34, 177]
abbrev dktJ4_setColor_0 : List UInt8 := dkwJ4_setColor_0 ++ []
theorem dksJ4_setColor_0 : cJ4_setColor.data.toList.drop 0 = dktJ4_setColor_0 := by decide +kernel
theorem dJ4_setColor_0 : decode cJ4_setColor 0 = .ok (.aload_n 0, 1) := dk_42 (dk_at dksJ4_setColor_0 0 rfl rfl)
theorem dJ4_setColor_1 : decode cJ4_setColor 1 = .ok (.ifnull 8, 3) := dk_198 0 8 (dk_at dksJ4_setColor_0 1 rfl rfl)
theorem dJ4_setColor_4 : decode cJ4_setColor 4 = .ok (.aload_n 0, 1) := dk_42 (dk_at dksJ4_setColor_0 4 rfl rfl)
theorem dJ4_setColor_5 : decode cJ4_setColor 5 = .ok (.iload_n 1, 1) := dk_27 (dk_at dksJ4_setColor_0 5 rfl rfl)
theorem dJ4_setColor_6 : decode cJ4_setColor 6 = .ok (.putfield 290, 3) := dk_181 1 34 (dk_at dksJ4_setColor_0 6 rfl rfl)
theorem dJ4_setColor_9 : decode cJ4_setColor 9 = .ok (.return_, 1) := dk_177 (dk_at dksJ4_setColor_0 9 rfl rfl)
def fJ4_setColor_b9 (e : Nat → Nat) (N : Nat) (m : Mm) : Rs (Unit) := rt_ () m
def fJ4_setColor (e : Nat → Nat) (N : Nat) (m : Mm) (v0 : Option Nat) (v1 : Int32) : Rs (Unit) := if v0 = none then (fJ4_setColor_b9 e N m) else (pz_ m v0 16 5 v1 (fun m1 => fJ4_setColor_b9 e N m1))
abbrev cJ4_rotateRight : ByteArray := prog_79_method_82_code
def yJ4_rotateRight : MethodName := ⟨RJ4, "rotateRight", "(Ljava/util/TreeMap$Entry;)V"⟩
def dkwJ4_rotateRight_4 : List UInt8 := [177]
abbrev dktJ4_rotateRight_4 : List UInt8 := dkwJ4_rotateRight_4 ++ []
def dkwJ4_rotateRight_3 : List UInt8 := [181, 0, 114, 167, 0, 11, 43, 180, 0, 124, 44, 181, 0, 111, 44, 43, 181, 0, 114, 43, 44, 181, 0, 124]
abbrev dktJ4_rotateRight_3 : List UInt8 := dkwJ4_rotateRight_3 ++ dktJ4_rotateRight_4
def dkwJ4_rotateRight_2 : List UInt8 := [44, 181, 0, 101, 167, 0, 33, 43, 180, 0, 124, 180, 0, 114, 43, 166, 0, 14, 43, 180, 0, 124, 44]
abbrev dktJ4_rotateRight_2 : List UInt8 := dkwJ4_rotateRight_2 ++ dktJ4_rotateRight_3
def dkwJ4_rotateRight_1 : List UInt8 := [44, 180, 0, 114, 43, 181, 0, 124, 44, 43, 180, 0, 124, 181, 0, 124, 43, 180, 0, 124, 199, 0, 11, 42]
abbrev dktJ4_rotateRight_1 : List UInt8 := dkwJ4_rotateRight_1 ++ dktJ4_rotateRight_2
def dkwJ4_rotateRight_0 : List UInt8 := [43, 198, 0, 94, 43, 180, 0, 111, 77, 43, 44, 180, 0, 114, 181, 0, 111, 44, 180, 0, 114, 198, 0, 11]
abbrev dktJ4_rotateRight_0 : List UInt8 := dkwJ4_rotateRight_0 ++ dktJ4_rotateRight_1
theorem dksJ4_rotateRight_0 : cJ4_rotateRight.data.toList.drop 0 = dktJ4_rotateRight_0 := by decide +kernel
theorem dksJ4_rotateRight_1 : cJ4_rotateRight.data.toList.drop 24 = dktJ4_rotateRight_1 := dk_seg dksJ4_rotateRight_0 24 rfl rfl
theorem dksJ4_rotateRight_2 : cJ4_rotateRight.data.toList.drop 48 = dktJ4_rotateRight_2 := dk_seg dksJ4_rotateRight_1 24 rfl rfl
theorem dksJ4_rotateRight_3 : cJ4_rotateRight.data.toList.drop 71 = dktJ4_rotateRight_3 := dk_seg dksJ4_rotateRight_2 23 rfl rfl
theorem dksJ4_rotateRight_4 : cJ4_rotateRight.data.toList.drop 95 = dktJ4_rotateRight_4 := dk_seg dksJ4_rotateRight_3 24 rfl rfl
theorem dJ4_rotateRight_0 : decode cJ4_rotateRight 0 = .ok (.aload_n 1, 1) := dk_43 (dk_at dksJ4_rotateRight_0 0 rfl rfl)
theorem dJ4_rotateRight_1 : decode cJ4_rotateRight 1 = .ok (.ifnull 94, 3) := dk_198 0 94 (dk_at dksJ4_rotateRight_0 1 rfl rfl)
theorem dJ4_rotateRight_4 : decode cJ4_rotateRight 4 = .ok (.aload_n 1, 1) := dk_43 (dk_at dksJ4_rotateRight_0 4 rfl rfl)
theorem dJ4_rotateRight_5 : decode cJ4_rotateRight 5 = .ok (.getfield 111, 3) := dk_180 0 111 (dk_at dksJ4_rotateRight_0 5 rfl rfl)
theorem dJ4_rotateRight_8 : decode cJ4_rotateRight 8 = .ok (.astore_n 2, 1) := dk_77 (dk_at dksJ4_rotateRight_0 8 rfl rfl)
theorem dJ4_rotateRight_9 : decode cJ4_rotateRight 9 = .ok (.aload_n 1, 1) := dk_43 (dk_at dksJ4_rotateRight_0 9 rfl rfl)
theorem dJ4_rotateRight_10 : decode cJ4_rotateRight 10 = .ok (.aload_n 2, 1) := dk_44 (dk_at dksJ4_rotateRight_0 10 rfl rfl)
theorem dJ4_rotateRight_11 : decode cJ4_rotateRight 11 = .ok (.getfield 114, 3) := dk_180 0 114 (dk_at dksJ4_rotateRight_0 11 rfl rfl)
theorem dJ4_rotateRight_14 : decode cJ4_rotateRight 14 = .ok (.putfield 111, 3) := dk_181 0 111 (dk_at dksJ4_rotateRight_0 14 rfl rfl)
theorem dJ4_rotateRight_17 : decode cJ4_rotateRight 17 = .ok (.aload_n 2, 1) := dk_44 (dk_at dksJ4_rotateRight_0 17 rfl rfl)
theorem dJ4_rotateRight_18 : decode cJ4_rotateRight 18 = .ok (.getfield 114, 3) := dk_180 0 114 (dk_at dksJ4_rotateRight_0 18 rfl rfl)
theorem dJ4_rotateRight_21 : decode cJ4_rotateRight 21 = .ok (.ifnull 11, 3) := dk_198 0 11 (dk_at dksJ4_rotateRight_0 21 rfl rfl)
theorem dJ4_rotateRight_24 : decode cJ4_rotateRight 24 = .ok (.aload_n 2, 1) := dk_44 (dk_at dksJ4_rotateRight_1 0 rfl rfl)
theorem dJ4_rotateRight_25 : decode cJ4_rotateRight 25 = .ok (.getfield 114, 3) := dk_180 0 114 (dk_at dksJ4_rotateRight_1 1 rfl rfl)
theorem dJ4_rotateRight_28 : decode cJ4_rotateRight 28 = .ok (.aload_n 1, 1) := dk_43 (dk_at dksJ4_rotateRight_1 4 rfl rfl)
theorem dJ4_rotateRight_29 : decode cJ4_rotateRight 29 = .ok (.putfield 124, 3) := dk_181 0 124 (dk_at dksJ4_rotateRight_1 5 rfl rfl)
theorem dJ4_rotateRight_32 : decode cJ4_rotateRight 32 = .ok (.aload_n 2, 1) := dk_44 (dk_at dksJ4_rotateRight_1 8 rfl rfl)
theorem dJ4_rotateRight_33 : decode cJ4_rotateRight 33 = .ok (.aload_n 1, 1) := dk_43 (dk_at dksJ4_rotateRight_1 9 rfl rfl)
theorem dJ4_rotateRight_34 : decode cJ4_rotateRight 34 = .ok (.getfield 124, 3) := dk_180 0 124 (dk_at dksJ4_rotateRight_1 10 rfl rfl)
theorem dJ4_rotateRight_37 : decode cJ4_rotateRight 37 = .ok (.putfield 124, 3) := dk_181 0 124 (dk_at dksJ4_rotateRight_1 13 rfl rfl)
theorem dJ4_rotateRight_40 : decode cJ4_rotateRight 40 = .ok (.aload_n 1, 1) := dk_43 (dk_at dksJ4_rotateRight_1 16 rfl rfl)
theorem dJ4_rotateRight_41 : decode cJ4_rotateRight 41 = .ok (.getfield 124, 3) := dk_180 0 124 (dk_at dksJ4_rotateRight_1 17 rfl rfl)
theorem dJ4_rotateRight_44 : decode cJ4_rotateRight 44 = .ok (.ifnonnull 11, 3) := dk_199 0 11 (dk_at dksJ4_rotateRight_1 20 rfl rfl)
theorem dJ4_rotateRight_47 : decode cJ4_rotateRight 47 = .ok (.aload_n 0, 1) := dk_42 (dk_at dksJ4_rotateRight_1 23 rfl rfl)
theorem dJ4_rotateRight_48 : decode cJ4_rotateRight 48 = .ok (.aload_n 2, 1) := dk_44 (dk_at dksJ4_rotateRight_2 0 rfl rfl)
theorem dJ4_rotateRight_49 : decode cJ4_rotateRight 49 = .ok (.putfield 101, 3) := dk_181 0 101 (dk_at dksJ4_rotateRight_2 1 rfl rfl)
theorem dJ4_rotateRight_52 : decode cJ4_rotateRight 52 = .ok (.goto 33, 3) := dk_167 0 33 (dk_at dksJ4_rotateRight_2 4 rfl rfl)
theorem dJ4_rotateRight_55 : decode cJ4_rotateRight 55 = .ok (.aload_n 1, 1) := dk_43 (dk_at dksJ4_rotateRight_2 7 rfl rfl)
theorem dJ4_rotateRight_56 : decode cJ4_rotateRight 56 = .ok (.getfield 124, 3) := dk_180 0 124 (dk_at dksJ4_rotateRight_2 8 rfl rfl)
theorem dJ4_rotateRight_59 : decode cJ4_rotateRight 59 = .ok (.getfield 114, 3) := dk_180 0 114 (dk_at dksJ4_rotateRight_2 11 rfl rfl)
theorem dJ4_rotateRight_62 : decode cJ4_rotateRight 62 = .ok (.aload_n 1, 1) := dk_43 (dk_at dksJ4_rotateRight_2 14 rfl rfl)
theorem dJ4_rotateRight_63 : decode cJ4_rotateRight 63 = .ok (.if_acmp .ne 14, 3) := dk_166 0 14 (dk_at dksJ4_rotateRight_2 15 rfl rfl)
theorem dJ4_rotateRight_66 : decode cJ4_rotateRight 66 = .ok (.aload_n 1, 1) := dk_43 (dk_at dksJ4_rotateRight_2 18 rfl rfl)
theorem dJ4_rotateRight_67 : decode cJ4_rotateRight 67 = .ok (.getfield 124, 3) := dk_180 0 124 (dk_at dksJ4_rotateRight_2 19 rfl rfl)
theorem dJ4_rotateRight_70 : decode cJ4_rotateRight 70 = .ok (.aload_n 2, 1) := dk_44 (dk_at dksJ4_rotateRight_2 22 rfl rfl)
theorem dJ4_rotateRight_71 : decode cJ4_rotateRight 71 = .ok (.putfield 114, 3) := dk_181 0 114 (dk_at dksJ4_rotateRight_3 0 rfl rfl)
theorem dJ4_rotateRight_74 : decode cJ4_rotateRight 74 = .ok (.goto 11, 3) := dk_167 0 11 (dk_at dksJ4_rotateRight_3 3 rfl rfl)
theorem dJ4_rotateRight_77 : decode cJ4_rotateRight 77 = .ok (.aload_n 1, 1) := dk_43 (dk_at dksJ4_rotateRight_3 6 rfl rfl)
theorem dJ4_rotateRight_78 : decode cJ4_rotateRight 78 = .ok (.getfield 124, 3) := dk_180 0 124 (dk_at dksJ4_rotateRight_3 7 rfl rfl)
theorem dJ4_rotateRight_81 : decode cJ4_rotateRight 81 = .ok (.aload_n 2, 1) := dk_44 (dk_at dksJ4_rotateRight_3 10 rfl rfl)
theorem dJ4_rotateRight_82 : decode cJ4_rotateRight 82 = .ok (.putfield 111, 3) := dk_181 0 111 (dk_at dksJ4_rotateRight_3 11 rfl rfl)
theorem dJ4_rotateRight_85 : decode cJ4_rotateRight 85 = .ok (.aload_n 2, 1) := dk_44 (dk_at dksJ4_rotateRight_3 14 rfl rfl)
theorem dJ4_rotateRight_86 : decode cJ4_rotateRight 86 = .ok (.aload_n 1, 1) := dk_43 (dk_at dksJ4_rotateRight_3 15 rfl rfl)
theorem dJ4_rotateRight_87 : decode cJ4_rotateRight 87 = .ok (.putfield 114, 3) := dk_181 0 114 (dk_at dksJ4_rotateRight_3 16 rfl rfl)
theorem dJ4_rotateRight_90 : decode cJ4_rotateRight 90 = .ok (.aload_n 1, 1) := dk_43 (dk_at dksJ4_rotateRight_3 19 rfl rfl)
theorem dJ4_rotateRight_91 : decode cJ4_rotateRight 91 = .ok (.aload_n 2, 1) := dk_44 (dk_at dksJ4_rotateRight_3 20 rfl rfl)
theorem dJ4_rotateRight_92 : decode cJ4_rotateRight 92 = .ok (.putfield 124, 3) := dk_181 0 124 (dk_at dksJ4_rotateRight_3 21 rfl rfl)
theorem dJ4_rotateRight_95 : decode cJ4_rotateRight 95 = .ok (.return_, 1) := dk_177 (dk_at dksJ4_rotateRight_4 0 rfl rfl)
def fJ4_rotateRight_b95 (e : Nat → Nat) (N : Nat) (m : Mm) : Rs (Unit) := rt_ () m
def fJ4_rotateRight_b85 (e : Nat → Nat) (N : Nat) (m : Mm) (v1 : Option Nat) (v2 : Option Nat) : Rs (Unit) := pr_ m v2 16 3 v1 (fun m1 => pr_ m1 v1 16 4 v2 (fun m2 => fJ4_rotateRight_b95 e N m2))
def fJ4_rotateRight_b32 (e : Nat → Nat) (N : Nat) (m : Mm) (v0 : Option Nat) (v1 : Option Nat) (v2 : Option Nat) : Rs (Unit) := gr_ m v1 16 4 (fun x1 => pr_ m v2 16 4 x1 (fun m1 => gr_ m1 v1 16 4 (fun x2 => if x2 = none then (pr_ m1 v0 15 3 v2 (fun m2 => fJ4_rotateRight_b85 e N m2 v1 v2)) else (gr_ m1 v1 16 4 (fun x3 => gr_ m1 x3 16 3 (fun x4 => if x4 = v1 then (gr_ m1 v1 16 4 (fun x5 => pr_ m1 x5 16 3 v2 (fun m3 => fJ4_rotateRight_b85 e N m3 v1 v2))) else (gr_ m1 v1 16 4 (fun x6 => pr_ m1 x6 16 2 v2 (fun m4 => fJ4_rotateRight_b85 e N m4 v1 v2)))))))))
def fJ4_rotateRight (e : Nat → Nat) (N : Nat) (m : Mm) (v0 : Option Nat) (v1 : Option Nat) : Rs (Unit) := if v1 = none then (fJ4_rotateRight_b95 e N m) else (gr_ m v1 16 2 (fun x1 => gr_ m x1 16 3 (fun x2 => pr_ m v1 16 2 x2 (fun m1 => gr_ m1 x1 16 3 (fun x3 => if x3 = none then (fJ4_rotateRight_b32 e N m1 v0 v1 x1) else (gr_ m1 x1 16 3 (fun x4 => pr_ m1 x4 16 4 v1 (fun m2 => fJ4_rotateRight_b32 e N m2 v0 v1 x1))))))))
abbrev cJ4_rotateLeft : ByteArray := prog_79_method_81_code
def yJ4_rotateLeft : MethodName := ⟨RJ4, "rotateLeft", "(Ljava/util/TreeMap$Entry;)V"⟩
def dkwJ4_rotateLeft_4 : List UInt8 := [177]
abbrev dktJ4_rotateLeft_4 : List UInt8 := dkwJ4_rotateLeft_4 ++ []
def dkwJ4_rotateLeft_3 : List UInt8 := [181, 0, 111, 167, 0, 11, 43, 180, 0, 124, 44, 181, 0, 114, 44, 43, 181, 0, 111, 43, 44, 181, 0, 124]
abbrev dktJ4_rotateLeft_3 : List UInt8 := dkwJ4_rotateLeft_3 ++ dktJ4_rotateLeft_4
def dkwJ4_rotateLeft_2 : List UInt8 := [44, 181, 0, 101, 167, 0, 33, 43, 180, 0, 124, 180, 0, 111, 43, 166, 0, 14, 43, 180, 0, 124, 44]
abbrev dktJ4_rotateLeft_2 : List UInt8 := dkwJ4_rotateLeft_2 ++ dktJ4_rotateLeft_3
def dkwJ4_rotateLeft_1 : List UInt8 := [44, 180, 0, 111, 43, 181, 0, 124, 44, 43, 180, 0, 124, 181, 0, 124, 43, 180, 0, 124, 199, 0, 11, 42]
abbrev dktJ4_rotateLeft_1 : List UInt8 := dkwJ4_rotateLeft_1 ++ dktJ4_rotateLeft_2
def dkwJ4_rotateLeft_0 : List UInt8 := [43, 198, 0, 94, 43, 180, 0, 114, 77, 43, 44, 180, 0, 111, 181, 0, 114, 44, 180, 0, 111, 198, 0, 11]
abbrev dktJ4_rotateLeft_0 : List UInt8 := dkwJ4_rotateLeft_0 ++ dktJ4_rotateLeft_1
theorem dksJ4_rotateLeft_0 : cJ4_rotateLeft.data.toList.drop 0 = dktJ4_rotateLeft_0 := by decide +kernel
theorem dksJ4_rotateLeft_1 : cJ4_rotateLeft.data.toList.drop 24 = dktJ4_rotateLeft_1 := dk_seg dksJ4_rotateLeft_0 24 rfl rfl
theorem dksJ4_rotateLeft_2 : cJ4_rotateLeft.data.toList.drop 48 = dktJ4_rotateLeft_2 := dk_seg dksJ4_rotateLeft_1 24 rfl rfl
theorem dksJ4_rotateLeft_3 : cJ4_rotateLeft.data.toList.drop 71 = dktJ4_rotateLeft_3 := dk_seg dksJ4_rotateLeft_2 23 rfl rfl
theorem dksJ4_rotateLeft_4 : cJ4_rotateLeft.data.toList.drop 95 = dktJ4_rotateLeft_4 := dk_seg dksJ4_rotateLeft_3 24 rfl rfl
theorem dJ4_rotateLeft_0 : decode cJ4_rotateLeft 0 = .ok (.aload_n 1, 1) := dk_43 (dk_at dksJ4_rotateLeft_0 0 rfl rfl)
theorem dJ4_rotateLeft_1 : decode cJ4_rotateLeft 1 = .ok (.ifnull 94, 3) := dk_198 0 94 (dk_at dksJ4_rotateLeft_0 1 rfl rfl)
theorem dJ4_rotateLeft_4 : decode cJ4_rotateLeft 4 = .ok (.aload_n 1, 1) := dk_43 (dk_at dksJ4_rotateLeft_0 4 rfl rfl)
theorem dJ4_rotateLeft_5 : decode cJ4_rotateLeft 5 = .ok (.getfield 114, 3) := dk_180 0 114 (dk_at dksJ4_rotateLeft_0 5 rfl rfl)
theorem dJ4_rotateLeft_8 : decode cJ4_rotateLeft 8 = .ok (.astore_n 2, 1) := dk_77 (dk_at dksJ4_rotateLeft_0 8 rfl rfl)
theorem dJ4_rotateLeft_9 : decode cJ4_rotateLeft 9 = .ok (.aload_n 1, 1) := dk_43 (dk_at dksJ4_rotateLeft_0 9 rfl rfl)
theorem dJ4_rotateLeft_10 : decode cJ4_rotateLeft 10 = .ok (.aload_n 2, 1) := dk_44 (dk_at dksJ4_rotateLeft_0 10 rfl rfl)
theorem dJ4_rotateLeft_11 : decode cJ4_rotateLeft 11 = .ok (.getfield 111, 3) := dk_180 0 111 (dk_at dksJ4_rotateLeft_0 11 rfl rfl)
theorem dJ4_rotateLeft_14 : decode cJ4_rotateLeft 14 = .ok (.putfield 114, 3) := dk_181 0 114 (dk_at dksJ4_rotateLeft_0 14 rfl rfl)
theorem dJ4_rotateLeft_17 : decode cJ4_rotateLeft 17 = .ok (.aload_n 2, 1) := dk_44 (dk_at dksJ4_rotateLeft_0 17 rfl rfl)
theorem dJ4_rotateLeft_18 : decode cJ4_rotateLeft 18 = .ok (.getfield 111, 3) := dk_180 0 111 (dk_at dksJ4_rotateLeft_0 18 rfl rfl)
theorem dJ4_rotateLeft_21 : decode cJ4_rotateLeft 21 = .ok (.ifnull 11, 3) := dk_198 0 11 (dk_at dksJ4_rotateLeft_0 21 rfl rfl)
theorem dJ4_rotateLeft_24 : decode cJ4_rotateLeft 24 = .ok (.aload_n 2, 1) := dk_44 (dk_at dksJ4_rotateLeft_1 0 rfl rfl)
theorem dJ4_rotateLeft_25 : decode cJ4_rotateLeft 25 = .ok (.getfield 111, 3) := dk_180 0 111 (dk_at dksJ4_rotateLeft_1 1 rfl rfl)
theorem dJ4_rotateLeft_28 : decode cJ4_rotateLeft 28 = .ok (.aload_n 1, 1) := dk_43 (dk_at dksJ4_rotateLeft_1 4 rfl rfl)
theorem dJ4_rotateLeft_29 : decode cJ4_rotateLeft 29 = .ok (.putfield 124, 3) := dk_181 0 124 (dk_at dksJ4_rotateLeft_1 5 rfl rfl)
theorem dJ4_rotateLeft_32 : decode cJ4_rotateLeft 32 = .ok (.aload_n 2, 1) := dk_44 (dk_at dksJ4_rotateLeft_1 8 rfl rfl)
theorem dJ4_rotateLeft_33 : decode cJ4_rotateLeft 33 = .ok (.aload_n 1, 1) := dk_43 (dk_at dksJ4_rotateLeft_1 9 rfl rfl)
theorem dJ4_rotateLeft_34 : decode cJ4_rotateLeft 34 = .ok (.getfield 124, 3) := dk_180 0 124 (dk_at dksJ4_rotateLeft_1 10 rfl rfl)
theorem dJ4_rotateLeft_37 : decode cJ4_rotateLeft 37 = .ok (.putfield 124, 3) := dk_181 0 124 (dk_at dksJ4_rotateLeft_1 13 rfl rfl)
theorem dJ4_rotateLeft_40 : decode cJ4_rotateLeft 40 = .ok (.aload_n 1, 1) := dk_43 (dk_at dksJ4_rotateLeft_1 16 rfl rfl)
theorem dJ4_rotateLeft_41 : decode cJ4_rotateLeft 41 = .ok (.getfield 124, 3) := dk_180 0 124 (dk_at dksJ4_rotateLeft_1 17 rfl rfl)
theorem dJ4_rotateLeft_44 : decode cJ4_rotateLeft 44 = .ok (.ifnonnull 11, 3) := dk_199 0 11 (dk_at dksJ4_rotateLeft_1 20 rfl rfl)
theorem dJ4_rotateLeft_47 : decode cJ4_rotateLeft 47 = .ok (.aload_n 0, 1) := dk_42 (dk_at dksJ4_rotateLeft_1 23 rfl rfl)
theorem dJ4_rotateLeft_48 : decode cJ4_rotateLeft 48 = .ok (.aload_n 2, 1) := dk_44 (dk_at dksJ4_rotateLeft_2 0 rfl rfl)
theorem dJ4_rotateLeft_49 : decode cJ4_rotateLeft 49 = .ok (.putfield 101, 3) := dk_181 0 101 (dk_at dksJ4_rotateLeft_2 1 rfl rfl)
theorem dJ4_rotateLeft_52 : decode cJ4_rotateLeft 52 = .ok (.goto 33, 3) := dk_167 0 33 (dk_at dksJ4_rotateLeft_2 4 rfl rfl)
theorem dJ4_rotateLeft_55 : decode cJ4_rotateLeft 55 = .ok (.aload_n 1, 1) := dk_43 (dk_at dksJ4_rotateLeft_2 7 rfl rfl)
theorem dJ4_rotateLeft_56 : decode cJ4_rotateLeft 56 = .ok (.getfield 124, 3) := dk_180 0 124 (dk_at dksJ4_rotateLeft_2 8 rfl rfl)
theorem dJ4_rotateLeft_59 : decode cJ4_rotateLeft 59 = .ok (.getfield 111, 3) := dk_180 0 111 (dk_at dksJ4_rotateLeft_2 11 rfl rfl)
theorem dJ4_rotateLeft_62 : decode cJ4_rotateLeft 62 = .ok (.aload_n 1, 1) := dk_43 (dk_at dksJ4_rotateLeft_2 14 rfl rfl)
theorem dJ4_rotateLeft_63 : decode cJ4_rotateLeft 63 = .ok (.if_acmp .ne 14, 3) := dk_166 0 14 (dk_at dksJ4_rotateLeft_2 15 rfl rfl)
theorem dJ4_rotateLeft_66 : decode cJ4_rotateLeft 66 = .ok (.aload_n 1, 1) := dk_43 (dk_at dksJ4_rotateLeft_2 18 rfl rfl)
theorem dJ4_rotateLeft_67 : decode cJ4_rotateLeft 67 = .ok (.getfield 124, 3) := dk_180 0 124 (dk_at dksJ4_rotateLeft_2 19 rfl rfl)
theorem dJ4_rotateLeft_70 : decode cJ4_rotateLeft 70 = .ok (.aload_n 2, 1) := dk_44 (dk_at dksJ4_rotateLeft_2 22 rfl rfl)
theorem dJ4_rotateLeft_71 : decode cJ4_rotateLeft 71 = .ok (.putfield 111, 3) := dk_181 0 111 (dk_at dksJ4_rotateLeft_3 0 rfl rfl)
theorem dJ4_rotateLeft_74 : decode cJ4_rotateLeft 74 = .ok (.goto 11, 3) := dk_167 0 11 (dk_at dksJ4_rotateLeft_3 3 rfl rfl)
theorem dJ4_rotateLeft_77 : decode cJ4_rotateLeft 77 = .ok (.aload_n 1, 1) := dk_43 (dk_at dksJ4_rotateLeft_3 6 rfl rfl)
theorem dJ4_rotateLeft_78 : decode cJ4_rotateLeft 78 = .ok (.getfield 124, 3) := dk_180 0 124 (dk_at dksJ4_rotateLeft_3 7 rfl rfl)
theorem dJ4_rotateLeft_81 : decode cJ4_rotateLeft 81 = .ok (.aload_n 2, 1) := dk_44 (dk_at dksJ4_rotateLeft_3 10 rfl rfl)
theorem dJ4_rotateLeft_82 : decode cJ4_rotateLeft 82 = .ok (.putfield 114, 3) := dk_181 0 114 (dk_at dksJ4_rotateLeft_3 11 rfl rfl)
theorem dJ4_rotateLeft_85 : decode cJ4_rotateLeft 85 = .ok (.aload_n 2, 1) := dk_44 (dk_at dksJ4_rotateLeft_3 14 rfl rfl)
theorem dJ4_rotateLeft_86 : decode cJ4_rotateLeft 86 = .ok (.aload_n 1, 1) := dk_43 (dk_at dksJ4_rotateLeft_3 15 rfl rfl)
theorem dJ4_rotateLeft_87 : decode cJ4_rotateLeft 87 = .ok (.putfield 111, 3) := dk_181 0 111 (dk_at dksJ4_rotateLeft_3 16 rfl rfl)
theorem dJ4_rotateLeft_90 : decode cJ4_rotateLeft 90 = .ok (.aload_n 1, 1) := dk_43 (dk_at dksJ4_rotateLeft_3 19 rfl rfl)
theorem dJ4_rotateLeft_91 : decode cJ4_rotateLeft 91 = .ok (.aload_n 2, 1) := dk_44 (dk_at dksJ4_rotateLeft_3 20 rfl rfl)
theorem dJ4_rotateLeft_92 : decode cJ4_rotateLeft 92 = .ok (.putfield 124, 3) := dk_181 0 124 (dk_at dksJ4_rotateLeft_3 21 rfl rfl)
theorem dJ4_rotateLeft_95 : decode cJ4_rotateLeft 95 = .ok (.return_, 1) := dk_177 (dk_at dksJ4_rotateLeft_4 0 rfl rfl)
def fJ4_rotateLeft_b95 (e : Nat → Nat) (N : Nat) (m : Mm) : Rs (Unit) := rt_ () m
def fJ4_rotateLeft_b85 (e : Nat → Nat) (N : Nat) (m : Mm) (v1 : Option Nat) (v2 : Option Nat) : Rs (Unit) := pr_ m v2 16 2 v1 (fun m1 => pr_ m1 v1 16 4 v2 (fun m2 => fJ4_rotateLeft_b95 e N m2))
def fJ4_rotateLeft_b32 (e : Nat → Nat) (N : Nat) (m : Mm) (v0 : Option Nat) (v1 : Option Nat) (v2 : Option Nat) : Rs (Unit) := gr_ m v1 16 4 (fun x1 => pr_ m v2 16 4 x1 (fun m1 => gr_ m1 v1 16 4 (fun x2 => if x2 = none then (pr_ m1 v0 15 3 v2 (fun m2 => fJ4_rotateLeft_b85 e N m2 v1 v2)) else (gr_ m1 v1 16 4 (fun x3 => gr_ m1 x3 16 2 (fun x4 => if x4 = v1 then (gr_ m1 v1 16 4 (fun x5 => pr_ m1 x5 16 2 v2 (fun m3 => fJ4_rotateLeft_b85 e N m3 v1 v2))) else (gr_ m1 v1 16 4 (fun x6 => pr_ m1 x6 16 3 v2 (fun m4 => fJ4_rotateLeft_b85 e N m4 v1 v2)))))))))
def fJ4_rotateLeft (e : Nat → Nat) (N : Nat) (m : Mm) (v0 : Option Nat) (v1 : Option Nat) : Rs (Unit) := if v1 = none then (fJ4_rotateLeft_b95 e N m) else (gr_ m v1 16 3 (fun x1 => gr_ m x1 16 2 (fun x2 => pr_ m v1 16 3 x2 (fun m1 => gr_ m1 x1 16 2 (fun x3 => if x3 = none then (fJ4_rotateLeft_b32 e N m1 v0 v1 x1) else (gr_ m1 x1 16 2 (fun x4 => pr_ m1 x4 16 4 v1 (fun m2 => fJ4_rotateLeft_b32 e N m2 v0 v1 x1))))))))
abbrev cJ4_leftOf : ByteArray := prog_79_method_79_code
def yJ4_leftOf : MethodName := ⟨RJ4, "leftOf", "(Ljava/util/TreeMap$Entry;)Ljava/util/TreeMap$Entry;"⟩
def dkwJ4_leftOf_0 : List UInt8 := [42, 199, 0, 7, 1, 167, 0, 7, 42, 180, 0, 111, 176]
abbrev dktJ4_leftOf_0 : List UInt8 := dkwJ4_leftOf_0 ++ []
theorem dksJ4_leftOf_0 : cJ4_leftOf.data.toList.drop 0 = dktJ4_leftOf_0 := by decide +kernel
theorem dJ4_leftOf_0 : decode cJ4_leftOf 0 = .ok (.aload_n 0, 1) := dk_42 (dk_at dksJ4_leftOf_0 0 rfl rfl)
theorem dJ4_leftOf_1 : decode cJ4_leftOf 1 = .ok (.ifnonnull 7, 3) := dk_199 0 7 (dk_at dksJ4_leftOf_0 1 rfl rfl)
theorem dJ4_leftOf_4 : decode cJ4_leftOf 4 = .ok (.aconst_null, 1) := dk_1 (dk_at dksJ4_leftOf_0 4 rfl rfl)
theorem dJ4_leftOf_5 : decode cJ4_leftOf 5 = .ok (.goto 7, 3) := dk_167 0 7 (dk_at dksJ4_leftOf_0 5 rfl rfl)
theorem dJ4_leftOf_8 : decode cJ4_leftOf 8 = .ok (.aload_n 0, 1) := dk_42 (dk_at dksJ4_leftOf_0 8 rfl rfl)
theorem dJ4_leftOf_9 : decode cJ4_leftOf 9 = .ok (.getfield 111, 3) := dk_180 0 111 (dk_at dksJ4_leftOf_0 9 rfl rfl)
theorem dJ4_leftOf_12 : decode cJ4_leftOf 12 = .ok (.areturn, 1) := dk_176 (dk_at dksJ4_leftOf_0 12 rfl rfl)
def fJ4_leftOf_b12 (e : Nat → Nat) (N : Nat) (m : Mm) (s0 : Option Nat) : Rs (Option Nat) := rt_ s0 m
def fJ4_leftOf (e : Nat → Nat) (N : Nat) (m : Mm) (v0 : Option Nat) : Rs (Option Nat) := if v0 = none then (fJ4_leftOf_b12 e N m none) else (gr_ m v0 16 2 (fun x1 => fJ4_leftOf_b12 e N m x1))
abbrev cJ4_rightOf : ByteArray := prog_79_method_80_code
def yJ4_rightOf : MethodName := ⟨RJ4, "rightOf", "(Ljava/util/TreeMap$Entry;)Ljava/util/TreeMap$Entry;"⟩
def dkwJ4_rightOf_0 : List UInt8 := [42, 199, 0, 7, 1, 167, 0, 7, 42, 180, 0, 114, 176]
abbrev dktJ4_rightOf_0 : List UInt8 := dkwJ4_rightOf_0 ++ []
theorem dksJ4_rightOf_0 : cJ4_rightOf.data.toList.drop 0 = dktJ4_rightOf_0 := by decide +kernel
theorem dJ4_rightOf_0 : decode cJ4_rightOf 0 = .ok (.aload_n 0, 1) := dk_42 (dk_at dksJ4_rightOf_0 0 rfl rfl)
theorem dJ4_rightOf_1 : decode cJ4_rightOf 1 = .ok (.ifnonnull 7, 3) := dk_199 0 7 (dk_at dksJ4_rightOf_0 1 rfl rfl)
theorem dJ4_rightOf_4 : decode cJ4_rightOf 4 = .ok (.aconst_null, 1) := dk_1 (dk_at dksJ4_rightOf_0 4 rfl rfl)
theorem dJ4_rightOf_5 : decode cJ4_rightOf 5 = .ok (.goto 7, 3) := dk_167 0 7 (dk_at dksJ4_rightOf_0 5 rfl rfl)
theorem dJ4_rightOf_8 : decode cJ4_rightOf 8 = .ok (.aload_n 0, 1) := dk_42 (dk_at dksJ4_rightOf_0 8 rfl rfl)
theorem dJ4_rightOf_9 : decode cJ4_rightOf 9 = .ok (.getfield 114, 3) := dk_180 0 114 (dk_at dksJ4_rightOf_0 9 rfl rfl)
theorem dJ4_rightOf_12 : decode cJ4_rightOf 12 = .ok (.areturn, 1) := dk_176 (dk_at dksJ4_rightOf_0 12 rfl rfl)
def fJ4_rightOf_b12 (e : Nat → Nat) (N : Nat) (m : Mm) (s0 : Option Nat) : Rs (Option Nat) := rt_ s0 m
def fJ4_rightOf (e : Nat → Nat) (N : Nat) (m : Mm) (v0 : Option Nat) : Rs (Option Nat) := if v0 = none then (fJ4_rightOf_b12 e N m none) else (gr_ m v0 16 3 (fun x1 => fJ4_rightOf_b12 e N m x1))
abbrev cJ4_colorOf : ByteArray := prog_79_method_76_code
def yJ4_colorOf : MethodName := ⟨RJ4, "colorOf", "(Ljava/util/TreeMap$Entry;)Z"⟩
def dkwJ4_colorOf_0 : List UInt8 := [42, 199, 0, 7, 4, 167, 0, 7, 42, 180, 1, 34, 172]
abbrev dktJ4_colorOf_0 : List UInt8 := dkwJ4_colorOf_0 ++ []
theorem dksJ4_colorOf_0 : cJ4_colorOf.data.toList.drop 0 = dktJ4_colorOf_0 := by decide +kernel
theorem dJ4_colorOf_0 : decode cJ4_colorOf 0 = .ok (.aload_n 0, 1) := dk_42 (dk_at dksJ4_colorOf_0 0 rfl rfl)
theorem dJ4_colorOf_1 : decode cJ4_colorOf 1 = .ok (.ifnonnull 7, 3) := dk_199 0 7 (dk_at dksJ4_colorOf_0 1 rfl rfl)
theorem dJ4_colorOf_4 : decode cJ4_colorOf 4 = .ok (.iconst 1, 1) := dk_4 (dk_at dksJ4_colorOf_0 4 rfl rfl)
theorem dJ4_colorOf_5 : decode cJ4_colorOf 5 = .ok (.goto 7, 3) := dk_167 0 7 (dk_at dksJ4_colorOf_0 5 rfl rfl)
theorem dJ4_colorOf_8 : decode cJ4_colorOf 8 = .ok (.aload_n 0, 1) := dk_42 (dk_at dksJ4_colorOf_0 8 rfl rfl)
theorem dJ4_colorOf_9 : decode cJ4_colorOf 9 = .ok (.getfield 290, 3) := dk_180 1 34 (dk_at dksJ4_colorOf_0 9 rfl rfl)
theorem dJ4_colorOf_12 : decode cJ4_colorOf 12 = .ok (.ireturn, 1) := dk_172 (dk_at dksJ4_colorOf_0 12 rfl rfl)
def fJ4_colorOf_b12 (e : Nat → Nat) (N : Nat) (m : Mm) (s0 : Int32) : Rs (Int32) := rz_ s0 s0 m
def fJ4_colorOf (e : Nat → Nat) (N : Nat) (m : Mm) (v0 : Option Nat) : Rs (Int32) := if v0 = none then (fJ4_colorOf_b12 e N m 1) else (gi_ m v0 16 5 (fun x1 => fJ4_colorOf_b12 e N m x1))
abbrev cJ4_fixAfterInsertion : ByteArray := prog_79_method_83_code
def yJ4_fixAfterInsertion : MethodName := ⟨RJ4, "fixAfterInsertion", "(Ljava/util/TreeMap$Entry;)V"⟩
def dkwJ4_fixAfterInsertion_11 : List UInt8 := [42, 180, 0, 101, 4, 181, 1, 34, 177]
abbrev dktJ4_fixAfterInsertion_11 : List UInt8 := dkwJ4_fixAfterInsertion_11 ++ []
def dkwJ4_fixAfterInsertion_10 : List UInt8 := [184, 1, 38, 184, 1, 38, 3, 184, 1, 51, 42, 43, 184, 1, 38, 184, 1, 38, 182, 1, 55, 167, 255, 6]
abbrev dktJ4_fixAfterInsertion_10 : List UInt8 := dkwJ4_fixAfterInsertion_10 ++ dktJ4_fixAfterInsertion_11
def dkwJ4_fixAfterInsertion_9 : List UInt8 := [166, 0, 13, 43, 184, 1, 38, 76, 42, 43, 182, 1, 58, 43, 184, 1, 38, 4, 184, 1, 51, 43]
abbrev dktJ4_fixAfterInsertion_9 : List UInt8 := dkwJ4_fixAfterInsertion_9 ++ dktJ4_fixAfterInsertion_10
def dkwJ4_fixAfterInsertion_8 : List UInt8 := [184, 1, 51, 43, 184, 1, 38, 184, 1, 38, 76, 167, 0, 54, 43, 43, 184, 1, 38, 184, 1, 41]
abbrev dktJ4_fixAfterInsertion_8 : List UInt8 := dkwJ4_fixAfterInsertion_8 ++ dktJ4_fixAfterInsertion_9
def dkwJ4_fixAfterInsertion_7 : List UInt8 := [154, 0, 38, 43, 184, 1, 38, 4, 184, 1, 51, 44, 4, 184, 1, 51, 43, 184, 1, 38, 184, 1, 38, 3]
abbrev dktJ4_fixAfterInsertion_7 : List UInt8 := dkwJ4_fixAfterInsertion_7 ++ dktJ4_fixAfterInsertion_8
def dkwJ4_fixAfterInsertion_6 : List UInt8 := [184, 1, 38, 182, 1, 58, 167, 255, 113, 43, 184, 1, 38, 184, 1, 38, 184, 1, 41, 77, 44, 184, 1, 47]
abbrev dktJ4_fixAfterInsertion_6 : List UInt8 := dkwJ4_fixAfterInsertion_6 ++ dktJ4_fixAfterInsertion_7
def dkwJ4_fixAfterInsertion_5 : List UInt8 := [43, 184, 1, 38, 4, 184, 1, 51, 43, 184, 1, 38, 184, 1, 38, 3, 184, 1, 51, 42, 43, 184, 1, 38]
abbrev dktJ4_fixAfterInsertion_5 : List UInt8 := dkwJ4_fixAfterInsertion_5 ++ dktJ4_fixAfterInsertion_6
def dkwJ4_fixAfterInsertion_4 : List UInt8 := [167, 0, 54, 43, 43, 184, 1, 38, 184, 1, 44, 166, 0, 13, 43, 184, 1, 38, 76, 42, 43, 182, 1, 55]
abbrev dktJ4_fixAfterInsertion_4 : List UInt8 := dkwJ4_fixAfterInsertion_4 ++ dktJ4_fixAfterInsertion_5
def dkwJ4_fixAfterInsertion_3 : List UInt8 := [184, 1, 51, 43, 184, 1, 38, 184, 1, 38, 3, 184, 1, 51, 43, 184, 1, 38, 184, 1, 38, 76]
abbrev dktJ4_fixAfterInsertion_3 : List UInt8 := dkwJ4_fixAfterInsertion_3 ++ dktJ4_fixAfterInsertion_4
def dkwJ4_fixAfterInsertion_2 : List UInt8 := [184, 1, 38, 184, 1, 44, 77, 44, 184, 1, 47, 154, 0, 38, 43, 184, 1, 38, 4, 184, 1, 51, 44, 4]
abbrev dktJ4_fixAfterInsertion_2 : List UInt8 := dkwJ4_fixAfterInsertion_2 ++ dktJ4_fixAfterInsertion_3
def dkwJ4_fixAfterInsertion_1 : List UInt8 := [154, 0, 234, 43, 184, 1, 38, 43, 184, 1, 38, 184, 1, 38, 184, 1, 41, 166, 0, 110, 43, 184, 1, 38]
abbrev dktJ4_fixAfterInsertion_1 : List UInt8 := dkwJ4_fixAfterInsertion_1 ++ dktJ4_fixAfterInsertion_2
def dkwJ4_fixAfterInsertion_0 : List UInt8 := [43, 3, 181, 1, 34, 43, 198, 0, 252, 43, 42, 180, 0, 101, 165, 0, 244, 43, 180, 0, 124, 180, 1, 34]
abbrev dktJ4_fixAfterInsertion_0 : List UInt8 := dkwJ4_fixAfterInsertion_0 ++ dktJ4_fixAfterInsertion_1
theorem dksJ4_fixAfterInsertion_0 : cJ4_fixAfterInsertion.data.toList.drop 0 = dktJ4_fixAfterInsertion_0 := by decide +kernel
theorem dksJ4_fixAfterInsertion_1 : cJ4_fixAfterInsertion.data.toList.drop 24 = dktJ4_fixAfterInsertion_1 := dk_seg dksJ4_fixAfterInsertion_0 24 rfl rfl
theorem dksJ4_fixAfterInsertion_2 : cJ4_fixAfterInsertion.data.toList.drop 48 = dktJ4_fixAfterInsertion_2 := dk_seg dksJ4_fixAfterInsertion_1 24 rfl rfl
theorem dksJ4_fixAfterInsertion_3 : cJ4_fixAfterInsertion.data.toList.drop 72 = dktJ4_fixAfterInsertion_3 := dk_seg dksJ4_fixAfterInsertion_2 24 rfl rfl
theorem dksJ4_fixAfterInsertion_4 : cJ4_fixAfterInsertion.data.toList.drop 94 = dktJ4_fixAfterInsertion_4 := dk_seg dksJ4_fixAfterInsertion_3 22 rfl rfl
theorem dksJ4_fixAfterInsertion_5 : cJ4_fixAfterInsertion.data.toList.drop 118 = dktJ4_fixAfterInsertion_5 := dk_seg dksJ4_fixAfterInsertion_4 24 rfl rfl
theorem dksJ4_fixAfterInsertion_6 : cJ4_fixAfterInsertion.data.toList.drop 142 = dktJ4_fixAfterInsertion_6 := dk_seg dksJ4_fixAfterInsertion_5 24 rfl rfl
theorem dksJ4_fixAfterInsertion_7 : cJ4_fixAfterInsertion.data.toList.drop 166 = dktJ4_fixAfterInsertion_7 := dk_seg dksJ4_fixAfterInsertion_6 24 rfl rfl
theorem dksJ4_fixAfterInsertion_8 : cJ4_fixAfterInsertion.data.toList.drop 190 = dktJ4_fixAfterInsertion_8 := dk_seg dksJ4_fixAfterInsertion_7 24 rfl rfl
theorem dksJ4_fixAfterInsertion_9 : cJ4_fixAfterInsertion.data.toList.drop 212 = dktJ4_fixAfterInsertion_9 := dk_seg dksJ4_fixAfterInsertion_8 22 rfl rfl
theorem dksJ4_fixAfterInsertion_10 : cJ4_fixAfterInsertion.data.toList.drop 234 = dktJ4_fixAfterInsertion_10 := dk_seg dksJ4_fixAfterInsertion_9 22 rfl rfl
theorem dksJ4_fixAfterInsertion_11 : cJ4_fixAfterInsertion.data.toList.drop 258 = dktJ4_fixAfterInsertion_11 := dk_seg dksJ4_fixAfterInsertion_10 24 rfl rfl
theorem dJ4_fixAfterInsertion_0 : decode cJ4_fixAfterInsertion 0 = .ok (.aload_n 1, 1) := dk_43 (dk_at dksJ4_fixAfterInsertion_0 0 rfl rfl)
theorem dJ4_fixAfterInsertion_1 : decode cJ4_fixAfterInsertion 1 = .ok (.iconst 0, 1) := dk_3 (dk_at dksJ4_fixAfterInsertion_0 1 rfl rfl)
theorem dJ4_fixAfterInsertion_2 : decode cJ4_fixAfterInsertion 2 = .ok (.putfield 290, 3) := dk_181 1 34 (dk_at dksJ4_fixAfterInsertion_0 2 rfl rfl)
theorem dJ4_fixAfterInsertion_5 : decode cJ4_fixAfterInsertion 5 = .ok (.aload_n 1, 1) := dk_43 (dk_at dksJ4_fixAfterInsertion_0 5 rfl rfl)
theorem dJ4_fixAfterInsertion_6 : decode cJ4_fixAfterInsertion 6 = .ok (.ifnull 252, 3) := dk_198 0 252 (dk_at dksJ4_fixAfterInsertion_0 6 rfl rfl)
theorem dJ4_fixAfterInsertion_9 : decode cJ4_fixAfterInsertion 9 = .ok (.aload_n 1, 1) := dk_43 (dk_at dksJ4_fixAfterInsertion_0 9 rfl rfl)
theorem dJ4_fixAfterInsertion_10 : decode cJ4_fixAfterInsertion 10 = .ok (.aload_n 0, 1) := dk_42 (dk_at dksJ4_fixAfterInsertion_0 10 rfl rfl)
theorem dJ4_fixAfterInsertion_11 : decode cJ4_fixAfterInsertion 11 = .ok (.getfield 101, 3) := dk_180 0 101 (dk_at dksJ4_fixAfterInsertion_0 11 rfl rfl)
theorem dJ4_fixAfterInsertion_14 : decode cJ4_fixAfterInsertion 14 = .ok (.if_acmp .eq 244, 3) := dk_165 0 244 (dk_at dksJ4_fixAfterInsertion_0 14 rfl rfl)
theorem dJ4_fixAfterInsertion_17 : decode cJ4_fixAfterInsertion 17 = .ok (.aload_n 1, 1) := dk_43 (dk_at dksJ4_fixAfterInsertion_0 17 rfl rfl)
theorem dJ4_fixAfterInsertion_18 : decode cJ4_fixAfterInsertion 18 = .ok (.getfield 124, 3) := dk_180 0 124 (dk_at dksJ4_fixAfterInsertion_0 18 rfl rfl)
theorem dJ4_fixAfterInsertion_21 : decode cJ4_fixAfterInsertion 21 = .ok (.getfield 290, 3) := dk_180 1 34 (dk_at dksJ4_fixAfterInsertion_0 21 rfl rfl)
theorem dJ4_fixAfterInsertion_24 : decode cJ4_fixAfterInsertion 24 = .ok (.ifCond .ne 234, 3) := dk_154 0 234 (dk_at dksJ4_fixAfterInsertion_1 0 rfl rfl)
theorem dJ4_fixAfterInsertion_27 : decode cJ4_fixAfterInsertion 27 = .ok (.aload_n 1, 1) := dk_43 (dk_at dksJ4_fixAfterInsertion_1 3 rfl rfl)
theorem dJ4_fixAfterInsertion_28 : decode cJ4_fixAfterInsertion 28 = .ok (.invokestatic 294, 3) := dk_184 1 38 (dk_at dksJ4_fixAfterInsertion_1 4 rfl rfl)
theorem dJ4_fixAfterInsertion_31 : decode cJ4_fixAfterInsertion 31 = .ok (.aload_n 1, 1) := dk_43 (dk_at dksJ4_fixAfterInsertion_1 7 rfl rfl)
theorem dJ4_fixAfterInsertion_32 : decode cJ4_fixAfterInsertion 32 = .ok (.invokestatic 294, 3) := dk_184 1 38 (dk_at dksJ4_fixAfterInsertion_1 8 rfl rfl)
theorem dJ4_fixAfterInsertion_35 : decode cJ4_fixAfterInsertion 35 = .ok (.invokestatic 294, 3) := dk_184 1 38 (dk_at dksJ4_fixAfterInsertion_1 11 rfl rfl)
theorem dJ4_fixAfterInsertion_38 : decode cJ4_fixAfterInsertion 38 = .ok (.invokestatic 297, 3) := dk_184 1 41 (dk_at dksJ4_fixAfterInsertion_1 14 rfl rfl)
theorem dJ4_fixAfterInsertion_41 : decode cJ4_fixAfterInsertion 41 = .ok (.if_acmp .ne 110, 3) := dk_166 0 110 (dk_at dksJ4_fixAfterInsertion_1 17 rfl rfl)
theorem dJ4_fixAfterInsertion_44 : decode cJ4_fixAfterInsertion 44 = .ok (.aload_n 1, 1) := dk_43 (dk_at dksJ4_fixAfterInsertion_1 20 rfl rfl)
theorem dJ4_fixAfterInsertion_45 : decode cJ4_fixAfterInsertion 45 = .ok (.invokestatic 294, 3) := dk_184 1 38 (dk_at dksJ4_fixAfterInsertion_1 21 rfl rfl)
theorem dJ4_fixAfterInsertion_48 : decode cJ4_fixAfterInsertion 48 = .ok (.invokestatic 294, 3) := dk_184 1 38 (dk_at dksJ4_fixAfterInsertion_2 0 rfl rfl)
theorem dJ4_fixAfterInsertion_51 : decode cJ4_fixAfterInsertion 51 = .ok (.invokestatic 300, 3) := dk_184 1 44 (dk_at dksJ4_fixAfterInsertion_2 3 rfl rfl)
theorem dJ4_fixAfterInsertion_54 : decode cJ4_fixAfterInsertion 54 = .ok (.astore_n 2, 1) := dk_77 (dk_at dksJ4_fixAfterInsertion_2 6 rfl rfl)
theorem dJ4_fixAfterInsertion_55 : decode cJ4_fixAfterInsertion 55 = .ok (.aload_n 2, 1) := dk_44 (dk_at dksJ4_fixAfterInsertion_2 7 rfl rfl)
theorem dJ4_fixAfterInsertion_56 : decode cJ4_fixAfterInsertion 56 = .ok (.invokestatic 303, 3) := dk_184 1 47 (dk_at dksJ4_fixAfterInsertion_2 8 rfl rfl)
theorem dJ4_fixAfterInsertion_59 : decode cJ4_fixAfterInsertion 59 = .ok (.ifCond .ne 38, 3) := dk_154 0 38 (dk_at dksJ4_fixAfterInsertion_2 11 rfl rfl)
theorem dJ4_fixAfterInsertion_62 : decode cJ4_fixAfterInsertion 62 = .ok (.aload_n 1, 1) := dk_43 (dk_at dksJ4_fixAfterInsertion_2 14 rfl rfl)
theorem dJ4_fixAfterInsertion_63 : decode cJ4_fixAfterInsertion 63 = .ok (.invokestatic 294, 3) := dk_184 1 38 (dk_at dksJ4_fixAfterInsertion_2 15 rfl rfl)
theorem dJ4_fixAfterInsertion_66 : decode cJ4_fixAfterInsertion 66 = .ok (.iconst 1, 1) := dk_4 (dk_at dksJ4_fixAfterInsertion_2 18 rfl rfl)
theorem dJ4_fixAfterInsertion_67 : decode cJ4_fixAfterInsertion 67 = .ok (.invokestatic 307, 3) := dk_184 1 51 (dk_at dksJ4_fixAfterInsertion_2 19 rfl rfl)
theorem dJ4_fixAfterInsertion_70 : decode cJ4_fixAfterInsertion 70 = .ok (.aload_n 2, 1) := dk_44 (dk_at dksJ4_fixAfterInsertion_2 22 rfl rfl)
theorem dJ4_fixAfterInsertion_71 : decode cJ4_fixAfterInsertion 71 = .ok (.iconst 1, 1) := dk_4 (dk_at dksJ4_fixAfterInsertion_2 23 rfl rfl)
theorem dJ4_fixAfterInsertion_72 : decode cJ4_fixAfterInsertion 72 = .ok (.invokestatic 307, 3) := dk_184 1 51 (dk_at dksJ4_fixAfterInsertion_3 0 rfl rfl)
theorem dJ4_fixAfterInsertion_75 : decode cJ4_fixAfterInsertion 75 = .ok (.aload_n 1, 1) := dk_43 (dk_at dksJ4_fixAfterInsertion_3 3 rfl rfl)
theorem dJ4_fixAfterInsertion_76 : decode cJ4_fixAfterInsertion 76 = .ok (.invokestatic 294, 3) := dk_184 1 38 (dk_at dksJ4_fixAfterInsertion_3 4 rfl rfl)
theorem dJ4_fixAfterInsertion_79 : decode cJ4_fixAfterInsertion 79 = .ok (.invokestatic 294, 3) := dk_184 1 38 (dk_at dksJ4_fixAfterInsertion_3 7 rfl rfl)
theorem dJ4_fixAfterInsertion_82 : decode cJ4_fixAfterInsertion 82 = .ok (.iconst 0, 1) := dk_3 (dk_at dksJ4_fixAfterInsertion_3 10 rfl rfl)
theorem dJ4_fixAfterInsertion_83 : decode cJ4_fixAfterInsertion 83 = .ok (.invokestatic 307, 3) := dk_184 1 51 (dk_at dksJ4_fixAfterInsertion_3 11 rfl rfl)
theorem dJ4_fixAfterInsertion_86 : decode cJ4_fixAfterInsertion 86 = .ok (.aload_n 1, 1) := dk_43 (dk_at dksJ4_fixAfterInsertion_3 14 rfl rfl)
theorem dJ4_fixAfterInsertion_87 : decode cJ4_fixAfterInsertion 87 = .ok (.invokestatic 294, 3) := dk_184 1 38 (dk_at dksJ4_fixAfterInsertion_3 15 rfl rfl)
theorem dJ4_fixAfterInsertion_90 : decode cJ4_fixAfterInsertion 90 = .ok (.invokestatic 294, 3) := dk_184 1 38 (dk_at dksJ4_fixAfterInsertion_3 18 rfl rfl)
theorem dJ4_fixAfterInsertion_93 : decode cJ4_fixAfterInsertion 93 = .ok (.astore_n 1, 1) := dk_76 (dk_at dksJ4_fixAfterInsertion_3 21 rfl rfl)
theorem dJ4_fixAfterInsertion_94 : decode cJ4_fixAfterInsertion 94 = .ok (.goto 54, 3) := dk_167 0 54 (dk_at dksJ4_fixAfterInsertion_4 0 rfl rfl)
theorem dJ4_fixAfterInsertion_97 : decode cJ4_fixAfterInsertion 97 = .ok (.aload_n 1, 1) := dk_43 (dk_at dksJ4_fixAfterInsertion_4 3 rfl rfl)
theorem dJ4_fixAfterInsertion_98 : decode cJ4_fixAfterInsertion 98 = .ok (.aload_n 1, 1) := dk_43 (dk_at dksJ4_fixAfterInsertion_4 4 rfl rfl)
theorem dJ4_fixAfterInsertion_99 : decode cJ4_fixAfterInsertion 99 = .ok (.invokestatic 294, 3) := dk_184 1 38 (dk_at dksJ4_fixAfterInsertion_4 5 rfl rfl)
theorem dJ4_fixAfterInsertion_102 : decode cJ4_fixAfterInsertion 102 = .ok (.invokestatic 300, 3) := dk_184 1 44 (dk_at dksJ4_fixAfterInsertion_4 8 rfl rfl)
theorem dJ4_fixAfterInsertion_105 : decode cJ4_fixAfterInsertion 105 = .ok (.if_acmp .ne 13, 3) := dk_166 0 13 (dk_at dksJ4_fixAfterInsertion_4 11 rfl rfl)
theorem dJ4_fixAfterInsertion_108 : decode cJ4_fixAfterInsertion 108 = .ok (.aload_n 1, 1) := dk_43 (dk_at dksJ4_fixAfterInsertion_4 14 rfl rfl)
theorem dJ4_fixAfterInsertion_109 : decode cJ4_fixAfterInsertion 109 = .ok (.invokestatic 294, 3) := dk_184 1 38 (dk_at dksJ4_fixAfterInsertion_4 15 rfl rfl)
theorem dJ4_fixAfterInsertion_112 : decode cJ4_fixAfterInsertion 112 = .ok (.astore_n 1, 1) := dk_76 (dk_at dksJ4_fixAfterInsertion_4 18 rfl rfl)
theorem dJ4_fixAfterInsertion_113 : decode cJ4_fixAfterInsertion 113 = .ok (.aload_n 0, 1) := dk_42 (dk_at dksJ4_fixAfterInsertion_4 19 rfl rfl)
theorem dJ4_fixAfterInsertion_114 : decode cJ4_fixAfterInsertion 114 = .ok (.aload_n 1, 1) := dk_43 (dk_at dksJ4_fixAfterInsertion_4 20 rfl rfl)
theorem dJ4_fixAfterInsertion_115 : decode cJ4_fixAfterInsertion 115 = .ok (.invokevirtual 311, 3) := dk_182 1 55 (dk_at dksJ4_fixAfterInsertion_4 21 rfl rfl)
theorem dJ4_fixAfterInsertion_118 : decode cJ4_fixAfterInsertion 118 = .ok (.aload_n 1, 1) := dk_43 (dk_at dksJ4_fixAfterInsertion_5 0 rfl rfl)
theorem dJ4_fixAfterInsertion_119 : decode cJ4_fixAfterInsertion 119 = .ok (.invokestatic 294, 3) := dk_184 1 38 (dk_at dksJ4_fixAfterInsertion_5 1 rfl rfl)
theorem dJ4_fixAfterInsertion_122 : decode cJ4_fixAfterInsertion 122 = .ok (.iconst 1, 1) := dk_4 (dk_at dksJ4_fixAfterInsertion_5 4 rfl rfl)
theorem dJ4_fixAfterInsertion_123 : decode cJ4_fixAfterInsertion 123 = .ok (.invokestatic 307, 3) := dk_184 1 51 (dk_at dksJ4_fixAfterInsertion_5 5 rfl rfl)
theorem dJ4_fixAfterInsertion_126 : decode cJ4_fixAfterInsertion 126 = .ok (.aload_n 1, 1) := dk_43 (dk_at dksJ4_fixAfterInsertion_5 8 rfl rfl)
theorem dJ4_fixAfterInsertion_127 : decode cJ4_fixAfterInsertion 127 = .ok (.invokestatic 294, 3) := dk_184 1 38 (dk_at dksJ4_fixAfterInsertion_5 9 rfl rfl)
theorem dJ4_fixAfterInsertion_130 : decode cJ4_fixAfterInsertion 130 = .ok (.invokestatic 294, 3) := dk_184 1 38 (dk_at dksJ4_fixAfterInsertion_5 12 rfl rfl)
theorem dJ4_fixAfterInsertion_133 : decode cJ4_fixAfterInsertion 133 = .ok (.iconst 0, 1) := dk_3 (dk_at dksJ4_fixAfterInsertion_5 15 rfl rfl)
theorem dJ4_fixAfterInsertion_134 : decode cJ4_fixAfterInsertion 134 = .ok (.invokestatic 307, 3) := dk_184 1 51 (dk_at dksJ4_fixAfterInsertion_5 16 rfl rfl)
theorem dJ4_fixAfterInsertion_137 : decode cJ4_fixAfterInsertion 137 = .ok (.aload_n 0, 1) := dk_42 (dk_at dksJ4_fixAfterInsertion_5 19 rfl rfl)
theorem dJ4_fixAfterInsertion_138 : decode cJ4_fixAfterInsertion 138 = .ok (.aload_n 1, 1) := dk_43 (dk_at dksJ4_fixAfterInsertion_5 20 rfl rfl)
theorem dJ4_fixAfterInsertion_139 : decode cJ4_fixAfterInsertion 139 = .ok (.invokestatic 294, 3) := dk_184 1 38 (dk_at dksJ4_fixAfterInsertion_5 21 rfl rfl)
theorem dJ4_fixAfterInsertion_142 : decode cJ4_fixAfterInsertion 142 = .ok (.invokestatic 294, 3) := dk_184 1 38 (dk_at dksJ4_fixAfterInsertion_6 0 rfl rfl)
theorem dJ4_fixAfterInsertion_145 : decode cJ4_fixAfterInsertion 145 = .ok (.invokevirtual 314, 3) := dk_182 1 58 (dk_at dksJ4_fixAfterInsertion_6 3 rfl rfl)
theorem dJ4_fixAfterInsertion_148 : decode cJ4_fixAfterInsertion 148 = .ok (.goto (-143), 3) := dk_167 255 113 (dk_at dksJ4_fixAfterInsertion_6 6 rfl rfl)
theorem dJ4_fixAfterInsertion_151 : decode cJ4_fixAfterInsertion 151 = .ok (.aload_n 1, 1) := dk_43 (dk_at dksJ4_fixAfterInsertion_6 9 rfl rfl)
theorem dJ4_fixAfterInsertion_152 : decode cJ4_fixAfterInsertion 152 = .ok (.invokestatic 294, 3) := dk_184 1 38 (dk_at dksJ4_fixAfterInsertion_6 10 rfl rfl)
theorem dJ4_fixAfterInsertion_155 : decode cJ4_fixAfterInsertion 155 = .ok (.invokestatic 294, 3) := dk_184 1 38 (dk_at dksJ4_fixAfterInsertion_6 13 rfl rfl)
theorem dJ4_fixAfterInsertion_158 : decode cJ4_fixAfterInsertion 158 = .ok (.invokestatic 297, 3) := dk_184 1 41 (dk_at dksJ4_fixAfterInsertion_6 16 rfl rfl)
theorem dJ4_fixAfterInsertion_161 : decode cJ4_fixAfterInsertion 161 = .ok (.astore_n 2, 1) := dk_77 (dk_at dksJ4_fixAfterInsertion_6 19 rfl rfl)
theorem dJ4_fixAfterInsertion_162 : decode cJ4_fixAfterInsertion 162 = .ok (.aload_n 2, 1) := dk_44 (dk_at dksJ4_fixAfterInsertion_6 20 rfl rfl)
theorem dJ4_fixAfterInsertion_163 : decode cJ4_fixAfterInsertion 163 = .ok (.invokestatic 303, 3) := dk_184 1 47 (dk_at dksJ4_fixAfterInsertion_6 21 rfl rfl)
theorem dJ4_fixAfterInsertion_166 : decode cJ4_fixAfterInsertion 166 = .ok (.ifCond .ne 38, 3) := dk_154 0 38 (dk_at dksJ4_fixAfterInsertion_7 0 rfl rfl)
theorem dJ4_fixAfterInsertion_169 : decode cJ4_fixAfterInsertion 169 = .ok (.aload_n 1, 1) := dk_43 (dk_at dksJ4_fixAfterInsertion_7 3 rfl rfl)
theorem dJ4_fixAfterInsertion_170 : decode cJ4_fixAfterInsertion 170 = .ok (.invokestatic 294, 3) := dk_184 1 38 (dk_at dksJ4_fixAfterInsertion_7 4 rfl rfl)
theorem dJ4_fixAfterInsertion_173 : decode cJ4_fixAfterInsertion 173 = .ok (.iconst 1, 1) := dk_4 (dk_at dksJ4_fixAfterInsertion_7 7 rfl rfl)
theorem dJ4_fixAfterInsertion_174 : decode cJ4_fixAfterInsertion 174 = .ok (.invokestatic 307, 3) := dk_184 1 51 (dk_at dksJ4_fixAfterInsertion_7 8 rfl rfl)
theorem dJ4_fixAfterInsertion_177 : decode cJ4_fixAfterInsertion 177 = .ok (.aload_n 2, 1) := dk_44 (dk_at dksJ4_fixAfterInsertion_7 11 rfl rfl)
theorem dJ4_fixAfterInsertion_178 : decode cJ4_fixAfterInsertion 178 = .ok (.iconst 1, 1) := dk_4 (dk_at dksJ4_fixAfterInsertion_7 12 rfl rfl)
theorem dJ4_fixAfterInsertion_179 : decode cJ4_fixAfterInsertion 179 = .ok (.invokestatic 307, 3) := dk_184 1 51 (dk_at dksJ4_fixAfterInsertion_7 13 rfl rfl)
theorem dJ4_fixAfterInsertion_182 : decode cJ4_fixAfterInsertion 182 = .ok (.aload_n 1, 1) := dk_43 (dk_at dksJ4_fixAfterInsertion_7 16 rfl rfl)
theorem dJ4_fixAfterInsertion_183 : decode cJ4_fixAfterInsertion 183 = .ok (.invokestatic 294, 3) := dk_184 1 38 (dk_at dksJ4_fixAfterInsertion_7 17 rfl rfl)
theorem dJ4_fixAfterInsertion_186 : decode cJ4_fixAfterInsertion 186 = .ok (.invokestatic 294, 3) := dk_184 1 38 (dk_at dksJ4_fixAfterInsertion_7 20 rfl rfl)
theorem dJ4_fixAfterInsertion_189 : decode cJ4_fixAfterInsertion 189 = .ok (.iconst 0, 1) := dk_3 (dk_at dksJ4_fixAfterInsertion_7 23 rfl rfl)
theorem dJ4_fixAfterInsertion_190 : decode cJ4_fixAfterInsertion 190 = .ok (.invokestatic 307, 3) := dk_184 1 51 (dk_at dksJ4_fixAfterInsertion_8 0 rfl rfl)
theorem dJ4_fixAfterInsertion_193 : decode cJ4_fixAfterInsertion 193 = .ok (.aload_n 1, 1) := dk_43 (dk_at dksJ4_fixAfterInsertion_8 3 rfl rfl)
theorem dJ4_fixAfterInsertion_194 : decode cJ4_fixAfterInsertion 194 = .ok (.invokestatic 294, 3) := dk_184 1 38 (dk_at dksJ4_fixAfterInsertion_8 4 rfl rfl)
theorem dJ4_fixAfterInsertion_197 : decode cJ4_fixAfterInsertion 197 = .ok (.invokestatic 294, 3) := dk_184 1 38 (dk_at dksJ4_fixAfterInsertion_8 7 rfl rfl)
theorem dJ4_fixAfterInsertion_200 : decode cJ4_fixAfterInsertion 200 = .ok (.astore_n 1, 1) := dk_76 (dk_at dksJ4_fixAfterInsertion_8 10 rfl rfl)
theorem dJ4_fixAfterInsertion_201 : decode cJ4_fixAfterInsertion 201 = .ok (.goto 54, 3) := dk_167 0 54 (dk_at dksJ4_fixAfterInsertion_8 11 rfl rfl)
theorem dJ4_fixAfterInsertion_204 : decode cJ4_fixAfterInsertion 204 = .ok (.aload_n 1, 1) := dk_43 (dk_at dksJ4_fixAfterInsertion_8 14 rfl rfl)
theorem dJ4_fixAfterInsertion_205 : decode cJ4_fixAfterInsertion 205 = .ok (.aload_n 1, 1) := dk_43 (dk_at dksJ4_fixAfterInsertion_8 15 rfl rfl)
theorem dJ4_fixAfterInsertion_206 : decode cJ4_fixAfterInsertion 206 = .ok (.invokestatic 294, 3) := dk_184 1 38 (dk_at dksJ4_fixAfterInsertion_8 16 rfl rfl)
theorem dJ4_fixAfterInsertion_209 : decode cJ4_fixAfterInsertion 209 = .ok (.invokestatic 297, 3) := dk_184 1 41 (dk_at dksJ4_fixAfterInsertion_8 19 rfl rfl)
theorem dJ4_fixAfterInsertion_212 : decode cJ4_fixAfterInsertion 212 = .ok (.if_acmp .ne 13, 3) := dk_166 0 13 (dk_at dksJ4_fixAfterInsertion_9 0 rfl rfl)
theorem dJ4_fixAfterInsertion_215 : decode cJ4_fixAfterInsertion 215 = .ok (.aload_n 1, 1) := dk_43 (dk_at dksJ4_fixAfterInsertion_9 3 rfl rfl)
theorem dJ4_fixAfterInsertion_216 : decode cJ4_fixAfterInsertion 216 = .ok (.invokestatic 294, 3) := dk_184 1 38 (dk_at dksJ4_fixAfterInsertion_9 4 rfl rfl)
theorem dJ4_fixAfterInsertion_219 : decode cJ4_fixAfterInsertion 219 = .ok (.astore_n 1, 1) := dk_76 (dk_at dksJ4_fixAfterInsertion_9 7 rfl rfl)
theorem dJ4_fixAfterInsertion_220 : decode cJ4_fixAfterInsertion 220 = .ok (.aload_n 0, 1) := dk_42 (dk_at dksJ4_fixAfterInsertion_9 8 rfl rfl)
theorem dJ4_fixAfterInsertion_221 : decode cJ4_fixAfterInsertion 221 = .ok (.aload_n 1, 1) := dk_43 (dk_at dksJ4_fixAfterInsertion_9 9 rfl rfl)
theorem dJ4_fixAfterInsertion_222 : decode cJ4_fixAfterInsertion 222 = .ok (.invokevirtual 314, 3) := dk_182 1 58 (dk_at dksJ4_fixAfterInsertion_9 10 rfl rfl)
theorem dJ4_fixAfterInsertion_225 : decode cJ4_fixAfterInsertion 225 = .ok (.aload_n 1, 1) := dk_43 (dk_at dksJ4_fixAfterInsertion_9 13 rfl rfl)
theorem dJ4_fixAfterInsertion_226 : decode cJ4_fixAfterInsertion 226 = .ok (.invokestatic 294, 3) := dk_184 1 38 (dk_at dksJ4_fixAfterInsertion_9 14 rfl rfl)
theorem dJ4_fixAfterInsertion_229 : decode cJ4_fixAfterInsertion 229 = .ok (.iconst 1, 1) := dk_4 (dk_at dksJ4_fixAfterInsertion_9 17 rfl rfl)
theorem dJ4_fixAfterInsertion_230 : decode cJ4_fixAfterInsertion 230 = .ok (.invokestatic 307, 3) := dk_184 1 51 (dk_at dksJ4_fixAfterInsertion_9 18 rfl rfl)
theorem dJ4_fixAfterInsertion_233 : decode cJ4_fixAfterInsertion 233 = .ok (.aload_n 1, 1) := dk_43 (dk_at dksJ4_fixAfterInsertion_9 21 rfl rfl)
theorem dJ4_fixAfterInsertion_234 : decode cJ4_fixAfterInsertion 234 = .ok (.invokestatic 294, 3) := dk_184 1 38 (dk_at dksJ4_fixAfterInsertion_10 0 rfl rfl)
theorem dJ4_fixAfterInsertion_237 : decode cJ4_fixAfterInsertion 237 = .ok (.invokestatic 294, 3) := dk_184 1 38 (dk_at dksJ4_fixAfterInsertion_10 3 rfl rfl)
theorem dJ4_fixAfterInsertion_240 : decode cJ4_fixAfterInsertion 240 = .ok (.iconst 0, 1) := dk_3 (dk_at dksJ4_fixAfterInsertion_10 6 rfl rfl)
theorem dJ4_fixAfterInsertion_241 : decode cJ4_fixAfterInsertion 241 = .ok (.invokestatic 307, 3) := dk_184 1 51 (dk_at dksJ4_fixAfterInsertion_10 7 rfl rfl)
theorem dJ4_fixAfterInsertion_244 : decode cJ4_fixAfterInsertion 244 = .ok (.aload_n 0, 1) := dk_42 (dk_at dksJ4_fixAfterInsertion_10 10 rfl rfl)
theorem dJ4_fixAfterInsertion_245 : decode cJ4_fixAfterInsertion 245 = .ok (.aload_n 1, 1) := dk_43 (dk_at dksJ4_fixAfterInsertion_10 11 rfl rfl)
theorem dJ4_fixAfterInsertion_246 : decode cJ4_fixAfterInsertion 246 = .ok (.invokestatic 294, 3) := dk_184 1 38 (dk_at dksJ4_fixAfterInsertion_10 12 rfl rfl)
theorem dJ4_fixAfterInsertion_249 : decode cJ4_fixAfterInsertion 249 = .ok (.invokestatic 294, 3) := dk_184 1 38 (dk_at dksJ4_fixAfterInsertion_10 15 rfl rfl)
theorem dJ4_fixAfterInsertion_252 : decode cJ4_fixAfterInsertion 252 = .ok (.invokevirtual 311, 3) := dk_182 1 55 (dk_at dksJ4_fixAfterInsertion_10 18 rfl rfl)
theorem dJ4_fixAfterInsertion_255 : decode cJ4_fixAfterInsertion 255 = .ok (.goto (-250), 3) := dk_167 255 6 (dk_at dksJ4_fixAfterInsertion_10 21 rfl rfl)
theorem dJ4_fixAfterInsertion_258 : decode cJ4_fixAfterInsertion 258 = .ok (.aload_n 0, 1) := dk_42 (dk_at dksJ4_fixAfterInsertion_11 0 rfl rfl)
theorem dJ4_fixAfterInsertion_259 : decode cJ4_fixAfterInsertion 259 = .ok (.getfield 101, 3) := dk_180 0 101 (dk_at dksJ4_fixAfterInsertion_11 1 rfl rfl)
theorem dJ4_fixAfterInsertion_262 : decode cJ4_fixAfterInsertion 262 = .ok (.iconst 1, 1) := dk_4 (dk_at dksJ4_fixAfterInsertion_11 4 rfl rfl)
theorem dJ4_fixAfterInsertion_263 : decode cJ4_fixAfterInsertion 263 = .ok (.putfield 290, 3) := dk_181 1 34 (dk_at dksJ4_fixAfterInsertion_11 5 rfl rfl)
theorem dJ4_fixAfterInsertion_266 : decode cJ4_fixAfterInsertion 266 = .ok (.return_, 1) := dk_177 (dk_at dksJ4_fixAfterInsertion_11 8 rfl rfl)
def fJ4_fixAfterInsertion_b148 (e : Nat → Nat) (N : Nat) (k5 : Mm → Option Nat → Option Nat → Rs (Unit)) (m : Mm) (v0 : Option Nat) (v1 : Option Nat) : Rs (Unit) := k5 m v0 v1
def fJ4_fixAfterInsertion_b118 (e : Nat → Nat) (N : Nat) (k5 : Mm → Option Nat → Option Nat → Rs (Unit)) (m : Mm) (v0 : Option Nat) (v1 : Option Nat) : Rs (Unit) := bd_ (fJ4_parentOf e N m v1) (fun x1 m1 => bd_ (fJ4_setColor e N m1 x1 1) (fun _ m2 => bd_ (fJ4_parentOf e N m2 v1) (fun x2 m3 => bd_ (fJ4_parentOf e N m3 x2) (fun x3 m4 => bd_ (fJ4_setColor e N m4 x3 0) (fun _ m5 => bd_ (fJ4_parentOf e N m5 v1) (fun x4 m6 => bd_ (fJ4_parentOf e N m6 x4) (fun x5 m7 => ck_ m7 v0 15 (bd_ (fJ4_rotateRight e N m7 v0 x5) (fun _ m8 => fJ4_fixAfterInsertion_b148 e N k5 m8 v0 v1)))))))))
def fJ4_fixAfterInsertion_b255 (e : Nat → Nat) (N : Nat) (k5 : Mm → Option Nat → Option Nat → Rs (Unit)) (m : Mm) (v0 : Option Nat) (v1 : Option Nat) : Rs (Unit) := k5 m v0 v1
def fJ4_fixAfterInsertion_b225 (e : Nat → Nat) (N : Nat) (k5 : Mm → Option Nat → Option Nat → Rs (Unit)) (m : Mm) (v0 : Option Nat) (v1 : Option Nat) : Rs (Unit) := bd_ (fJ4_parentOf e N m v1) (fun x1 m1 => bd_ (fJ4_setColor e N m1 x1 1) (fun _ m2 => bd_ (fJ4_parentOf e N m2 v1) (fun x2 m3 => bd_ (fJ4_parentOf e N m3 x2) (fun x3 m4 => bd_ (fJ4_setColor e N m4 x3 0) (fun _ m5 => bd_ (fJ4_parentOf e N m5 v1) (fun x4 m6 => bd_ (fJ4_parentOf e N m6 x4) (fun x5 m7 => ck_ m7 v0 15 (bd_ (fJ4_rotateLeft e N m7 v0 x5) (fun _ m8 => fJ4_fixAfterInsertion_b255 e N k5 m8 v0 v1)))))))))
def fJ4_fixAfterInsertion_b258 (e : Nat → Nat) (N : Nat) (m : Mm) (v0 : Option Nat) : Rs (Unit) := gr_ m v0 15 3 (fun x1 => pz_ m x1 16 5 1 (fun m1 => rt_ () m1))
def fJ4_fixAfterInsertion_b5 (e : Nat → Nat) (N : Nat) : Nat → Mm → Option Nat → Option Nat → Rs (Unit)
  | 0, _, _, _ => none
  | F + 1, m, v0, v1 => if v1 = none then (fJ4_fixAfterInsertion_b258 e N m v0) else (gr_ m v0 15 3 (fun x1 => if v1 = x1 then (fJ4_fixAfterInsertion_b258 e N m v0) else (gr_ m v1 16 4 (fun x2 => gi_ m x2 16 5 (fun x3 => if x3 = 0 then (bd_ (fJ4_parentOf e N m v1) (fun x4 m1 => bd_ (fJ4_parentOf e N m1 v1) (fun x5 m2 => bd_ (fJ4_parentOf e N m2 x5) (fun x6 m3 => bd_ (fJ4_leftOf e N m3 x6) (fun x7 m4 => if x4 = x7 then (bd_ (fJ4_parentOf e N m4 v1) (fun x8 m5 => bd_ (fJ4_parentOf e N m5 x8) (fun x9 m6 => bd_ (fJ4_rightOf e N m6 x9) (fun x10 m7 => bd_ (fJ4_colorOf e N m7 x10) (fun x11 m8 => if x11 = 0 then (bd_ (fJ4_parentOf e N m8 v1) (fun x12 m9 => bd_ (fJ4_setColor e N m9 x12 1) (fun _ m10 => bd_ (fJ4_setColor e N m10 x10 1) (fun _ m11 => bd_ (fJ4_parentOf e N m11 v1) (fun x13 m12 => bd_ (fJ4_parentOf e N m12 x13) (fun x14 m13 => bd_ (fJ4_setColor e N m13 x14 0) (fun _ m14 => bd_ (fJ4_parentOf e N m14 v1) (fun x15 m15 => bd_ (fJ4_parentOf e N m15 x15) (fun x16 m16 => fJ4_fixAfterInsertion_b148 e N (fJ4_fixAfterInsertion_b5 e N F) m16 v0 x16))))))))) else (bd_ (fJ4_parentOf e N m8 v1) (fun x17 m17 => bd_ (fJ4_rightOf e N m17 x17) (fun x18 m18 => if v1 = x18 then (bd_ (fJ4_parentOf e N m18 v1) (fun x19 m19 => ck_ m19 v0 15 (bd_ (fJ4_rotateLeft e N m19 v0 x19) (fun _ m20 => fJ4_fixAfterInsertion_b118 e N (fJ4_fixAfterInsertion_b5 e N F) m20 v0 x19)))) else (fJ4_fixAfterInsertion_b118 e N (fJ4_fixAfterInsertion_b5 e N F) m18 v0 v1))))))))) else (bd_ (fJ4_parentOf e N m4 v1) (fun x20 m21 => bd_ (fJ4_parentOf e N m21 x20) (fun x21 m22 => bd_ (fJ4_leftOf e N m22 x21) (fun x22 m23 => bd_ (fJ4_colorOf e N m23 x22) (fun x23 m24 => if x23 = 0 then (bd_ (fJ4_parentOf e N m24 v1) (fun x24 m25 => bd_ (fJ4_setColor e N m25 x24 1) (fun _ m26 => bd_ (fJ4_setColor e N m26 x22 1) (fun _ m27 => bd_ (fJ4_parentOf e N m27 v1) (fun x25 m28 => bd_ (fJ4_parentOf e N m28 x25) (fun x26 m29 => bd_ (fJ4_setColor e N m29 x26 0) (fun _ m30 => bd_ (fJ4_parentOf e N m30 v1) (fun x27 m31 => bd_ (fJ4_parentOf e N m31 x27) (fun x28 m32 => fJ4_fixAfterInsertion_b255 e N (fJ4_fixAfterInsertion_b5 e N F) m32 v0 x28))))))))) else (bd_ (fJ4_parentOf e N m24 v1) (fun x29 m33 => bd_ (fJ4_leftOf e N m33 x29) (fun x30 m34 => if v1 = x30 then (bd_ (fJ4_parentOf e N m34 v1) (fun x31 m35 => ck_ m35 v0 15 (bd_ (fJ4_rotateRight e N m35 v0 x31) (fun _ m36 => fJ4_fixAfterInsertion_b225 e N (fJ4_fixAfterInsertion_b5 e N F) m36 v0 x31)))) else (fJ4_fixAfterInsertion_b225 e N (fJ4_fixAfterInsertion_b5 e N F) m34 v0 v1)))))))))))))) else (fJ4_fixAfterInsertion_b258 e N m v0))))))
def fJ4_fixAfterInsertion (e : Nat → Nat) (N : Nat) (m : Mm) (v0 : Option Nat) (v1 : Option Nat) : Rs (Unit) := pz_ m v1 16 5 0 (fun m1 => fJ4_fixAfterInsertion_b5 e N N m1 v0 v1)
abbrev cJ37_init : ByteArray := prog_82_method_1_code
def yJ37_init : MethodName := ⟨RJ37, "<init>", "(Ljava/lang/Object;Ljava/lang/Object;Ljava/util/TreeMap$Entry;)V"⟩
def dkwJ37_init_1 : List UInt8 := [177]
abbrev dktJ37_init_1 : List UInt8 := dkwJ37_init_1 ++ []
def dkwJ37_init_0 : List UInt8 := [42, 183, 0, 3, 42, 4, 181, 0, 9, 42, 43, 181, 0, 15, 42, 44, 181, 0, 19, 42, 45, 181, 0, 22]
abbrev dktJ37_init_0 : List UInt8 := dkwJ37_init_0 ++ dktJ37_init_1
theorem dksJ37_init_0 : cJ37_init.data.toList.drop 0 = dktJ37_init_0 := by decide +kernel
theorem dksJ37_init_1 : cJ37_init.data.toList.drop 24 = dktJ37_init_1 := dk_seg dksJ37_init_0 24 rfl rfl
theorem dJ37_init_0 : decode cJ37_init 0 = .ok (.aload_n 0, 1) := dk_42 (dk_at dksJ37_init_0 0 rfl rfl)
theorem dJ37_init_1 : decode cJ37_init 1 = .ok (.invokespecial 3, 3) := dk_183 0 3 (dk_at dksJ37_init_0 1 rfl rfl)
theorem dJ37_init_4 : decode cJ37_init 4 = .ok (.aload_n 0, 1) := dk_42 (dk_at dksJ37_init_0 4 rfl rfl)
theorem dJ37_init_5 : decode cJ37_init 5 = .ok (.iconst 1, 1) := dk_4 (dk_at dksJ37_init_0 5 rfl rfl)
theorem dJ37_init_6 : decode cJ37_init 6 = .ok (.putfield 9, 3) := dk_181 0 9 (dk_at dksJ37_init_0 6 rfl rfl)
theorem dJ37_init_9 : decode cJ37_init 9 = .ok (.aload_n 0, 1) := dk_42 (dk_at dksJ37_init_0 9 rfl rfl)
theorem dJ37_init_10 : decode cJ37_init 10 = .ok (.aload_n 1, 1) := dk_43 (dk_at dksJ37_init_0 10 rfl rfl)
theorem dJ37_init_11 : decode cJ37_init 11 = .ok (.putfield 15, 3) := dk_181 0 15 (dk_at dksJ37_init_0 11 rfl rfl)
theorem dJ37_init_14 : decode cJ37_init 14 = .ok (.aload_n 0, 1) := dk_42 (dk_at dksJ37_init_0 14 rfl rfl)
theorem dJ37_init_15 : decode cJ37_init 15 = .ok (.aload_n 2, 1) := dk_44 (dk_at dksJ37_init_0 15 rfl rfl)
theorem dJ37_init_16 : decode cJ37_init 16 = .ok (.putfield 19, 3) := dk_181 0 19 (dk_at dksJ37_init_0 16 rfl rfl)
theorem dJ37_init_19 : decode cJ37_init 19 = .ok (.aload_n 0, 1) := dk_42 (dk_at dksJ37_init_0 19 rfl rfl)
theorem dJ37_init_20 : decode cJ37_init 20 = .ok (.aload_n 3, 1) := dk_45 (dk_at dksJ37_init_0 20 rfl rfl)
theorem dJ37_init_21 : decode cJ37_init 21 = .ok (.putfield 22, 3) := dk_181 0 22 (dk_at dksJ37_init_0 21 rfl rfl)
theorem dJ37_init_24 : decode cJ37_init 24 = .ok (.return_, 1) := dk_177 (dk_at dksJ37_init_1 0 rfl rfl)
def fJ37_init (e : Nat → Nat) (N : Nat) (m : Mm) (v0 : Option Nat) (v1 : Option Nat) (v2 : Option Nat) (v3 : Option Nat) : Rs (Unit) := ok_ v0 (pz_ m v0 16 5 1 (fun m1 => pr_ m1 v0 16 0 v1 (fun m2 => pr_ m2 v0 16 1 v2 (fun m3 => pr_ m3 v0 16 4 v3 (fun m4 => rt_ () m4)))))
abbrev cJ4_addEntry : ByteArray := prog_79_method_29_code
def yJ4_addEntry : MethodName := ⟨RJ4, "addEntry", "(Ljava/lang/Object;Ljava/lang/Object;Ljava/util/TreeMap$Entry;Z)V"⟩
def dkwJ4_addEntry_2 : List UInt8 := [181, 0, 7, 42, 89, 180, 0, 13, 4, 96, 181, 0, 13, 177]
abbrev dktJ4_addEntry_2 : List UInt8 := dkwJ4_addEntry_2 ++ []
def dkwJ4_addEntry_1 : List UInt8 := [167, 0, 9, 45, 25, 5, 181, 0, 114, 42, 25, 5, 182, 0, 170, 42, 89, 180, 0, 7, 4, 96]
abbrev dktJ4_addEntry_1 : List UInt8 := dkwJ4_addEntry_1 ++ dktJ4_addEntry_2
def dkwJ4_addEntry_0 : List UInt8 := [187, 0, 59, 89, 43, 44, 45, 183, 0, 167, 58, 5, 21, 4, 153, 0, 12, 45, 25, 5, 181, 0, 111]
abbrev dktJ4_addEntry_0 : List UInt8 := dkwJ4_addEntry_0 ++ dktJ4_addEntry_1
theorem dksJ4_addEntry_0 : cJ4_addEntry.data.toList.drop 0 = dktJ4_addEntry_0 := by decide +kernel
theorem dksJ4_addEntry_1 : cJ4_addEntry.data.toList.drop 23 = dktJ4_addEntry_1 := dk_seg dksJ4_addEntry_0 23 rfl rfl
theorem dksJ4_addEntry_2 : cJ4_addEntry.data.toList.drop 45 = dktJ4_addEntry_2 := dk_seg dksJ4_addEntry_1 22 rfl rfl
theorem dJ4_addEntry_0 : decode cJ4_addEntry 0 = .ok (.new 59, 3) := dk_187 0 59 (dk_at dksJ4_addEntry_0 0 rfl rfl)
theorem dJ4_addEntry_3 : decode cJ4_addEntry 3 = .ok (.dup, 1) := dk_89 (dk_at dksJ4_addEntry_0 3 rfl rfl)
theorem dJ4_addEntry_4 : decode cJ4_addEntry 4 = .ok (.aload_n 1, 1) := dk_43 (dk_at dksJ4_addEntry_0 4 rfl rfl)
theorem dJ4_addEntry_5 : decode cJ4_addEntry 5 = .ok (.aload_n 2, 1) := dk_44 (dk_at dksJ4_addEntry_0 5 rfl rfl)
theorem dJ4_addEntry_6 : decode cJ4_addEntry 6 = .ok (.aload_n 3, 1) := dk_45 (dk_at dksJ4_addEntry_0 6 rfl rfl)
theorem dJ4_addEntry_7 : decode cJ4_addEntry 7 = .ok (.invokespecial 167, 3) := dk_183 0 167 (dk_at dksJ4_addEntry_0 7 rfl rfl)
theorem dJ4_addEntry_10 : decode cJ4_addEntry 10 = .ok (.astore 5, 2) := dk_58 5 (dk_at dksJ4_addEntry_0 10 rfl rfl)
theorem dJ4_addEntry_12 : decode cJ4_addEntry 12 = .ok (.iload 4, 2) := dk_21 4 (dk_at dksJ4_addEntry_0 12 rfl rfl)
theorem dJ4_addEntry_14 : decode cJ4_addEntry 14 = .ok (.ifCond .eq 12, 3) := dk_153 0 12 (dk_at dksJ4_addEntry_0 14 rfl rfl)
theorem dJ4_addEntry_17 : decode cJ4_addEntry 17 = .ok (.aload_n 3, 1) := dk_45 (dk_at dksJ4_addEntry_0 17 rfl rfl)
theorem dJ4_addEntry_18 : decode cJ4_addEntry 18 = .ok (.aload 5, 2) := dk_25 5 (dk_at dksJ4_addEntry_0 18 rfl rfl)
theorem dJ4_addEntry_20 : decode cJ4_addEntry 20 = .ok (.putfield 111, 3) := dk_181 0 111 (dk_at dksJ4_addEntry_0 20 rfl rfl)
theorem dJ4_addEntry_23 : decode cJ4_addEntry 23 = .ok (.goto 9, 3) := dk_167 0 9 (dk_at dksJ4_addEntry_1 0 rfl rfl)
theorem dJ4_addEntry_26 : decode cJ4_addEntry 26 = .ok (.aload_n 3, 1) := dk_45 (dk_at dksJ4_addEntry_1 3 rfl rfl)
theorem dJ4_addEntry_27 : decode cJ4_addEntry 27 = .ok (.aload 5, 2) := dk_25 5 (dk_at dksJ4_addEntry_1 4 rfl rfl)
theorem dJ4_addEntry_29 : decode cJ4_addEntry 29 = .ok (.putfield 114, 3) := dk_181 0 114 (dk_at dksJ4_addEntry_1 6 rfl rfl)
theorem dJ4_addEntry_32 : decode cJ4_addEntry 32 = .ok (.aload_n 0, 1) := dk_42 (dk_at dksJ4_addEntry_1 9 rfl rfl)
theorem dJ4_addEntry_33 : decode cJ4_addEntry 33 = .ok (.aload 5, 2) := dk_25 5 (dk_at dksJ4_addEntry_1 10 rfl rfl)
theorem dJ4_addEntry_35 : decode cJ4_addEntry 35 = .ok (.invokevirtual 170, 3) := dk_182 0 170 (dk_at dksJ4_addEntry_1 12 rfl rfl)
theorem dJ4_addEntry_38 : decode cJ4_addEntry 38 = .ok (.aload_n 0, 1) := dk_42 (dk_at dksJ4_addEntry_1 15 rfl rfl)
theorem dJ4_addEntry_39 : decode cJ4_addEntry 39 = .ok (.dup, 1) := dk_89 (dk_at dksJ4_addEntry_1 16 rfl rfl)
theorem dJ4_addEntry_40 : decode cJ4_addEntry 40 = .ok (.getfield 7, 3) := dk_180 0 7 (dk_at dksJ4_addEntry_1 17 rfl rfl)
theorem dJ4_addEntry_43 : decode cJ4_addEntry 43 = .ok (.iconst 1, 1) := dk_4 (dk_at dksJ4_addEntry_1 20 rfl rfl)
theorem dJ4_addEntry_44 : decode cJ4_addEntry 44 = .ok (.iadd, 1) := dk_96 (dk_at dksJ4_addEntry_1 21 rfl rfl)
theorem dJ4_addEntry_45 : decode cJ4_addEntry 45 = .ok (.putfield 7, 3) := dk_181 0 7 (dk_at dksJ4_addEntry_2 0 rfl rfl)
theorem dJ4_addEntry_48 : decode cJ4_addEntry 48 = .ok (.aload_n 0, 1) := dk_42 (dk_at dksJ4_addEntry_2 3 rfl rfl)
theorem dJ4_addEntry_49 : decode cJ4_addEntry 49 = .ok (.dup, 1) := dk_89 (dk_at dksJ4_addEntry_2 4 rfl rfl)
theorem dJ4_addEntry_50 : decode cJ4_addEntry 50 = .ok (.getfield 13, 3) := dk_180 0 13 (dk_at dksJ4_addEntry_2 5 rfl rfl)
theorem dJ4_addEntry_53 : decode cJ4_addEntry 53 = .ok (.iconst 1, 1) := dk_4 (dk_at dksJ4_addEntry_2 8 rfl rfl)
theorem dJ4_addEntry_54 : decode cJ4_addEntry 54 = .ok (.iadd, 1) := dk_96 (dk_at dksJ4_addEntry_2 9 rfl rfl)
theorem dJ4_addEntry_55 : decode cJ4_addEntry 55 = .ok (.putfield 13, 3) := dk_181 0 13 (dk_at dksJ4_addEntry_2 10 rfl rfl)
theorem dJ4_addEntry_58 : decode cJ4_addEntry 58 = .ok (.return_, 1) := dk_177 (dk_at dksJ4_addEntry_2 13 rfl rfl)
def fJ4_addEntry_b32 (e : Nat → Nat) (N : Nat) (m : Mm) (v0 : Option Nat) (v5 : Option Nat) : Rs (Unit) := ck_ m v0 15 (bd_ (fJ4_fixAfterInsertion e N m v0 v5) (fun _ m1 => gi_ m1 v0 15 4 (fun x1 => pi_ m1 v0 15 4 (x1 + 1) (fun m2 => gi_ m2 v0 15 5 (fun x2 => pi_ m2 v0 15 5 (x2 + 1) (fun m3 => rt_ () m3))))))
def fJ4_addEntry (e : Nat → Nat) (N : Nat) (m : Mm) (v0 : Option Nat) (v1 : Option Nat) (v2 : Option Nat) (v3 : Option Nat) (v4 : Int32) : Rs (Unit) := nw_ m 16 6 (fun x1 m1 => bd_ (fJ37_init e N m1 (some x1) v1 v2 v3) (fun _ m2 => if v4 = 0 then (pr_ m2 v3 16 3 (some x1) (fun m3 => fJ4_addEntry_b32 e N m3 v0 (some x1))) else (pr_ m2 v3 16 2 (some x1) (fun m4 => fJ4_addEntry_b32 e N m4 v0 (some x1)))))
abbrev cJ21_compare : ByteArray := prog_37_method_40_code
def yJ21_compare : MethodName := ⟨RJ21, "compare", "(II)I"⟩
def dkwJ21_compare_0 : List UInt8 := [26, 27, 162, 0, 7, 2, 167, 0, 13, 26, 27, 160, 0, 7, 3, 167, 0, 4, 4, 172]
abbrev dktJ21_compare_0 : List UInt8 := dkwJ21_compare_0 ++ []
theorem dksJ21_compare_0 : cJ21_compare.data.toList.drop 0 = dktJ21_compare_0 := by decide +kernel
theorem dJ21_compare_0 : decode cJ21_compare 0 = .ok (.iload_n 0, 1) := dk_26 (dk_at dksJ21_compare_0 0 rfl rfl)
theorem dJ21_compare_1 : decode cJ21_compare 1 = .ok (.iload_n 1, 1) := dk_27 (dk_at dksJ21_compare_0 1 rfl rfl)
theorem dJ21_compare_2 : decode cJ21_compare 2 = .ok (.if_icmp .ge 7, 3) := dk_162 0 7 (dk_at dksJ21_compare_0 2 rfl rfl)
theorem dJ21_compare_5 : decode cJ21_compare 5 = .ok (.iconst (-1), 1) := dk_2 (dk_at dksJ21_compare_0 5 rfl rfl)
theorem dJ21_compare_6 : decode cJ21_compare 6 = .ok (.goto 13, 3) := dk_167 0 13 (dk_at dksJ21_compare_0 6 rfl rfl)
theorem dJ21_compare_9 : decode cJ21_compare 9 = .ok (.iload_n 0, 1) := dk_26 (dk_at dksJ21_compare_0 9 rfl rfl)
theorem dJ21_compare_10 : decode cJ21_compare 10 = .ok (.iload_n 1, 1) := dk_27 (dk_at dksJ21_compare_0 10 rfl rfl)
theorem dJ21_compare_11 : decode cJ21_compare 11 = .ok (.if_icmp .ne 7, 3) := dk_160 0 7 (dk_at dksJ21_compare_0 11 rfl rfl)
theorem dJ21_compare_14 : decode cJ21_compare 14 = .ok (.iconst 0, 1) := dk_3 (dk_at dksJ21_compare_0 14 rfl rfl)
theorem dJ21_compare_15 : decode cJ21_compare 15 = .ok (.goto 4, 3) := dk_167 0 4 (dk_at dksJ21_compare_0 15 rfl rfl)
theorem dJ21_compare_18 : decode cJ21_compare 18 = .ok (.iconst 1, 1) := dk_4 (dk_at dksJ21_compare_0 18 rfl rfl)
theorem dJ21_compare_19 : decode cJ21_compare 19 = .ok (.ireturn, 1) := dk_172 (dk_at dksJ21_compare_0 19 rfl rfl)
def fJ21_compare_b19 (e : Nat → Nat) (N : Nat) (m : Mm) (s0 : Int32) : Rs (Int32) := rt_ s0 m
def fJ21_compare (e : Nat → Nat) (N : Nat) (m : Mm) (v0 : Int32) (v1 : Int32) : Rs (Int32) := if v0 < v1 then (fJ21_compare_b19 e N m (-1)) else (if v0 = v1 then (fJ21_compare_b19 e N m 0) else (fJ21_compare_b19 e N m 1))
abbrev cJ21_compareTo_2 : ByteArray := prog_37_method_39_code
def yJ21_compareTo_2 : MethodName := ⟨RJ21, "compareTo", "(Ljava/lang/Integer;)I"⟩
def dkwJ21_compareTo_2_0 : List UInt8 := [42, 180, 0, 205, 43, 180, 0, 205, 184, 1, 3, 172]
abbrev dktJ21_compareTo_2_0 : List UInt8 := dkwJ21_compareTo_2_0 ++ []
theorem dksJ21_compareTo_2_0 : cJ21_compareTo_2.data.toList.drop 0 = dktJ21_compareTo_2_0 := by decide +kernel
theorem dJ21_compareTo_2_0 : decode cJ21_compareTo_2 0 = .ok (.aload_n 0, 1) := dk_42 (dk_at dksJ21_compareTo_2_0 0 rfl rfl)
theorem dJ21_compareTo_2_1 : decode cJ21_compareTo_2 1 = .ok (.getfield 205, 3) := dk_180 0 205 (dk_at dksJ21_compareTo_2_0 1 rfl rfl)
theorem dJ21_compareTo_2_4 : decode cJ21_compareTo_2 4 = .ok (.aload_n 1, 1) := dk_43 (dk_at dksJ21_compareTo_2_0 4 rfl rfl)
theorem dJ21_compareTo_2_5 : decode cJ21_compareTo_2 5 = .ok (.getfield 205, 3) := dk_180 0 205 (dk_at dksJ21_compareTo_2_0 5 rfl rfl)
theorem dJ21_compareTo_2_8 : decode cJ21_compareTo_2 8 = .ok (.invokestatic 259, 3) := dk_184 1 3 (dk_at dksJ21_compareTo_2_0 8 rfl rfl)
theorem dJ21_compareTo_2_11 : decode cJ21_compareTo_2 11 = .ok (.ireturn, 1) := dk_172 (dk_at dksJ21_compareTo_2_0 11 rfl rfl)
def fJ21_compareTo_2 (e : Nat → Nat) (N : Nat) (m : Mm) (v0 : Option Nat) (v1 : Option Nat) : Rs (Int32) := gi_ m v0 27 0 (fun x1 => gi_ m v1 27 0 (fun x2 => bd_ (fJ21_compare e N m x1 x2) (fun x3 m1 => rt_ x3 m1)))
abbrev cJ21_compareTo : ByteArray := prog_37_method_63_code
def yJ21_compareTo : MethodName := ⟨RJ21, "compareTo", "(Ljava/lang/Object;)I"⟩
def dkwJ21_compareTo_0 : List UInt8 := [42, 43, 192, 0, 1, 182, 1, 28, 172]
abbrev dktJ21_compareTo_0 : List UInt8 := dkwJ21_compareTo_0 ++ []
theorem dksJ21_compareTo_0 : cJ21_compareTo.data.toList.drop 0 = dktJ21_compareTo_0 := by decide +kernel
theorem dJ21_compareTo_0 : decode cJ21_compareTo 0 = .ok (.aload_n 0, 1) := dk_42 (dk_at dksJ21_compareTo_0 0 rfl rfl)
theorem dJ21_compareTo_1 : decode cJ21_compareTo 1 = .ok (.aload_n 1, 1) := dk_43 (dk_at dksJ21_compareTo_0 1 rfl rfl)
theorem dJ21_compareTo_2 : decode cJ21_compareTo 2 = .ok (.checkcast 1, 3) := dk_192 0 1 (dk_at dksJ21_compareTo_0 2 rfl rfl)
theorem dJ21_compareTo_5 : decode cJ21_compareTo 5 = .ok (.invokevirtual 284, 3) := dk_182 1 28 (dk_at dksJ21_compareTo_0 5 rfl rfl)
theorem dJ21_compareTo_8 : decode cJ21_compareTo 8 = .ok (.ireturn, 1) := dk_172 (dk_at dksJ21_compareTo_0 8 rfl rfl)
def fJ21_compareTo (e : Nat → Nat) (N : Nat) (m : Mm) (v0 : Option Nat) (v1 : Option Nat) : Rs (Int32) := cc_ m v1 [27] (ck_ m v0 27 (bd_ (fJ21_compareTo_2 e N m v0 v1) (fun x1 m1 => rt_ x1 m1)))
abbrev cJ4_compare : ByteArray := prog_79_method_67_code
def yJ4_compare : MethodName := ⟨RJ4, "compare", "(Ljava/lang/Object;Ljava/lang/Object;)I"⟩
def dkwJ4_compare_1 : List UInt8 := [43, 44, 185, 0, 117, 3, 0, 172]
abbrev dktJ4_compare_1 : List UInt8 := dkwJ4_compare_1 ++ []
def dkwJ4_compare_0 : List UInt8 := [42, 180, 0, 16, 199, 0, 16, 43, 192, 0, 99, 44, 185, 0, 107, 2, 0, 167, 0, 14, 42, 180, 0, 16]
abbrev dktJ4_compare_0 : List UInt8 := dkwJ4_compare_0 ++ dktJ4_compare_1
theorem dksJ4_compare_0 : cJ4_compare.data.toList.drop 0 = dktJ4_compare_0 := by decide +kernel
theorem dksJ4_compare_1 : cJ4_compare.data.toList.drop 24 = dktJ4_compare_1 := dk_seg dksJ4_compare_0 24 rfl rfl
theorem dJ4_compare_0 : decode cJ4_compare 0 = .ok (.aload_n 0, 1) := dk_42 (dk_at dksJ4_compare_0 0 rfl rfl)
theorem dJ4_compare_1 : decode cJ4_compare 1 = .ok (.getfield 16, 3) := dk_180 0 16 (dk_at dksJ4_compare_0 1 rfl rfl)
theorem dJ4_compare_4 : decode cJ4_compare 4 = .ok (.ifnonnull 16, 3) := dk_199 0 16 (dk_at dksJ4_compare_0 4 rfl rfl)
theorem dJ4_compare_7 : decode cJ4_compare 7 = .ok (.aload_n 1, 1) := dk_43 (dk_at dksJ4_compare_0 7 rfl rfl)
theorem dJ4_compare_8 : decode cJ4_compare 8 = .ok (.checkcast 99, 3) := dk_192 0 99 (dk_at dksJ4_compare_0 8 rfl rfl)
theorem dJ4_compare_11 : decode cJ4_compare 11 = .ok (.aload_n 2, 1) := dk_44 (dk_at dksJ4_compare_0 11 rfl rfl)
theorem dJ4_compare_12 : decode cJ4_compare 12 = .ok (.invokeinterface 107 2, 5) := by decide +kernel
theorem dJ4_compare_17 : decode cJ4_compare 17 = .ok (.goto 14, 3) := dk_167 0 14 (dk_at dksJ4_compare_0 17 rfl rfl)
theorem dJ4_compare_20 : decode cJ4_compare 20 = .ok (.aload_n 0, 1) := dk_42 (dk_at dksJ4_compare_0 20 rfl rfl)
theorem dJ4_compare_21 : decode cJ4_compare 21 = .ok (.getfield 16, 3) := dk_180 0 16 (dk_at dksJ4_compare_0 21 rfl rfl)
theorem dJ4_compare_24 : decode cJ4_compare 24 = .ok (.aload_n 1, 1) := dk_43 (dk_at dksJ4_compare_1 0 rfl rfl)
theorem dJ4_compare_25 : decode cJ4_compare 25 = .ok (.aload_n 2, 1) := dk_44 (dk_at dksJ4_compare_1 1 rfl rfl)
theorem dJ4_compare_26 : decode cJ4_compare 26 = .ok (.invokeinterface 117 3, 5) := by decide +kernel
theorem dJ4_compare_31 : decode cJ4_compare 31 = .ok (.ireturn, 1) := dk_172 (dk_at dksJ4_compare_1 7 rfl rfl)
def fJ4_compare (e : Nat → Nat) (N : Nat) (m : Mm) (v0 : Option Nat) (v1 : Option Nat) (v2 : Option Nat) : Rs (Int32) := gr_ m v0 15 2 (fun x1 => if x1 = none then (cc_ m v1 [27] (ck_ m v1 27 (bd_ (fJ21_compareTo e N m v1 v2) (fun x2 m1 => rt_ x2 m1)))) else (gr_ m v0 15 2 (fun x3 => none)))
theorem wJ18_checkIndex_b9 {l : Launch} {g : GG} {E : Me_} (C : Cx_ l g E "jdk/internal/util/Preconditions" cJ18_checkIndex 3 10) (hret : (eT_ E).sig.returnType = (Option.some Jvm.ClassFile.FieldType.int)) (h0 : ∀ x ∈ (eC_ E).exceptionTable.toList, False) (hin : (eT_ E).name = "checkIndex") (N : Nat) : ∀ (m : Mm) (v0 : Int32) (v1 : Int32) (v2 : Option Nat) (k n : Nat), Sm_ l g E 3 en_i (fJ18_checkIndex_b9 (gE_ g) N m v0 v1 v2) k n 9 [(0, vi_ v0), (1, vi_ v1), (2, vr_ v2)] [] m := by
  intro m v0 v1 v2 k n
  unfold fJ18_checkIndex_b9
  refine s_aload_n C rfl 2 rfl dJ18_checkIndex_9 10 rfl ?_
  refine s_iload_n C rfl 0 rfl dJ18_checkIndex_10 11 rfl ?_
  refine s_iload_n C rfl 1 rfl dJ18_checkIndex_11 12 rfl ?_
  exact Sm_none
theorem wJ18_checkIndex {l : Launch} {g : GG} {E : Me_} (C : Cx_ l g E "jdk/internal/util/Preconditions" cJ18_checkIndex 3 10) (hret : (eT_ E).sig.returnType = (Option.some Jvm.ClassFile.FieldType.int)) (h0 : ∀ x ∈ (eC_ E).exceptionTable.toList, False) (hin : (eT_ E).name = "checkIndex") (N : Nat) : ∀ (m : Mm) (v0 : Int32) (v1 : Int32) (v2 : Option Nat) (k n : Nat), Sm_ l g E 3 en_i (fJ18_checkIndex (gE_ g) N m v0 v1 v2) k n 0 [(0, vi_ v0), (1, vi_ v1), (2, vr_ v2)] [] m := by
  intro m v0 v1 v2 k n
  unfold fJ18_checkIndex
  refine s_iload_n C rfl 0 rfl dJ18_checkIndex_0 1 rfl ?_
  refine s_if_lt C dJ18_checkIndex_1 9 rfl 4 rfl (fun c_ => ?_) (fun c_ => ?_)
  · exact wJ18_checkIndex_b9 C hret h0 hin N _ _ _ _ _ _
  · refine s_iload_n C rfl 0 rfl dJ18_checkIndex_4 5 rfl ?_
    refine s_iload_n C rfl 1 rfl dJ18_checkIndex_5 6 rfl ?_
    refine s_icmp_lt C dJ18_checkIndex_6 16 rfl 9 rfl (fun c_ => ?_) (fun c_ => ?_)
    · refine s_iload_n C rfl 0 rfl dJ18_checkIndex_16 17 rfl ?_
      exact x_iret C hret rfl dJ18_checkIndex_17
    · exact wJ18_checkIndex_b9 C hret h0 hin N _ _ _ _ _ _
theorem hdJ18_checkIndex : ((⟨"jdk/internal/util/Preconditions", "checkIndex", "(IILjava/util/function/BiFunction;)I"⟩ : MethodName)).cls ≠ "java/lang/invoke/MethodHandle" ∧ ((⟨"jdk/internal/util/Preconditions", "checkIndex", "(IILjava/util/function/BiFunction;)I"⟩ : MethodName)).cls ≠ "java/lang/invoke/VarHandle" ∧ (parseMethodDescriptor ((⟨"jdk/internal/util/Preconditions", "checkIndex", "(IILjava/util/function/BiFunction;)I"⟩ : MethodName)).desc).map (fun d => d.parameters.length) = some 3 := ⟨by decide +kernel, by decide +kernel, by decide +kernel⟩
theorem ctJ18_checkIndex {l : Launch} {g : GG} (hst : l.stackTraces = false) (N : Nat) (m : Mm) (v0 : Int32) (v1 : Int32) (v2 : Option Nat) : ∀ v m' k n, fJ18_checkIndex (gE_ g) N m v0 v1 v2 = some (v, m', k, n) → Ct_ l g (⟨"jdk/internal/util/Preconditions", "checkIndex", "(IILjava/util/function/BiFunction;)I"⟩ : MethodName) (ws_ (⟨"jdk/internal/util/Preconditions", "checkIndex", "(IILjava/util/function/BiFunction;)I"⟩ : MethodName) cJ18_checkIndex 3 (Option.some Jvm.ClassFile.FieldType.int)) 10 [vi_ v0, vi_ v1, vr_ v2] m (en_i v) m' k n :=
  Ct_of (by decide +kernel) rfl hst (Nat.le_of_ble_eq_true rfl) rfl (fun E C hret h0 hin => wJ18_checkIndex C hret h0 hin N m v0 v1 v2 0 0)
theorem wJ23_checkIndex {l : Launch} {g : GG} {E : Me_} (C : Cx_ l g E "java/util/Objects" cJ23_checkIndex 2 11) (hret : (eT_ E).sig.returnType = (Option.some Jvm.ClassFile.FieldType.int)) (h0 : ∀ x ∈ (eC_ E).exceptionTable.toList, False) (hin : (eT_ E).name = "checkIndex") (N : Nat) : ∀ (m : Mm) (v0 : Int32) (v1 : Int32) (k n : Nat), Sm_ l g E 2 en_i (fJ23_checkIndex (gE_ g) N m v0 v1) k n 0 [(0, vi_ v0), (1, vi_ v1)] [] m := by
  intro m v0 v1 k n
  unfold fJ23_checkIndex
  refine s_iload_n C rfl 0 rfl dJ23_checkIndex_0 1 rfl ?_
  refine s_iload_n C rfl 1 rfl dJ23_checkIndex_1 2 rfl ?_
  refine s_null C dJ23_checkIndex_2 3 rfl ?_
  refine x_callS (enc := en_i) C 10 3 [vi_ v0, vi_ v1, vr_ none] (ctJ18_checkIndex C.2.2.2.2.2.2.2.2.1 N m v0 v1 none) q899 q900 q105 q901 hdJ18_checkIndex (Nat.le_of_ble_eq_true rfl) (Nat.le_of_ble_eq_true rfl) rfl (Nat.le_of_ble_eq_true rfl) dJ23_checkIndex_3 6 rfl rfl hen_i (kk_i (fun x1 m1 k1 n1 => ?_)) (kx_n he_i)
  exact x_iret C hret rfl dJ23_checkIndex_6
theorem hdJ23_checkIndex : ((⟨"java/util/Objects", "checkIndex", "(II)I"⟩ : MethodName)).cls ≠ "java/lang/invoke/MethodHandle" ∧ ((⟨"java/util/Objects", "checkIndex", "(II)I"⟩ : MethodName)).cls ≠ "java/lang/invoke/VarHandle" ∧ (parseMethodDescriptor ((⟨"java/util/Objects", "checkIndex", "(II)I"⟩ : MethodName)).desc).map (fun d => d.parameters.length) = some 2 := ⟨by decide +kernel, by decide +kernel, by decide +kernel⟩
theorem ctJ23_checkIndex {l : Launch} {g : GG} (hst : l.stackTraces = false) (N : Nat) (m : Mm) (v0 : Int32) (v1 : Int32) : ∀ v m' k n, fJ23_checkIndex (gE_ g) N m v0 v1 = some (v, m', k, n) → Ct_ l g (⟨"java/util/Objects", "checkIndex", "(II)I"⟩ : MethodName) (ws_ (⟨"java/util/Objects", "checkIndex", "(II)I"⟩ : MethodName) cJ23_checkIndex 2 (Option.some Jvm.ClassFile.FieldType.int)) 11 [vi_ v0, vi_ v1] m (en_i v) m' k n :=
  Ct_of (by decide +kernel) rfl hst (Nat.le_of_ble_eq_true rfl) rfl (fun E C hret h0 hin => wJ23_checkIndex C hret h0 hin N m v0 v1 0 0)
theorem wJ2_elementData {l : Launch} {g : GG} {E : Me_} (C : Cx_ l g E "java/util/ArrayList" cJ2_elementData 2 10) (hret : (eT_ E).sig.returnType = (Option.some (Jvm.ClassFile.FieldType.object "java/lang/Object"))) (h0 : ∀ x ∈ (eC_ E).exceptionTable.toList, False) (hin : (eT_ E).name = "elementData") (N : Nat) : ∀ (m : Mm) (v0 : Option Nat) (v1 : Int32) (k n : Nat), Sm_ l g E 2 en_r (fJ2_elementData (gE_ g) N m v0 v1) k n 0 [(0, vr_ v0), (1, vi_ v1)] [] m := by
  intro m v0 v1 k n
  unfold fJ2_elementData
  refine s_aload_n C rfl 0 rfl dJ2_elementData_0 1 rfl ?_
  refine x_gr C 12 (RJ2, TJ2, 3) rfl 1 (Nat.le_of_ble_eq_true rfl) q168 (Or.inl rfl) rfl 13 rfl dJ2_elementData_1 4 rfl (fun x1 => ?_)
  refine s_iload_n C rfl 1 rfl dJ2_elementData_4 5 rfl ?_
  refine x_ar C 4 (.object "java/lang/Object") rfl rfl rfl 204 rfl dJ2_elementData_5 6 rfl (fun x2 => ?_)
  exact x_aret C hret (Or.inl ⟨_, rfl⟩) rfl dJ2_elementData_6
theorem hdJ2_elementData : ((⟨"java/util/ArrayList", "elementData", "(I)Ljava/lang/Object;"⟩ : MethodName)).cls ≠ "java/lang/invoke/MethodHandle" ∧ ((⟨"java/util/ArrayList", "elementData", "(I)Ljava/lang/Object;"⟩ : MethodName)).cls ≠ "java/lang/invoke/VarHandle" ∧ (parseMethodDescriptor ((⟨"java/util/ArrayList", "elementData", "(I)Ljava/lang/Object;"⟩ : MethodName)).desc).map (fun d => d.parameters.length) = some 1 := ⟨by decide +kernel, by decide +kernel, by decide +kernel⟩
theorem ctJ2_elementData {l : Launch} {g : GG} (hst : l.stackTraces = false) (N : Nat) (m : Mm) (v0 : Option Nat) (v1 : Int32) : ∀ v m' k n, fJ2_elementData (gE_ g) N m v0 v1 = some (v, m', k, n) → Ct_ l g (⟨"java/util/ArrayList", "elementData", "(I)Ljava/lang/Object;"⟩ : MethodName) (ws_ (⟨"java/util/ArrayList", "elementData", "(I)Ljava/lang/Object;"⟩ : MethodName) cJ2_elementData 2 (Option.some (Jvm.ClassFile.FieldType.object "java/lang/Object"))) 10 [vr_ v0, vi_ v1] m (en_r v) m' k n :=
  Ct_of (by decide +kernel) rfl hst (Nat.le_of_ble_eq_true rfl) rfl (fun E C hret h0 hin => wJ2_elementData C hret h0 hin N m v0 v1 0 0)
theorem wJ2_get {l : Launch} {g : GG} {E : Me_} (C : Cx_ l g E "java/util/ArrayList" cJ2_get 2 12) (hret : (eT_ E).sig.returnType = (Option.some (Jvm.ClassFile.FieldType.object "java/lang/Object"))) (h0 : ∀ x ∈ (eC_ E).exceptionTable.toList, False) (hin : (eT_ E).name = "get") (N : Nat) : ∀ (m : Mm) (v0 : Option Nat) (v1 : Int32) (k n : Nat), Sm_ l g E 2 en_r (fJ2_get (gE_ g) N m v0 v1) k n 0 [(0, vr_ v0), (1, vi_ v1)] [] m := by
  intro m v0 v1 k n
  unfold fJ2_get
  refine s_iload_n C rfl 1 rfl dJ2_get_0 1 rfl ?_
  refine s_aload_n C rfl 0 rfl dJ2_get_1 2 rfl ?_
  refine x_gi C 12 (RJ2, TJ2, 3) rfl 2 (Nat.le_of_ble_eq_true rfl) q171 (Or.inl rfl) rfl 13 rfl dJ2_get_2 5 rfl (fun x1 => ?_)
  refine x_callS (enc := en_i) C 11 2 [vi_ v1, vi_ x1] (ctJ23_checkIndex C.2.2.2.2.2.2.2.2.1 N m v1 x1) q896 q897 q110 q898 hdJ23_checkIndex (Nat.le_of_ble_eq_true rfl) (Nat.le_of_ble_eq_true rfl) rfl (Nat.le_of_ble_eq_true rfl) dJ2_get_5 8 rfl rfl hen_i (kk_i (fun x2 m1 k1 n1 => ?_)) (kx_n he_i)
  refine s_pop C rfl dJ2_get_8 9 rfl ?_
  refine s_aload_n C rfl 0 rfl dJ2_get_9 10 rfl ?_
  refine s_iload_n C rfl 1 rfl dJ2_get_10 11 rfl ?_
  refine x_ck (fun hb_ hb0_ => ?_)
  refine x_callV (enc := en_r) C 10 1 [vi_ v1] 13 (ctJ2_elementData C.2.2.2.2.2.2.2.2.1 N m1 v0 v1) hb_ hb0_ rfl rfl q902 q903 q904 q84 q905 hdJ2_elementData (Nat.le_of_ble_eq_true rfl) (Nat.le_of_ble_eq_true rfl) rfl (Nat.le_of_ble_eq_true rfl) dJ2_get_11 14 rfl rfl hen_r (kk_r (fun x3 m2 k1 n1 => ?_)) (kx_n he_r)
  exact x_aret C hret (Or.inl ⟨_, rfl⟩) rfl dJ2_get_14
theorem hdJ2_get : ((⟨"java/util/ArrayList", "get", "(I)Ljava/lang/Object;"⟩ : MethodName)).cls ≠ "java/lang/invoke/MethodHandle" ∧ ((⟨"java/util/ArrayList", "get", "(I)Ljava/lang/Object;"⟩ : MethodName)).cls ≠ "java/lang/invoke/VarHandle" ∧ (parseMethodDescriptor ((⟨"java/util/ArrayList", "get", "(I)Ljava/lang/Object;"⟩ : MethodName)).desc).map (fun d => d.parameters.length) = some 1 := ⟨by decide +kernel, by decide +kernel, by decide +kernel⟩
theorem ctJ2_get {l : Launch} {g : GG} (hst : l.stackTraces = false) (N : Nat) (m : Mm) (v0 : Option Nat) (v1 : Int32) : ∀ v m' k n, fJ2_get (gE_ g) N m v0 v1 = some (v, m', k, n) → Ct_ l g (⟨"java/util/ArrayList", "get", "(I)Ljava/lang/Object;"⟩ : MethodName) (ws_ (⟨"java/util/ArrayList", "get", "(I)Ljava/lang/Object;"⟩ : MethodName) cJ2_get 2 (Option.some (Jvm.ClassFile.FieldType.object "java/lang/Object"))) 12 [vr_ v0, vi_ v1] m (en_r v) m' k n :=
  Ct_of (by decide +kernel) rfl hst (Nat.le_of_ble_eq_true rfl) rfl (fun E C hret h0 hin => wJ2_get C hret h0 hin N m v0 v1 0 0)
theorem wX1_klassAt {l : Launch} {g : GG} {E : Me_} (C : Cx_ l g E "MasterTree" cX1_klassAt 2 17) (hret : (eT_ E).sig.returnType = (Option.some (Jvm.ClassFile.FieldType.object "MasterTree$Klass"))) (h0 : ∀ x ∈ (eC_ E).exceptionTable.toList, False) (hin : (eT_ E).name = "klassAt") (N : Nat) : ∀ (m : Mm) (v0 : Option Nat) (v1 : Int32) (k n : Nat), Sm_ l g E 2 (xe_ en_r) (fX1_klassAt (gE_ g) N m v0 v1) k n 0 [(0, vr_ v0), (1, vi_ v1)] [] m := by
  intro m v0 v1 k n
  unfold fX1_klassAt
  refine s_aload_n C rfl 0 rfl dX1_klassAt_0 1 rfl ?_
  refine x_gr C 0 (RX1, TX1, 9) rfl 1 (Nat.le_of_ble_eq_true rfl) q446 (Or.inl rfl) rfl 1 rfl dX1_klassAt_1 4 rfl (fun x1 => ?_)
  refine s_iload_n C rfl 1 rfl dX1_klassAt_4 5 rfl ?_
  refine s_aload_n C rfl 0 rfl dX1_klassAt_5 6 rfl ?_
  refine x_gr C 0 (RX1, TX1, 9) rfl 1 (Nat.le_of_ble_eq_true rfl) q446 (Or.inl rfl) rfl 1 rfl dX1_klassAt_6 9 rfl (fun x2 => ?_)
  refine x_ck (fun hb_ hb0_ => ?_)
  refine x_callF (enc := en_i) C 10 0 [] 13 (ctJ2_size C.2.2.2.2.2.2.2.2.1 N m x2) hb_ hb0_ rfl rfl rfl fw_1 q480 q483 q485 q84 q487 hx1 (Nat.le_of_ble_eq_true rfl) (Nat.le_of_ble_eq_true rfl) rfl (Nat.le_of_ble_eq_true rfl) dX1_klassAt_9 14 rfl rfl hen_i (kk_i (fun x3 m1 k1 n1 => ?_)) (kx_n he_i)
  refine x_ls C 1 1 rfl dX1_klassAt_14 16 rfl ?_
  refine x_callS (enc := (xe_ en_i)) C 16 3 [vi_ v1, vi_ x3, vr_ (some (gE_ g (100 + 1)))] (ctX1_place C.2.2.2.2.2.2.2.2.1 N m1 v1 x3 (some (gE_ g (100 + 1)))) q633 q634 q81 q635 hdX1_place (Nat.le_of_ble_eq_true rfl) (Nat.le_of_ble_eq_true rfl) rfl (Nat.le_of_ble_eq_true rfl) dX1_klassAt_16 19 rfl rfl (hen_x hen_i) (kk_x (kk_i (fun x4 m2 k1 n1 => ?_))) (kx_x C h0 he_i)
  refine x_ck (fun hb_ hb0_ => ?_)
  refine x_callF (enc := en_r) C 12 1 [vi_ x4] 13 (ctJ2_get C.2.2.2.2.2.2.2.2.1 N m2 x1 x4) hb_ hb0_ rfl rfl rfl fw_3 q888 q891 q893 q84 q895 hx2 (Nat.le_of_ble_eq_true rfl) (Nat.le_of_ble_eq_true rfl) rfl (Nat.le_of_ble_eq_true rfl) dX1_klassAt_19 24 rfl rfl hen_r (kk_r (fun x5 m3 k1 n1 => ?_)) (kx_n he_r)
  refine x_cc C "MasterTree$Klass" [6] (fun k hk => by rw [List.mem_singleton.mp hk]; exact ⟨rfl, Or.inr rfl⟩) q906 dX1_klassAt_24 27 rfl ?_
  exact x_aret C hret (Or.inl ⟨_, rfl⟩) rfl dX1_klassAt_27
theorem hdX1_klassAt : ((⟨"MasterTree", "klassAt", "(I)LMasterTree$Klass;"⟩ : MethodName)).cls ≠ "java/lang/invoke/MethodHandle" ∧ ((⟨"MasterTree", "klassAt", "(I)LMasterTree$Klass;"⟩ : MethodName)).cls ≠ "java/lang/invoke/VarHandle" ∧ (parseMethodDescriptor ((⟨"MasterTree", "klassAt", "(I)LMasterTree$Klass;"⟩ : MethodName)).desc).map (fun d => d.parameters.length) = some 1 := ⟨by decide +kernel, by decide +kernel, by decide +kernel⟩
theorem ctX1_klassAt {l : Launch} {g : GG} (hst : l.stackTraces = false) (N : Nat) (m : Mm) (v0 : Option Nat) (v1 : Int32) : ∀ v m' k n, fX1_klassAt (gE_ g) N m v0 v1 = some (v, m', k, n) → Ct_ l g (⟨"MasterTree", "klassAt", "(I)LMasterTree$Klass;"⟩ : MethodName) (ws_ (⟨"MasterTree", "klassAt", "(I)LMasterTree$Klass;"⟩ : MethodName) cX1_klassAt 2 (Option.some (Jvm.ClassFile.FieldType.object "MasterTree$Klass"))) 17 [vr_ v0, vi_ v1] m ((xe_ en_r) v) m' k n :=
  Ct_of (by decide +kernel) rfl hst (Nat.le_of_ble_eq_true rfl) rfl (fun E C hret h0 hin => wX1_klassAt C hret h0 hin N m v0 v1 0 0)
theorem wX1_objectClass_b61 {l : Launch} {g : GG} {E : Me_} (C : Cx_ l g E "MasterTree" cX1_objectClass 5 18) (hret : (eT_ E).sig.returnType = (Option.some Jvm.ClassFile.FieldType.int)) (h0 : ∀ x ∈ (eC_ E).exceptionTable.toList, False) (hin : (eT_ E).name = "objectClass") (N : Nat) : ∀ (m : Mm) (v0 : Option Nat) (v2 : Int32) (v3 : Int32) (v4 : Option Nat) (s0 : Int32) (k n : Nat), Sm_ l g E 5 (xe_ en_i) (fX1_objectClass_b61 (gE_ g) N m v0 v2 v3 v4 s0) k n 61 [(0, vr_ v0), (2, vi_ v2), (3, vi_ v3), (4, vr_ v4)] [vi_ s0] m := by
  intro m v0 v2 v3 v4 s0 k n
  unfold fX1_objectClass_b61
  refine x_ls C 6 6 rfl dX1_objectClass_61 63 rfl ?_
  refine x_callS (enc := (xe_ en_v)) C 10 2 [vi_ s0, vr_ (some (gE_ g (100 + 6)))] (ctX1_must C.2.2.2.2.2.2.2.2.1 N m s0 (some (gE_ g (100 + 6)))) q510 q511 q81 q512 hdX1_must (Nat.le_of_ble_eq_true rfl) (Nat.le_of_ble_eq_true rfl) rfl (Nat.le_of_ble_eq_true rfl) dX1_objectClass_63 66 rfl rfl (hen_x hen_v) (kk_x (kk_v (fun m1 k1 n1 => ?_))) (kx_x C h0 he_v)
  refine s_aload_n C rfl 0 rfl dX1_objectClass_66 67 rfl ?_
  refine x_gr C 0 (RX1, TX1, 9) rfl 1 (Nat.le_of_ble_eq_true rfl) q446 (Or.inl rfl) rfl 1 rfl dX1_objectClass_67 70 rfl (fun x1 => ?_)
  refine x_nw C 5 (RX6, TX6, 3) rfl q906 q909 q111 6 3 rfl rfl dX1_objectClass_70 73 rfl (fun x2 m2 => ?_)
  refine s_dup C rfl dX1_objectClass_73 74 rfl ?_
  refine s_aload C 3 rfl dX1_objectClass_74 76 rfl ?_
  refine s_iload_n C rfl 1 rfl dX1_objectClass_76 77 rfl ?_
  refine s_iload_n C rfl 2 rfl dX1_objectClass_77 78 rfl ?_
  refine x_callI (enc := en_v) C 10 3 [vr_ v4, vi_ v2, vi_ v3] (ctX6_init C.2.2.2.2.2.2.2.2.1 N m2 (some x2) v4 v2 v3) (fun h => by cases h) rfl q910 q911 q111 q912 rfl hdX6_init (Nat.le_of_ble_eq_true rfl) (Nat.le_of_ble_eq_true rfl) rfl (Nat.le_of_ble_eq_true rfl) dX1_objectClass_78 81 rfl rfl hen_v (kk_v (fun m3 k1 n1 => ?_)) (kx_n he_v)
  refine x_ck (fun hb_ hb0_ => ?_)
  refine x_callF (enc := en_i) C 15 1 [vr_ (some x2)] 13 (ctJ2_add C.2.2.2.2.2.2.2.2.1 N m3 x1 (some x2)) hb_ hb0_ rfl rfl rfl fw_0 q346 q350 q352 q84 q354 hx0 (Nat.le_of_ble_eq_true rfl) (Nat.le_of_ble_eq_true rfl) rfl (Nat.le_of_ble_eq_true rfl) dX1_objectClass_81 86 rfl rfl hen_i (kk_i (fun x3 m4 k1 n1 => ?_)) (kx_n he_i)
  refine s_pop C rfl dX1_objectClass_86 87 rfl ?_
  refine s_aload_n C rfl 0 rfl dX1_objectClass_87 88 rfl ?_
  refine x_gr C 0 (RX1, TX1, 9) rfl 1 (Nat.le_of_ble_eq_true rfl) q446 (Or.inl rfl) rfl 1 rfl dX1_objectClass_88 91 rfl (fun x4 => ?_)
  refine x_ck (fun hb_ hb0_ => ?_)
  refine x_callF (enc := en_i) C 10 0 [] 13 (ctJ2_size C.2.2.2.2.2.2.2.2.1 N m4 x4) hb_ hb0_ rfl rfl rfl fw_1 q480 q483 q485 q84 q487 hx1 (Nat.le_of_ble_eq_true rfl) (Nat.le_of_ble_eq_true rfl) rfl (Nat.le_of_ble_eq_true rfl) dX1_objectClass_91 96 rfl rfl hen_i (kk_i (fun x5 m5 k1 n1 => ?_)) (kx_n he_i)
  refine s_iconst C 1 rfl dX1_objectClass_96 97 rfl ?_
  refine s_isub C dX1_objectClass_97 98 rfl ?_
  exact x_iret C hret rfl dX1_objectClass_98
theorem wX1_objectClass_b14 {l : Launch} {g : GG} {E : Me_} (C : Cx_ l g E "MasterTree" cX1_objectClass 5 18) (hret : (eT_ E).sig.returnType = (Option.some Jvm.ClassFile.FieldType.int)) (h0 : ∀ x ∈ (eC_ E).exceptionTable.toList, False) (hin : (eT_ E).name = "objectClass") (N : Nat) : ∀ (m : Mm) (v0 : Option Nat) (v2 : Int32) (v3 : Int32) (s0 : Option Nat) (k n : Nat), Sm_ l g E 5 (xe_ en_i) (fX1_objectClass_b14 (gE_ g) N m v0 v2 v3 s0) k n 14 [(0, vr_ v0), (2, vi_ v2), (3, vi_ v3)] [vr_ s0] m := by
  intro m v0 v2 v3 s0 k n
  unfold fX1_objectClass_b14
  refine s_astore C (Nat.le_of_ble_eq_true rfl) [0, 1, 2] rfl rfl dX1_objectClass_14 16 rfl ?_
  refine s_iload_n C rfl 2 rfl dX1_objectClass_16 17 rfl ?_
  refine s_iload_n C rfl 3 rfl dX1_objectClass_17 18 rfl ?_
  refine s_ior C dX1_objectClass_18 19 rfl ?_
  refine s_aload_n C rfl 1 rfl dX1_objectClass_19 20 rfl ?_
  refine x_gr C 0 (RX1, TX1, 9) rfl 0 (Nat.le_of_ble_eq_true rfl) q445 (Or.inl rfl) rfl 1 rfl dX1_objectClass_20 23 rfl (fun x1 => ?_)
  refine x_ck (fun hb_ hb0_ => ?_)
  refine x_callF (enc := en_i) C 10 0 [] 13 (ctJ2_size C.2.2.2.2.2.2.2.2.1 N m x1) hb_ hb0_ rfl rfl rfl fw_1 q480 q483 q485 q84 q487 hx1 (Nat.le_of_ble_eq_true rfl) (Nat.le_of_ble_eq_true rfl) rfl (Nat.le_of_ble_eq_true rfl) dX1_objectClass_23 28 rfl rfl hen_i (kk_i (fun x2 m1 k1 n1 => ?_)) (kx_n he_i)
  refine s_ishr C dX1_objectClass_28 29 rfl ?_
  refine s_if_eq C dX1_objectClass_29 42 rfl 32 rfl (fun c_ => ?_) (fun c_ => ?_)
  · refine s_aload_n C rfl 1 rfl dX1_objectClass_42 43 rfl ?_
    refine x_gr C 0 (RX1, TX1, 9) rfl 1 (Nat.le_of_ble_eq_true rfl) q446 (Or.inl rfl) rfl 1 rfl dX1_objectClass_43 46 rfl (fun x3 => ?_)
    refine x_ck (fun hb_ hb0_ => ?_)
    refine x_callF (enc := en_i) C 10 0 [] 13 (ctJ2_size C.2.2.2.2.2.2.2.2.1 N m1 x3) hb_ hb0_ rfl rfl rfl fw_1 q480 q483 q485 q84 q487 hx1 (Nat.le_of_ble_eq_true rfl) (Nat.le_of_ble_eq_true rfl) rfl (Nat.le_of_ble_eq_true rfl) dX1_objectClass_46 51 rfl rfl hen_i (kk_i (fun x4 m2 k1 n1 => ?_)) (kx_n he_i)
    refine s_bipush C 8 rfl dX1_objectClass_51 53 rfl ?_
    refine s_icmp_ge C dX1_objectClass_53 60 rfl 56 rfl (fun c_ => ?_) (fun c_ => ?_)
    · refine s_iconst C 1 rfl dX1_objectClass_56 57 rfl ?_
      refine s_goto C (off := 4) 61 dX1_objectClass_57 rfl ?_
      refine Sm_sub [1, 2, 3, 0] rfl ?_
      exact wX1_objectClass_b61 C hret h0 hin N _ _ _ _ _ _ _ _
    · refine s_iconst C 0 rfl dX1_objectClass_60 61 rfl ?_
      refine Sm_sub [1, 2, 3, 0] rfl ?_
      exact wX1_objectClass_b61 C hret h0 hin N _ _ _ _ _ _ _ _
  · refine x_nx C 0 (by decide) q636 q637 q99 dX1_objectClass_32 35 rfl (fun x5 m3 hz_x5 => ?_)
    refine s_dup C rfl dX1_objectClass_35 36 rfl ?_
    refine x_ls C 5 5 rfl dX1_objectClass_36 38 rfl ?_
    refine x_xi0 C q884 hz_x5 (Nat.le_of_ble_eq_true rfl) (Nat.le_of_ble_eq_true rfl) dX1_objectClass_38 41 rfl (fun m4 => ?_)
    exact x_at C h0 0 (by decide) rfl dX1_objectClass_41
theorem wX1_objectClass {l : Launch} {g : GG} {E : Me_} (C : Cx_ l g E "MasterTree" cX1_objectClass 5 18) (hret : (eT_ E).sig.returnType = (Option.some Jvm.ClassFile.FieldType.int)) (h0 : ∀ x ∈ (eC_ E).exceptionTable.toList, False) (hin : (eT_ E).name = "objectClass") (N : Nat) : ∀ (m : Mm) (v0 : Option Nat) (v1 : Int32) (v2 : Int32) (v3 : Int32) (k n : Nat), Sm_ l g E 5 (xe_ en_i) (fX1_objectClass (gE_ g) N m v0 v1 v2 v3) k n 0 [(0, vr_ v0), (1, vi_ v1), (2, vi_ v2), (3, vi_ v3)] [] m := by
  intro m v0 v1 v2 v3 k n
  unfold fX1_objectClass
  refine s_iload_n C rfl 1 rfl dX1_objectClass_0 1 rfl ?_
  refine s_iconst C (-1) rfl dX1_objectClass_1 2 rfl ?_
  refine s_icmp_ne C dX1_objectClass_2 9 rfl 5 rfl (fun c_ => ?_) (fun c_ => ?_)
  · refine s_null C dX1_objectClass_5 6 rfl ?_
    refine s_goto C (off := 8) 14 dX1_objectClass_6 rfl ?_
    refine Sm_sub [0, 2, 3] rfl ?_
    exact wX1_objectClass_b14 C hret h0 hin N _ _ _ _ _ _ _
  · refine s_aload_n C rfl 0 rfl dX1_objectClass_9 10 rfl ?_
    refine s_iload_n C rfl 1 rfl dX1_objectClass_10 11 rfl ?_
    refine x_ck (fun hb_ hb0_ => ?_)
    refine x_callV (enc := (xe_ en_r)) C 17 1 [vi_ v1] 1 (ctX1_klassAt C.2.2.2.2.2.2.2.2.1 N m v0 v1) hb_ hb0_ rfl rfl q628 q630 qs4 q81 q631 hdX1_klassAt (Nat.le_of_ble_eq_true rfl) (Nat.le_of_ble_eq_true rfl) rfl (Nat.le_of_ble_eq_true rfl) dX1_objectClass_11 14 rfl rfl (hen_x hen_r) (kk_x (kk_r (fun x1 m1 k1 n1 => ?_))) (kx_x C h0 he_r)
    refine Sm_sub [0, 2, 3] rfl ?_
    exact wX1_objectClass_b14 C hret h0 hin N _ _ _ _ _ _ _
theorem hdX1_objectClass : ((⟨"MasterTree", "objectClass", "(III)I"⟩ : MethodName)).cls ≠ "java/lang/invoke/MethodHandle" ∧ ((⟨"MasterTree", "objectClass", "(III)I"⟩ : MethodName)).cls ≠ "java/lang/invoke/VarHandle" ∧ (parseMethodDescriptor ((⟨"MasterTree", "objectClass", "(III)I"⟩ : MethodName)).desc).map (fun d => d.parameters.length) = some 3 := ⟨by decide +kernel, by decide +kernel, by decide +kernel⟩
theorem ctX1_objectClass {l : Launch} {g : GG} (hst : l.stackTraces = false) (N : Nat) (m : Mm) (v0 : Option Nat) (v1 : Int32) (v2 : Int32) (v3 : Int32) : ∀ v m' k n, fX1_objectClass (gE_ g) N m v0 v1 v2 v3 = some (v, m', k, n) → Ct_ l g (⟨"MasterTree", "objectClass", "(III)I"⟩ : MethodName) (ws_ (⟨"MasterTree", "objectClass", "(III)I"⟩ : MethodName) cX1_objectClass 5 (Option.some Jvm.ClassFile.FieldType.int)) 18 [vr_ v0, vi_ v1, vi_ v2, vi_ v3] m ((xe_ en_i) v) m' k n :=
  Ct_of (by decide +kernel) rfl hst (Nat.le_of_ble_eq_true rfl) rfl (fun E C hret h0 hin => wX1_objectClass C hret h0 hin N m v0 v1 v2 v3 0 0)
theorem wX0_objectClass {l : Launch} {g : GG} {E : Me_} (C : Cx_ l g E "MasterTreeLaw" cX0_objectClass 6 19) (hret : (eT_ E).sig.returnType = (Option.some Jvm.ClassFile.FieldType.int)) (h0 : (eC_ E).exceptionTable.toList = tableOf [(0, 12, 15, 19), (0, 12, 19, 13)]) (hin : (eT_ E).name = "objectClass") (N : Nat) : ∀ (m : Mm) (v0 : Option Nat) (v1 : Int32) (v2 : Int32) (v3 : Int32) (v4 : Option Nat) (k n : Nat), Sm_ l g E 6 en_i (fX0_objectClass (gE_ g) N m v0 v1 v2 v3 v4) k n 0 [(0, vr_ v0), (1, vi_ v1), (2, vi_ v2), (3, vi_ v3), (4, vr_ v4)] [] m := by
  intro m v0 v1 v2 v3 v4 k n
  unfold fX0_objectClass
  refine s_aload C 4 rfl dX0_objectClass_0 2 rfl ?_
  refine s_iconst C 0 rfl dX0_objectClass_2 3 rfl ?_
  refine s_aload_n C rfl 0 rfl dX0_objectClass_3 4 rfl ?_
  refine s_iload_n C rfl 1 rfl dX0_objectClass_4 5 rfl ?_
  refine s_iload_n C rfl 2 rfl dX0_objectClass_5 6 rfl ?_
  refine s_iload_n C rfl 3 rfl dX0_objectClass_6 7 rfl ?_
  refine x_ck (fun hb_ hb0_ => ?_)
  refine x_callV (enc := (xe_ en_i)) C 18 3 [vi_ v1, vi_ v2, vi_ v3] 1 (ctX1_objectClass C.2.2.2.2.2.2.2.2.1 N m v0 v1 v2 v3) hb_ hb0_ rfl rfl q624 q625 q626 q81 q627 hdX1_objectClass (Nat.le_of_ble_eq_true rfl) (Nat.le_of_ble_eq_true rfl) rfl (Nat.le_of_ble_eq_true rfl) dX0_objectClass_7 10 rfl rfl (hen_x hen_i) (kk_c (kk_i (fun x1 m1 k1 n1 => ?_))) (kx_c he_i (fun i_ m0 k0 n0 => ?_))
  · refine s_i2l C dX0_objectClass_10 11 rfl ?_
    refine x_bj3 C 203 rfl dX0_objectClass_11 12 rfl (fun m2 => ?_)
    refine s_goto C (off := 11) 23 dX0_objectClass_12 rfl ?_
    refine s_iconst C 0 rfl dX0_objectClass_23 24 rfl ?_
    exact x_iret C hret rfl dX0_objectClass_24
  · refine Sx_if ?_ ?_
    · refine Sx_ctch C h0 0 [] ({ startPc := 0, endPc := 12, handlerPc := 15, catchType := 19 } : ExceptionTableEntry) [{ startPc := 0, endPc := 12, handlerPc := 19, catchType := 13 }] rfl (fun z hz => by cases hz) (by decide) (by decide) q600 q638 15 rfl (fun q_ => ?_)
      refine s_astore C (Nat.le_of_ble_eq_true rfl) [] rfl rfl dX0_objectClass_15 17 rfl ?_
      refine s_iconst C 1 rfl dX0_objectClass_17 18 rfl ?_
      exact x_iret C hret rfl dX0_objectClass_18
    refine Sx_if ?_ ?_
    · refine Sx_ctch C h0 2 [{ startPc := 0, endPc := 12, handlerPc := 15, catchType := 19 }] ({ startPc := 0, endPc := 12, handlerPc := 19, catchType := 13 } : ExceptionTableEntry) [] rfl (List.forall_mem_cons.mpr ⟨Or.inr ⟨by decide, "java/lang/IndexOutOfBoundsException", q600, List.mem_of_getElem? (i := 4) rfl⟩, fun z hz => by cases hz⟩) (by decide) (by decide) q504 q515 19 rfl (fun q_ => ?_)
      refine s_astore C (Nat.le_of_ble_eq_true rfl) [] rfl rfl dX0_objectClass_19 21 rfl ?_
      refine s_iconst C 2 rfl dX0_objectClass_21 22 rfl ?_
      exact x_iret C hret rfl dX0_objectClass_22
    exact Sx_none
theorem hdX0_objectClass : ((⟨"MasterTreeLaw", "objectClass", "(LMasterTree;III[J)I"⟩ : MethodName)).cls ≠ "java/lang/invoke/MethodHandle" ∧ ((⟨"MasterTreeLaw", "objectClass", "(LMasterTree;III[J)I"⟩ : MethodName)).cls ≠ "java/lang/invoke/VarHandle" ∧ (parseMethodDescriptor ((⟨"MasterTreeLaw", "objectClass", "(LMasterTree;III[J)I"⟩ : MethodName)).desc).map (fun d => d.parameters.length) = some 5 := ⟨by decide +kernel, by decide +kernel, by decide +kernel⟩
theorem ctX0_objectClass {l : Launch} {g : GG} (hst : l.stackTraces = false) (N : Nat) (m : Mm) (v0 : Option Nat) (v1 : Int32) (v2 : Int32) (v3 : Int32) (v4 : Option Nat) : ∀ v m' k n, fX0_objectClass (gE_ g) N m v0 v1 v2 v3 v4 = some (v, m', k, n) → Ct_ l g (⟨"MasterTreeLaw", "objectClass", "(LMasterTree;III[J)I"⟩ : MethodName) (wsW_ (⟨"MasterTreeLaw", "objectClass", "(LMasterTree;III[J)I"⟩ : MethodName) cX0_objectClass 6 (Option.some Jvm.ClassFile.FieldType.int) [(0, 12, 15, 19), (0, 12, 19, 13)]) 19 [vr_ v0, vi_ v1, vi_ v2, vi_ v3, vr_ v4] m (en_i v) m' k n :=
  Ct_ofW (by decide +kernel) rfl hst (Nat.le_of_ble_eq_true rfl) rfl (fun E C hret h0 hin => wX0_objectClass C hret h0 hin N m v0 v1 v2 v3 v4 0 0)
theorem wX1_at {l : Launch} {g : GG} {E : Me_} (C : Cx_ l g E "MasterTree" cX1_at 2 17) (hret : (eT_ E).sig.returnType = (Option.some (Jvm.ClassFile.FieldType.object "MasterTree$Master"))) (h0 : ∀ x ∈ (eC_ E).exceptionTable.toList, False) (hin : (eT_ E).name = "at") (N : Nat) : ∀ (m : Mm) (v0 : Option Nat) (v1 : Int32) (k n : Nat), Sm_ l g E 2 (xe_ en_r) (fX1_at (gE_ g) N m v0 v1) k n 0 [(0, vr_ v0), (1, vi_ v1)] [] m := by
  intro m v0 v1 k n
  unfold fX1_at
  refine s_aload_n C rfl 0 rfl dX1_at_0 1 rfl ?_
  refine x_gr C 0 (RX1, TX1, 9) rfl 2 (Nat.le_of_ble_eq_true rfl) q448 (Or.inl rfl) rfl 1 rfl dX1_at_1 4 rfl (fun x1 => ?_)
  refine s_iload_n C rfl 1 rfl dX1_at_4 5 rfl ?_
  refine s_iconst C 4 rfl dX1_at_5 6 rfl ?_
  refine x_ls C 7 7 rfl dX1_at_6 8 rfl ?_
  refine x_callS (enc := (xe_ en_i)) C 16 3 [vi_ v1, vi_ 4, vr_ (some (gE_ g (100 + 7)))] (ctX1_place C.2.2.2.2.2.2.2.2.1 N m v1 4 (some (gE_ g (100 + 7)))) q633 q634 q81 q635 hdX1_place (Nat.le_of_ble_eq_true rfl) (Nat.le_of_ble_eq_true rfl) rfl (Nat.le_of_ble_eq_true rfl) dX1_at_8 11 rfl rfl (hen_x hen_i) (kk_x (kk_i (fun x2 m1 k1 n1 => ?_))) (kx_x C h0 he_i)
  refine x_ck (fun hb_ hb0_ => ?_)
  refine x_callF (enc := en_r) C 12 1 [vi_ x2] 13 (ctJ2_get C.2.2.2.2.2.2.2.2.1 N m1 x1 x2) hb_ hb0_ rfl rfl rfl fw_3 q888 q891 q893 q84 q895 hx2 (Nat.le_of_ble_eq_true rfl) (Nat.le_of_ble_eq_true rfl) rfl (Nat.le_of_ble_eq_true rfl) dX1_at_11 16 rfl rfl hen_r (kk_r (fun x3 m2 k1 n1 => ?_)) (kx_n he_r)
  refine x_cc C "MasterTree$Master" [2] (fun k hk => by rw [List.mem_singleton.mp hk]; exact ⟨rfl, Or.inr rfl⟩) q183 dX1_at_16 19 rfl ?_
  exact x_aret C hret (Or.inl ⟨_, rfl⟩) rfl dX1_at_19
theorem hdX1_at : ((⟨"MasterTree", "at", "(I)LMasterTree$Master;"⟩ : MethodName)).cls ≠ "java/lang/invoke/MethodHandle" ∧ ((⟨"MasterTree", "at", "(I)LMasterTree$Master;"⟩ : MethodName)).cls ≠ "java/lang/invoke/VarHandle" ∧ (parseMethodDescriptor ((⟨"MasterTree", "at", "(I)LMasterTree$Master;"⟩ : MethodName)).desc).map (fun d => d.parameters.length) = some 1 := ⟨by decide +kernel, by decide +kernel, by decide +kernel⟩
theorem ctX1_at {l : Launch} {g : GG} (hst : l.stackTraces = false) (N : Nat) (m : Mm) (v0 : Option Nat) (v1 : Int32) : ∀ v m' k n, fX1_at (gE_ g) N m v0 v1 = some (v, m', k, n) → Ct_ l g (⟨"MasterTree", "at", "(I)LMasterTree$Master;"⟩ : MethodName) (ws_ (⟨"MasterTree", "at", "(I)LMasterTree$Master;"⟩ : MethodName) cX1_at 2 (Option.some (Jvm.ClassFile.FieldType.object "MasterTree$Master"))) 17 [vr_ v0, vi_ v1] m ((xe_ en_r) v) m' k n :=
  Ct_of (by decide +kernel) rfl hst (Nat.le_of_ble_eq_true rfl) rfl (fun E C hret h0 hin => wX1_at C hret h0 hin N m v0 v1 0 0)
theorem wX1_serve {l : Launch} {g : GG} {E : Me_} (C : Cx_ l g E "MasterTree" cX1_serve 5 18) (hret : (eT_ E).sig.returnType = (Option.some Jvm.ClassFile.FieldType.int)) (h0 : ∀ x ∈ (eC_ E).exceptionTable.toList, False) (hin : (eT_ E).name = "serve") (N : Nat) : ∀ (m : Mm) (v0 : Option Nat) (v1 : Int32) (v2 : Int32) (k n : Nat), Sm_ l g E 5 (xe_ en_i) (fX1_serve (gE_ g) N m v0 v1 v2) k n 0 [(0, vr_ v0), (1, vi_ v1), (2, vi_ v2)] [] m := by
  intro m v0 v1 v2 k n
  unfold fX1_serve
  refine s_aload_n C rfl 0 rfl dX1_serve_0 1 rfl ?_
  refine s_iload_n C rfl 1 rfl dX1_serve_1 2 rfl ?_
  refine x_ck (fun hb_ hb0_ => ?_)
  refine x_callV (enc := (xe_ en_r)) C 17 1 [vi_ v1] 1 (ctX1_at C.2.2.2.2.2.2.2.2.1 N m v0 v1) hb_ hb0_ rfl rfl q934 q936 qs5 q81 q937 hdX1_at (Nat.le_of_ble_eq_true rfl) (Nat.le_of_ble_eq_true rfl) rfl (Nat.le_of_ble_eq_true rfl) dX1_serve_2 5 rfl rfl (hen_x hen_r) (kk_x (kk_r (fun x1 m1 k1 n1 => ?_))) (kx_x C h0 he_r)
  refine s_astore_n C rfl (Nat.le_of_ble_eq_true rfl) [2] rfl rfl dX1_serve_5 6 rfl ?_
  refine s_iload_n C rfl 1 rfl dX1_serve_6 7 rfl ?_
  refine s_bipush C 6 rfl dX1_serve_7 9 rfl ?_
  refine x_ls C 8 8 rfl dX1_serve_9 11 rfl ?_
  refine x_callS (enc := (xe_ en_i)) C 16 3 [vi_ v2, vi_ 6, vr_ (some (gE_ g (100 + 8)))] (ctX1_place C.2.2.2.2.2.2.2.2.1 N m1 v2 6 (some (gE_ g (100 + 8)))) q633 q634 q81 q635 hdX1_place (Nat.le_of_ble_eq_true rfl) (Nat.le_of_ble_eq_true rfl) rfl (Nat.le_of_ble_eq_true rfl) dX1_serve_11 14 rfl rfl (hen_x hen_i) (kk_x (kk_i (fun x2 m2 k1 n1 => ?_))) (kx_x C h0 he_i)
  refine s_pop C rfl dX1_serve_14 15 rfl ?_
  refine s_aload_n C rfl 0 rfl dX1_serve_15 16 rfl ?_
  refine x_giN C 1 (RX2, TX2, 12) rfl 3 (Nat.le_of_ble_eq_true rfl) q302 rfl rfl 2 rfl dX1_serve_16 19 rfl (fun x3 => ?_)
  refine s_istore C (Nat.le_of_ble_eq_true rfl) [0, 1] rfl rfl dX1_serve_19 21 rfl ?_
  refine s_aload_n C rfl 1 rfl dX1_serve_21 22 rfl ?_
  refine s_iload_n C rfl 2 rfl dX1_serve_22 23 rfl ?_
  refine x_piN C 1 (RX2, TX2, 12) rfl 3 (Nat.le_of_ble_eq_true rfl) rfl q302 rfl rfl trivial 2 rfl dX1_serve_23 26 rfl (fun m3 => ?_)
  refine s_iload C 0 rfl dX1_serve_26 28 rfl ?_
  exact x_iret C hret rfl dX1_serve_28
theorem hdX1_serve : ((⟨"MasterTree", "serve", "(II)I"⟩ : MethodName)).cls ≠ "java/lang/invoke/MethodHandle" ∧ ((⟨"MasterTree", "serve", "(II)I"⟩ : MethodName)).cls ≠ "java/lang/invoke/VarHandle" ∧ (parseMethodDescriptor ((⟨"MasterTree", "serve", "(II)I"⟩ : MethodName)).desc).map (fun d => d.parameters.length) = some 2 := ⟨by decide +kernel, by decide +kernel, by decide +kernel⟩
theorem ctX1_serve {l : Launch} {g : GG} (hst : l.stackTraces = false) (N : Nat) (m : Mm) (v0 : Option Nat) (v1 : Int32) (v2 : Int32) : ∀ v m' k n, fX1_serve (gE_ g) N m v0 v1 v2 = some (v, m', k, n) → Ct_ l g (⟨"MasterTree", "serve", "(II)I"⟩ : MethodName) (ws_ (⟨"MasterTree", "serve", "(II)I"⟩ : MethodName) cX1_serve 5 (Option.some Jvm.ClassFile.FieldType.int)) 18 [vr_ v0, vi_ v1, vi_ v2] m ((xe_ en_i) v) m' k n :=
  Ct_of (by decide +kernel) rfl hst (Nat.le_of_ble_eq_true rfl) rfl (fun E C hret h0 hin => wX1_serve C hret h0 hin N m v0 v1 v2 0 0)
theorem wX0_serve {l : Launch} {g : GG} {E : Me_} (C : Cx_ l g E "MasterTreeLaw" cX0_serve 5 19) (hret : (eT_ E).sig.returnType = (Option.some Jvm.ClassFile.FieldType.int)) (h0 : (eC_ E).exceptionTable.toList = tableOf [(0, 10, 13, 19)]) (hin : (eT_ E).name = "serve") (N : Nat) : ∀ (m : Mm) (v0 : Option Nat) (v1 : Int32) (v2 : Int32) (v3 : Option Nat) (k n : Nat), Sm_ l g E 5 en_i (fX0_serve (gE_ g) N m v0 v1 v2 v3) k n 0 [(0, vr_ v0), (1, vi_ v1), (2, vi_ v2), (3, vr_ v3)] [] m := by
  intro m v0 v1 v2 v3 k n
  unfold fX0_serve
  refine s_aload_n C rfl 3 rfl dX0_serve_0 1 rfl ?_
  refine s_iconst C 0 rfl dX0_serve_1 2 rfl ?_
  refine s_aload_n C rfl 0 rfl dX0_serve_2 3 rfl ?_
  refine s_iload_n C rfl 1 rfl dX0_serve_3 4 rfl ?_
  refine s_iload_n C rfl 2 rfl dX0_serve_4 5 rfl ?_
  refine x_ck (fun hb_ hb0_ => ?_)
  refine x_callV (enc := (xe_ en_i)) C 18 2 [vi_ v1, vi_ v2] 1 (ctX1_serve C.2.2.2.2.2.2.2.2.1 N m v0 v1 v2) hb_ hb0_ rfl rfl q930 q931 q932 q81 q933 hdX1_serve (Nat.le_of_ble_eq_true rfl) (Nat.le_of_ble_eq_true rfl) rfl (Nat.le_of_ble_eq_true rfl) dX0_serve_5 8 rfl rfl (hen_x hen_i) (kk_c (kk_i (fun x1 m1 k1 n1 => ?_))) (kx_c he_i (fun i_ m0 k0 n0 => ?_))
  · refine s_i2l C dX0_serve_8 9 rfl ?_
    refine x_bj3 C 203 rfl dX0_serve_9 10 rfl (fun m2 => ?_)
    refine s_goto C (off := 7) 17 dX0_serve_10 rfl ?_
    refine s_iconst C 0 rfl dX0_serve_17 18 rfl ?_
    exact x_iret C hret rfl dX0_serve_18
  · refine Sx_if ?_ ?_
    · refine Sx_ctch C h0 0 [] ({ startPc := 0, endPc := 10, handlerPc := 13, catchType := 19 } : ExceptionTableEntry) [] rfl (fun z hz => by cases hz) (by decide) (by decide) q600 q638 13 rfl (fun q_ => ?_)
      refine s_astore C (Nat.le_of_ble_eq_true rfl) [] rfl rfl dX0_serve_13 15 rfl ?_
      refine s_iconst C 1 rfl dX0_serve_15 16 rfl ?_
      exact x_iret C hret rfl dX0_serve_16
    exact Sx_none
theorem hdX0_serve : ((⟨"MasterTreeLaw", "serve", "(LMasterTree;II[J)I"⟩ : MethodName)).cls ≠ "java/lang/invoke/MethodHandle" ∧ ((⟨"MasterTreeLaw", "serve", "(LMasterTree;II[J)I"⟩ : MethodName)).cls ≠ "java/lang/invoke/VarHandle" ∧ (parseMethodDescriptor ((⟨"MasterTreeLaw", "serve", "(LMasterTree;II[J)I"⟩ : MethodName)).desc).map (fun d => d.parameters.length) = some 4 := ⟨by decide +kernel, by decide +kernel, by decide +kernel⟩
theorem ctX0_serve {l : Launch} {g : GG} (hst : l.stackTraces = false) (N : Nat) (m : Mm) (v0 : Option Nat) (v1 : Int32) (v2 : Int32) (v3 : Option Nat) : ∀ v m' k n, fX0_serve (gE_ g) N m v0 v1 v2 v3 = some (v, m', k, n) → Ct_ l g (⟨"MasterTreeLaw", "serve", "(LMasterTree;II[J)I"⟩ : MethodName) (wsW_ (⟨"MasterTreeLaw", "serve", "(LMasterTree;II[J)I"⟩ : MethodName) cX0_serve 5 (Option.some Jvm.ClassFile.FieldType.int) [(0, 10, 13, 19)]) 19 [vr_ v0, vi_ v1, vi_ v2, vr_ v3] m (en_i v) m' k n :=
  Ct_ofW (by decide +kernel) rfl hst (Nat.le_of_ble_eq_true rfl) rfl (fun E C hret h0 hin => wX0_serve C hret h0 hin N m v0 v1 v2 v3 0 0)
theorem wX1_attributeAt {l : Launch} {g : GG} {E : Me_} (C : Cx_ l g E "MasterTree" cX1_attributeAt 2 17) (hret : (eT_ E).sig.returnType = (Option.some (Jvm.ClassFile.FieldType.object "MasterTree$Attribute"))) (h0 : ∀ x ∈ (eC_ E).exceptionTable.toList, False) (hin : (eT_ E).name = "attributeAt") (N : Nat) : ∀ (m : Mm) (v0 : Option Nat) (v1 : Int32) (k n : Nat), Sm_ l g E 2 (xe_ en_r) (fX1_attributeAt (gE_ g) N m v0 v1) k n 0 [(0, vr_ v0), (1, vi_ v1)] [] m := by
  intro m v0 v1 k n
  unfold fX1_attributeAt
  refine s_aload_n C rfl 0 rfl dX1_attributeAt_0 1 rfl ?_
  refine x_gr C 0 (RX1, TX1, 9) rfl 0 (Nat.le_of_ble_eq_true rfl) q445 (Or.inl rfl) rfl 1 rfl dX1_attributeAt_1 4 rfl (fun x1 => ?_)
  refine s_iload_n C rfl 1 rfl dX1_attributeAt_4 5 rfl ?_
  refine s_aload_n C rfl 0 rfl dX1_attributeAt_5 6 rfl ?_
  refine x_gr C 0 (RX1, TX1, 9) rfl 0 (Nat.le_of_ble_eq_true rfl) q445 (Or.inl rfl) rfl 1 rfl dX1_attributeAt_6 9 rfl (fun x2 => ?_)
  refine x_ck (fun hb_ hb0_ => ?_)
  refine x_callF (enc := en_i) C 10 0 [] 13 (ctJ2_size C.2.2.2.2.2.2.2.2.1 N m x2) hb_ hb0_ rfl rfl rfl fw_1 q480 q483 q485 q84 q487 hx1 (Nat.le_of_ble_eq_true rfl) (Nat.le_of_ble_eq_true rfl) rfl (Nat.le_of_ble_eq_true rfl) dX1_attributeAt_9 14 rfl rfl hen_i (kk_i (fun x3 m1 k1 n1 => ?_)) (kx_n he_i)
  refine x_ls C 9 9 rfl dX1_attributeAt_14 16 rfl ?_
  refine x_callS (enc := (xe_ en_i)) C 16 3 [vi_ v1, vi_ x3, vr_ (some (gE_ g (100 + 9)))] (ctX1_place C.2.2.2.2.2.2.2.2.1 N m1 v1 x3 (some (gE_ g (100 + 9)))) q633 q634 q81 q635 hdX1_place (Nat.le_of_ble_eq_true rfl) (Nat.le_of_ble_eq_true rfl) rfl (Nat.le_of_ble_eq_true rfl) dX1_attributeAt_16 19 rfl rfl (hen_x hen_i) (kk_x (kk_i (fun x4 m2 k1 n1 => ?_))) (kx_x C h0 he_i)
  refine x_ck (fun hb_ hb0_ => ?_)
  refine x_callF (enc := en_r) C 12 1 [vi_ x4] 13 (ctJ2_get C.2.2.2.2.2.2.2.2.1 N m2 x1 x4) hb_ hb0_ rfl rfl rfl fw_3 q888 q891 q893 q84 q895 hx2 (Nat.le_of_ble_eq_true rfl) (Nat.le_of_ble_eq_true rfl) rfl (Nat.le_of_ble_eq_true rfl) dX1_attributeAt_19 24 rfl rfl hen_r (kk_r (fun x5 m3 k1 n1 => ?_)) (kx_n he_r)
  refine x_cc C "MasterTree$Attribute" [5] (fun k hk => by rw [List.mem_singleton.mp hk]; exact ⟨rfl, Or.inr rfl⟩) q582 dX1_attributeAt_24 27 rfl ?_
  exact x_aret C hret (Or.inl ⟨_, rfl⟩) rfl dX1_attributeAt_27
theorem hdX1_attributeAt : ((⟨"MasterTree", "attributeAt", "(I)LMasterTree$Attribute;"⟩ : MethodName)).cls ≠ "java/lang/invoke/MethodHandle" ∧ ((⟨"MasterTree", "attributeAt", "(I)LMasterTree$Attribute;"⟩ : MethodName)).cls ≠ "java/lang/invoke/VarHandle" ∧ (parseMethodDescriptor ((⟨"MasterTree", "attributeAt", "(I)LMasterTree$Attribute;"⟩ : MethodName)).desc).map (fun d => d.parameters.length) = some 1 := ⟨by decide +kernel, by decide +kernel, by decide +kernel⟩
theorem ctX1_attributeAt {l : Launch} {g : GG} (hst : l.stackTraces = false) (N : Nat) (m : Mm) (v0 : Option Nat) (v1 : Int32) : ∀ v m' k n, fX1_attributeAt (gE_ g) N m v0 v1 = some (v, m', k, n) → Ct_ l g (⟨"MasterTree", "attributeAt", "(I)LMasterTree$Attribute;"⟩ : MethodName) (ws_ (⟨"MasterTree", "attributeAt", "(I)LMasterTree$Attribute;"⟩ : MethodName) cX1_attributeAt 2 (Option.some (Jvm.ClassFile.FieldType.object "MasterTree$Attribute"))) 17 [vr_ v0, vi_ v1] m ((xe_ en_r) v) m' k n :=
  Ct_of (by decide +kernel) rfl hst (Nat.le_of_ble_eq_true rfl) rfl (fun E C hret h0 hin => wX1_attributeAt C hret h0 hin N m v0 v1 0 0)
theorem wX1_isWithin_b10 {l : Launch} {g : GG} {E : Me_} (C : Cx_ l g E "MasterTree" cX1_isWithin 3 16) (hret : (eT_ E).sig.returnType = (Option.none : Option Jvm.ClassFile.FieldType)) (h0 : ∀ x ∈ (eC_ E).exceptionTable.toList, False) (hin : (eT_ E).name = "isWithin") (N : Nat) : ∀ (m : Mm) (v0 : Int32) (v1 : Int32) (v2 : Int32) (k n : Nat), Sm_ l g E 3 (xe_ en_v) (fX1_isWithin_b10 (gE_ g) N m v0 v1 v2) k n 10 [(0, vi_ v0), (1, vi_ v1), (2, vi_ v2)] [] m := by
  intro m v0 v1 v2 k n
  unfold fX1_isWithin_b10
  refine x_nx C 1 (by decide) q956 q844 q109 dX1_isWithin_10 13 rfl (fun x1 m1 hz_x1 => ?_)
  refine s_dup C rfl dX1_isWithin_13 14 rfl ?_
  refine x_nw C 29 (RJ16, TJ16, 4) rfl q645 q646 q103 30 4 rfl rfl dX1_isWithin_14 17 rfl (fun x2 m2 => ?_)
  refine s_dup C rfl dX1_isWithin_17 18 rfl ?_
  refine x_callI (enc := en_v) C 11 0 [] (ctJ16_init C.2.2.2.2.2.2.2.2.1 N m2 (some x2)) (fun h => by cases h) rfl q647 q648 q103 q649 rfl hdJ16_init (Nat.le_of_ble_eq_true rfl) (Nat.le_of_ble_eq_true rfl) rfl (Nat.le_of_ble_eq_true rfl) dX1_isWithin_18 21 rfl rfl hen_v (kk_v (fun m3 k1 n1 => ?_)) (kx_n he_v)
  refine s_iload_n C rfl 0 rfl dX1_isWithin_21 22 rfl ?_
  refine x_ck (fun hb_ hb0_ => ?_)
  refine x_callV (enc := en_r) C 14 1 [vi_ v0] 30 (ctJ16_append_2 C.2.2.2.2.2.2.2.2.1 N m3 (some x2) v0) hb_ hb0_ rfl rfl q783 q784 q785 q103 q786 hdJ16_append_2 (Nat.le_of_ble_eq_true rfl) (Nat.le_of_ble_eq_true rfl) rfl (Nat.le_of_ble_eq_true rfl) dX1_isWithin_22 25 rfl rfl hen_r (kk_r (fun x3 m4 k1 n1 => ?_)) (kx_n he_r)
  refine x_ls C 10 10 rfl dX1_isWithin_25 27 rfl ?_
  refine x_ck (fun hb_ hb0_ => ?_)
  refine x_callV (enc := en_r) C 14 1 [vr_ (some (gE_ g (100 + 10)))] 30 (ctJ16_append C.2.2.2.2.2.2.2.2.1 N m4 x3 (some (gE_ g (100 + 10)))) hb_ hb0_ rfl rfl q677 q678 q679 q103 q680 hdJ16_append (Nat.le_of_ble_eq_true rfl) (Nat.le_of_ble_eq_true rfl) rfl (Nat.le_of_ble_eq_true rfl) dX1_isWithin_27 30 rfl rfl hen_r (kk_r (fun x4 m5 k1 n1 => ?_)) (kx_n he_r)
  refine s_iload_n C rfl 1 rfl dX1_isWithin_30 31 rfl ?_
  refine x_ck (fun hb_ hb0_ => ?_)
  refine x_callV (enc := en_r) C 14 1 [vi_ v1] 30 (ctJ16_append_2 C.2.2.2.2.2.2.2.2.1 N m5 x4 v1) hb_ hb0_ rfl rfl q783 q784 q785 q103 q786 hdJ16_append_2 (Nat.le_of_ble_eq_true rfl) (Nat.le_of_ble_eq_true rfl) rfl (Nat.le_of_ble_eq_true rfl) dX1_isWithin_31 34 rfl rfl hen_r (kk_r (fun x5 m6 k1 n1 => ?_)) (kx_n he_r)
  refine x_ls C 11 11 rfl dX1_isWithin_34 36 rfl ?_
  refine x_ck (fun hb_ hb0_ => ?_)
  refine x_callV (enc := en_r) C 14 1 [vr_ (some (gE_ g (100 + 11)))] 30 (ctJ16_append C.2.2.2.2.2.2.2.2.1 N m6 x5 (some (gE_ g (100 + 11)))) hb_ hb0_ rfl rfl q677 q678 q679 q103 q680 hdJ16_append (Nat.le_of_ble_eq_true rfl) (Nat.le_of_ble_eq_true rfl) rfl (Nat.le_of_ble_eq_true rfl) dX1_isWithin_36 39 rfl rfl hen_r (kk_r (fun x6 m7 k1 n1 => ?_)) (kx_n he_r)
  refine s_iload_n C rfl 2 rfl dX1_isWithin_39 40 rfl ?_
  refine x_ck (fun hb_ hb0_ => ?_)
  refine x_callV (enc := en_r) C 14 1 [vi_ v2] 30 (ctJ16_append_2 C.2.2.2.2.2.2.2.2.1 N m7 x6 v2) hb_ hb0_ rfl rfl q783 q784 q785 q103 q786 hdJ16_append_2 (Nat.le_of_ble_eq_true rfl) (Nat.le_of_ble_eq_true rfl) rfl (Nat.le_of_ble_eq_true rfl) dX1_isWithin_40 43 rfl rfl hen_r (kk_r (fun x7 m8 k1 n1 => ?_)) (kx_n he_r)
  refine x_ck (fun hb_ hb0_ => ?_)
  refine x_callV (enc := en_r) C 15 0 [] 30 (ctJ16_toString C.2.2.2.2.2.2.2.2.1 N m8 x7) hb_ hb0_ rfl rfl q808 q809 q810 q103 q811 hdJ16_toString (Nat.le_of_ble_eq_true rfl) (Nat.le_of_ble_eq_true rfl) rfl (Nat.le_of_ble_eq_true rfl) dX1_isWithin_43 46 rfl rfl hen_r (kk_r (fun x8 m9 k1 n1 => ?_)) (kx_n he_r)
  refine x_xi1 C q959 hz_x1 (Nat.le_of_ble_eq_true rfl) (Nat.le_of_ble_eq_true rfl) dX1_isWithin_46 49 rfl (fun m10 => ?_)
  exact x_at C h0 1 (by decide) rfl dX1_isWithin_49
theorem wX1_isWithin {l : Launch} {g : GG} {E : Me_} (C : Cx_ l g E "MasterTree" cX1_isWithin 3 16) (hret : (eT_ E).sig.returnType = (Option.none : Option Jvm.ClassFile.FieldType)) (h0 : ∀ x ∈ (eC_ E).exceptionTable.toList, False) (hin : (eT_ E).name = "isWithin") (N : Nat) : ∀ (m : Mm) (v0 : Int32) (v1 : Int32) (v2 : Int32) (k n : Nat), Sm_ l g E 3 (xe_ en_v) (fX1_isWithin (gE_ g) N m v0 v1 v2) k n 0 [(0, vi_ v0), (1, vi_ v1), (2, vi_ v2)] [] m := by
  intro m v0 v1 v2 k n
  unfold fX1_isWithin
  refine s_iload_n C rfl 0 rfl dX1_isWithin_0 1 rfl ?_
  refine s_iload_n C rfl 1 rfl dX1_isWithin_1 2 rfl ?_
  refine s_icmp_lt C dX1_isWithin_2 10 rfl 5 rfl (fun c_ => ?_) (fun c_ => ?_)
  · exact wX1_isWithin_b10 C hret h0 hin N _ _ _ _ _ _
  · refine s_iload_n C rfl 0 rfl dX1_isWithin_5 6 rfl ?_
    refine s_iload_n C rfl 2 rfl dX1_isWithin_6 7 rfl ?_
    refine s_icmp_le C dX1_isWithin_7 50 rfl 10 rfl (fun c_ => ?_) (fun c_ => ?_)
    · exact wX1_isWithin_b10 C hret h0 hin N _ _ _ _ _ _
    · exact x_vret C hret rfl dX1_isWithin_50
theorem hdX1_isWithin : ((⟨"MasterTree", "isWithin", "(III)V"⟩ : MethodName)).cls ≠ "java/lang/invoke/MethodHandle" ∧ ((⟨"MasterTree", "isWithin", "(III)V"⟩ : MethodName)).cls ≠ "java/lang/invoke/VarHandle" ∧ (parseMethodDescriptor ((⟨"MasterTree", "isWithin", "(III)V"⟩ : MethodName)).desc).map (fun d => d.parameters.length) = some 3 := ⟨by decide +kernel, by decide +kernel, by decide +kernel⟩
theorem ctX1_isWithin {l : Launch} {g : GG} (hst : l.stackTraces = false) (N : Nat) (m : Mm) (v0 : Int32) (v1 : Int32) (v2 : Int32) : ∀ v m' k n, fX1_isWithin (gE_ g) N m v0 v1 v2 = some (v, m', k, n) → Ct_ l g (⟨"MasterTree", "isWithin", "(III)V"⟩ : MethodName) (ws_ (⟨"MasterTree", "isWithin", "(III)V"⟩ : MethodName) cX1_isWithin 3 (Option.none : Option Jvm.ClassFile.FieldType)) 16 [vi_ v0, vi_ v1, vi_ v2] m ((xe_ en_v) v) m' k n :=
  Ct_of (by decide +kernel) rfl hst (Nat.le_of_ble_eq_true rfl) rfl (fun E C hret h0 hin => wX1_isWithin C hret h0 hin N m v0 v1 v2 0 0)
theorem wX1_draft_b33 {l : Launch} {g : GG} {E : Me_} (C : Cx_ l g E "MasterTree" cX1_draft 3 18) (hret : (eT_ E).sig.returnType = (Option.some Jvm.ClassFile.FieldType.int)) (h0 : ∀ x ∈ (eC_ E).exceptionTable.toList, False) (hin : (eT_ E).name = "draft") (N : Nat) : ∀ (m : Mm) (v0 : Option Nat) (v1 : Int32) (v2 : Int32) (s0 : Int32) (k n : Nat), Sm_ l g E 3 (xe_ en_i) (fX1_draft_b33 (gE_ g) N m v0 v1 v2 s0) k n 33 [(0, vr_ v0), (1, vi_ v1), (2, vi_ v2)] [vi_ s0] m := by
  intro m v0 v1 v2 s0 k n
  unfold fX1_draft_b33
  refine x_ls C 12 12 rfl dX1_draft_33 35 rfl ?_
  refine x_callS (enc := (xe_ en_v)) C 10 2 [vi_ s0, vr_ (some (gE_ g (100 + 12)))] (ctX1_must C.2.2.2.2.2.2.2.2.1 N m s0 (some (gE_ g (100 + 12)))) q510 q511 q81 q512 hdX1_must (Nat.le_of_ble_eq_true rfl) (Nat.le_of_ble_eq_true rfl) rfl (Nat.le_of_ble_eq_true rfl) dX1_draft_35 38 rfl rfl (hen_x hen_v) (kk_x (kk_v (fun m1 k1 n1 => ?_))) (kx_x C h0 he_v)
  refine s_aload_n C rfl 0 rfl dX1_draft_38 39 rfl ?_
  refine x_gr C 0 (RX1, TX1, 9) rfl 3 (Nat.le_of_ble_eq_true rfl) q449 (Or.inl rfl) rfl 1 rfl dX1_draft_39 42 rfl (fun x1 => ?_)
  refine s_iconst C 2 rfl dX1_draft_42 43 rfl ?_
  refine x_naI C dX1_draft_43 45 rfl (fun x2 m2 => ?_)
  refine s_dup C rfl dX1_draft_45 46 rfl ?_
  refine s_iconst C 0 rfl dX1_draft_46 47 rfl ?_
  refine s_iload_n C rfl 1 rfl dX1_draft_47 48 rfl ?_
  refine x_bi0 C 200 rfl dX1_draft_48 49 rfl (fun m3 => ?_)
  refine s_dup C rfl dX1_draft_49 50 rfl ?_
  refine s_iconst C 1 rfl dX1_draft_50 51 rfl ?_
  refine s_iload_n C rfl 2 rfl dX1_draft_51 52 rfl ?_
  refine x_bi0 C 200 rfl dX1_draft_52 53 rfl (fun m4 => ?_)
  refine x_ck (fun hb_ hb0_ => ?_)
  refine x_callF (enc := en_i) C 15 1 [vr_ (some x2)] 13 (ctJ2_add C.2.2.2.2.2.2.2.2.1 N m4 x1 (some x2)) hb_ hb0_ rfl rfl rfl fw_0 q346 q350 q352 q84 q354 hx0 (Nat.le_of_ble_eq_true rfl) (Nat.le_of_ble_eq_true rfl) rfl (Nat.le_of_ble_eq_true rfl) dX1_draft_53 58 rfl rfl hen_i (kk_i (fun x3 m5 k1 n1 => ?_)) (kx_n he_i)
  refine s_pop C rfl dX1_draft_58 59 rfl ?_
  refine s_aload_n C rfl 0 rfl dX1_draft_59 60 rfl ?_
  refine x_gr C 0 (RX1, TX1, 9) rfl 3 (Nat.le_of_ble_eq_true rfl) q449 (Or.inl rfl) rfl 1 rfl dX1_draft_60 63 rfl (fun x4 => ?_)
  refine x_ck (fun hb_ hb0_ => ?_)
  refine x_callF (enc := en_i) C 10 0 [] 13 (ctJ2_size C.2.2.2.2.2.2.2.2.1 N m5 x4) hb_ hb0_ rfl rfl rfl fw_1 q480 q483 q485 q84 q487 hx1 (Nat.le_of_ble_eq_true rfl) (Nat.le_of_ble_eq_true rfl) rfl (Nat.le_of_ble_eq_true rfl) dX1_draft_63 68 rfl rfl hen_i (kk_i (fun x5 m6 k1 n1 => ?_)) (kx_n he_i)
  exact x_iret C hret rfl dX1_draft_68
theorem wX1_draft {l : Launch} {g : GG} {E : Me_} (C : Cx_ l g E "MasterTree" cX1_draft 3 18) (hret : (eT_ E).sig.returnType = (Option.some Jvm.ClassFile.FieldType.int)) (h0 : ∀ x ∈ (eC_ E).exceptionTable.toList, False) (hin : (eT_ E).name = "draft") (N : Nat) : ∀ (m : Mm) (v0 : Option Nat) (v1 : Int32) (v2 : Int32) (k n : Nat), Sm_ l g E 3 (xe_ en_i) (fX1_draft (gE_ g) N m v0 v1 v2) k n 0 [(0, vr_ v0), (1, vi_ v1), (2, vi_ v2)] [] m := by
  intro m v0 v1 v2 k n
  unfold fX1_draft
  refine s_aload_n C rfl 0 rfl dX1_draft_0 1 rfl ?_
  refine s_iload_n C rfl 1 rfl dX1_draft_1 2 rfl ?_
  refine x_ck (fun hb_ hb0_ => ?_)
  refine x_callV (enc := (xe_ en_r)) C 17 1 [vi_ v1] 1 (ctX1_attributeAt C.2.2.2.2.2.2.2.2.1 N m v0 v1) hb_ hb0_ rfl rfl q948 q950 qs6 q81 q951 hdX1_attributeAt (Nat.le_of_ble_eq_true rfl) (Nat.le_of_ble_eq_true rfl) rfl (Nat.le_of_ble_eq_true rfl) dX1_draft_2 5 rfl rfl (hen_x hen_r) (kk_x (kk_r (fun x1 m1 k1 n1 => ?_))) (kx_x C h0 he_r)
  refine s_pop C rfl dX1_draft_5 6 rfl ?_
  refine s_iload_n C rfl 2 rfl dX1_draft_6 7 rfl ?_
  refine s_iconst C 0 rfl dX1_draft_7 8 rfl ?_
  refine s_sipush C 999 rfl dX1_draft_8 11 rfl ?_
  refine x_callS (enc := (xe_ en_v)) C 16 3 [vi_ v2, vi_ 0, vi_ 999] (ctX1_isWithin C.2.2.2.2.2.2.2.2.1 N m1 v2 0 999) q953 q954 q81 q955 hdX1_isWithin (Nat.le_of_ble_eq_true rfl) (Nat.le_of_ble_eq_true rfl) rfl (Nat.le_of_ble_eq_true rfl) dX1_draft_11 14 rfl rfl (hen_x hen_v) (kk_x (kk_v (fun m2 k1 n1 => ?_))) (kx_x C h0 he_v)
  refine s_aload_n C rfl 0 rfl dX1_draft_14 15 rfl ?_
  refine x_gr C 0 (RX1, TX1, 9) rfl 3 (Nat.le_of_ble_eq_true rfl) q449 (Or.inl rfl) rfl 1 rfl dX1_draft_15 18 rfl (fun x2 => ?_)
  refine x_ck (fun hb_ hb0_ => ?_)
  refine x_callF (enc := en_i) C 10 0 [] 13 (ctJ2_size C.2.2.2.2.2.2.2.2.1 N m2 x2) hb_ hb0_ rfl rfl rfl fw_1 q480 q483 q485 q84 q487 hx1 (Nat.le_of_ble_eq_true rfl) (Nat.le_of_ble_eq_true rfl) rfl (Nat.le_of_ble_eq_true rfl) dX1_draft_18 23 rfl rfl hen_i (kk_i (fun x3 m3 k1 n1 => ?_)) (kx_n he_i)
  refine s_bipush C 12 rfl dX1_draft_23 25 rfl ?_
  refine s_icmp_ge C dX1_draft_25 32 rfl 28 rfl (fun c_ => ?_) (fun c_ => ?_)
  · refine s_iconst C 1 rfl dX1_draft_28 29 rfl ?_
    refine s_goto C (off := 4) 33 dX1_draft_29 rfl ?_
    exact wX1_draft_b33 C hret h0 hin N _ _ _ _ _ _ _
  · refine s_iconst C 0 rfl dX1_draft_32 33 rfl ?_
    exact wX1_draft_b33 C hret h0 hin N _ _ _ _ _ _ _
theorem hdX1_draft : ((⟨"MasterTree", "draft", "(II)I"⟩ : MethodName)).cls ≠ "java/lang/invoke/MethodHandle" ∧ ((⟨"MasterTree", "draft", "(II)I"⟩ : MethodName)).cls ≠ "java/lang/invoke/VarHandle" ∧ (parseMethodDescriptor ((⟨"MasterTree", "draft", "(II)I"⟩ : MethodName)).desc).map (fun d => d.parameters.length) = some 2 := ⟨by decide +kernel, by decide +kernel, by decide +kernel⟩
theorem ctX1_draft {l : Launch} {g : GG} (hst : l.stackTraces = false) (N : Nat) (m : Mm) (v0 : Option Nat) (v1 : Int32) (v2 : Int32) : ∀ v m' k n, fX1_draft (gE_ g) N m v0 v1 v2 = some (v, m', k, n) → Ct_ l g (⟨"MasterTree", "draft", "(II)I"⟩ : MethodName) (ws_ (⟨"MasterTree", "draft", "(II)I"⟩ : MethodName) cX1_draft 3 (Option.some Jvm.ClassFile.FieldType.int)) 18 [vr_ v0, vi_ v1, vi_ v2] m ((xe_ en_i) v) m' k n :=
  Ct_of (by decide +kernel) rfl hst (Nat.le_of_ble_eq_true rfl) rfl (fun E C hret h0 hin => wX1_draft C hret h0 hin N m v0 v1 v2 0 0)
theorem wX0_draft {l : Launch} {g : GG} {E : Me_} (C : Cx_ l g E "MasterTreeLaw" cX0_draft 5 19) (hret : (eT_ E).sig.returnType = (Option.some Jvm.ClassFile.FieldType.int)) (h0 : (eC_ E).exceptionTable.toList = tableOf [(0, 10, 13, 19), (0, 10, 17, 28), (0, 10, 21, 13)]) (hin : (eT_ E).name = "draft") (N : Nat) : ∀ (m : Mm) (v0 : Option Nat) (v1 : Int32) (v2 : Int32) (v3 : Option Nat) (k n : Nat), Sm_ l g E 5 en_i (fX0_draft (gE_ g) N m v0 v1 v2 v3) k n 0 [(0, vr_ v0), (1, vi_ v1), (2, vi_ v2), (3, vr_ v3)] [] m := by
  intro m v0 v1 v2 v3 k n
  unfold fX0_draft
  refine s_aload_n C rfl 3 rfl dX0_draft_0 1 rfl ?_
  refine s_iconst C 0 rfl dX0_draft_1 2 rfl ?_
  refine s_aload_n C rfl 0 rfl dX0_draft_2 3 rfl ?_
  refine s_iload_n C rfl 1 rfl dX0_draft_3 4 rfl ?_
  refine s_iload_n C rfl 2 rfl dX0_draft_4 5 rfl ?_
  refine x_ck (fun hb_ hb0_ => ?_)
  refine x_callV (enc := (xe_ en_i)) C 18 2 [vi_ v1, vi_ v2] 1 (ctX1_draft C.2.2.2.2.2.2.2.2.1 N m v0 v1 v2) hb_ hb0_ rfl rfl q944 q945 q946 q81 q947 hdX1_draft (Nat.le_of_ble_eq_true rfl) (Nat.le_of_ble_eq_true rfl) rfl (Nat.le_of_ble_eq_true rfl) dX0_draft_5 8 rfl rfl (hen_x hen_i) (kk_c (kk_i (fun x1 m1 k1 n1 => ?_))) (kx_c he_i (fun i_ m0 k0 n0 => ?_))
  · refine s_i2l C dX0_draft_8 9 rfl ?_
    refine x_bj3 C 203 rfl dX0_draft_9 10 rfl (fun m2 => ?_)
    refine s_goto C (off := 15) 25 dX0_draft_10 rfl ?_
    refine s_iconst C 0 rfl dX0_draft_25 26 rfl ?_
    exact x_iret C hret rfl dX0_draft_26
  · refine Sx_if ?_ ?_
    · refine Sx_ctch C h0 0 [] ({ startPc := 0, endPc := 10, handlerPc := 13, catchType := 19 } : ExceptionTableEntry) [{ startPc := 0, endPc := 10, handlerPc := 17, catchType := 28 }, { startPc := 0, endPc := 10, handlerPc := 21, catchType := 13 }] rfl (fun z hz => by cases hz) (by decide) (by decide) q600 q638 13 rfl (fun q_ => ?_)
      refine s_astore C (Nat.le_of_ble_eq_true rfl) [] rfl rfl dX0_draft_13 15 rfl ?_
      refine s_iconst C 1 rfl dX0_draft_15 16 rfl ?_
      exact x_iret C hret rfl dX0_draft_16
    refine Sx_if ?_ ?_
    · refine Sx_ctch C h0 1 [{ startPc := 0, endPc := 10, handlerPc := 13, catchType := 19 }] ({ startPc := 0, endPc := 10, handlerPc := 17, catchType := 28 } : ExceptionTableEntry) [{ startPc := 0, endPc := 10, handlerPc := 21, catchType := 13 }] rfl (List.forall_mem_cons.mpr ⟨Or.inr ⟨by decide, "java/lang/IndexOutOfBoundsException", q600, List.mem_of_getElem? (i := 2) rfl⟩, fun z hz => by cases hz⟩) (by decide) (by decide) q943 q845 17 rfl (fun q_ => ?_)
      refine s_astore C (Nat.le_of_ble_eq_true rfl) [] rfl rfl dX0_draft_17 19 rfl ?_
      refine s_iconst C 2 rfl dX0_draft_19 20 rfl ?_
      exact x_iret C hret rfl dX0_draft_20
    refine Sx_if ?_ ?_
    · refine Sx_ctch C h0 2 [{ startPc := 0, endPc := 10, handlerPc := 13, catchType := 19 }, { startPc := 0, endPc := 10, handlerPc := 17, catchType := 28 }] ({ startPc := 0, endPc := 10, handlerPc := 21, catchType := 13 } : ExceptionTableEntry) [] rfl (List.forall_mem_cons.mpr ⟨Or.inr ⟨by decide, "java/lang/IndexOutOfBoundsException", q600, List.mem_of_getElem? (i := 4) rfl⟩, List.forall_mem_cons.mpr ⟨Or.inr ⟨by decide, "java/lang/IllegalArgumentException", q943, List.mem_of_getElem? (i := 5) rfl⟩, fun z hz => by cases hz⟩⟩) (by decide) (by decide) q504 q515 21 rfl (fun q_ => ?_)
      refine s_astore C (Nat.le_of_ble_eq_true rfl) [] rfl rfl dX0_draft_21 23 rfl ?_
      refine s_iconst C 3 rfl dX0_draft_23 24 rfl ?_
      exact x_iret C hret rfl dX0_draft_24
    exact Sx_none
theorem hdX0_draft : ((⟨"MasterTreeLaw", "draft", "(LMasterTree;II[J)I"⟩ : MethodName)).cls ≠ "java/lang/invoke/MethodHandle" ∧ ((⟨"MasterTreeLaw", "draft", "(LMasterTree;II[J)I"⟩ : MethodName)).cls ≠ "java/lang/invoke/VarHandle" ∧ (parseMethodDescriptor ((⟨"MasterTreeLaw", "draft", "(LMasterTree;II[J)I"⟩ : MethodName)).desc).map (fun d => d.parameters.length) = some 4 := ⟨by decide +kernel, by decide +kernel, by decide +kernel⟩
theorem ctX0_draft {l : Launch} {g : GG} (hst : l.stackTraces = false) (N : Nat) (m : Mm) (v0 : Option Nat) (v1 : Int32) (v2 : Int32) (v3 : Option Nat) : ∀ v m' k n, fX0_draft (gE_ g) N m v0 v1 v2 v3 = some (v, m', k, n) → Ct_ l g (⟨"MasterTreeLaw", "draft", "(LMasterTree;II[J)I"⟩ : MethodName) (wsW_ (⟨"MasterTreeLaw", "draft", "(LMasterTree;II[J)I"⟩ : MethodName) cX0_draft 5 (Option.some Jvm.ClassFile.FieldType.int) [(0, 10, 13, 19), (0, 10, 17, 28), (0, 10, 21, 13)]) 19 [vr_ v0, vi_ v1, vi_ v2, vr_ v3] m (en_i v) m' k n :=
  Ct_ofW (by decide +kernel) rfl hst (Nat.le_of_ble_eq_true rfl) rfl (fun E C hret h0 hin => wX0_draft C hret h0 hin N m v0 v1 v2 v3 0 0)
theorem wJ34_hasNext_b19 {l : Launch} {g : GG} {E : Me_} (C : Cx_ l g E "java/util/ArrayList$Itr" cJ34_hasNext 1 10) (hret : (eT_ E).sig.returnType = (Option.some Jvm.ClassFile.FieldType.boolean)) (h0 : ∀ x ∈ (eC_ E).exceptionTable.toList, False) (hin : (eT_ E).name = "hasNext") (N : Nat) : ∀ (m : Mm) (s0 : Int32) (k n : Nat), Sm_ l g E 1 en_i (fJ34_hasNext_b19 (gE_ g) N m s0) k n 19 [] [vi_ s0] m := by
  intro m s0 k n
  unfold fJ34_hasNext_b19
  exact x_zret C hret rfl dJ34_hasNext_19
theorem wJ34_hasNext {l : Launch} {g : GG} {E : Me_} (C : Cx_ l g E "java/util/ArrayList$Itr" cJ34_hasNext 1 10) (hret : (eT_ E).sig.returnType = (Option.some Jvm.ClassFile.FieldType.boolean)) (h0 : ∀ x ∈ (eC_ E).exceptionTable.toList, False) (hin : (eT_ E).name = "hasNext") (N : Nat) : ∀ (m : Mm) (v0 : Option Nat) (k n : Nat), Sm_ l g E 1 en_i (fJ34_hasNext (gE_ g) N m v0) k n 0 [(0, vr_ v0)] [] m := by
  intro m v0 k n
  unfold fJ34_hasNext
  refine s_aload_n C rfl 0 rfl dJ34_hasNext_0 1 rfl ?_
  refine x_gi C 13 (RJ34, TJ34, 4) rfl 0 (Nat.le_of_ble_eq_true rfl) q1702 (Or.inl rfl) rfl 14 rfl dJ34_hasNext_1 4 rfl (fun x1 => ?_)
  refine s_aload_n C rfl 0 rfl dJ34_hasNext_4 5 rfl ?_
  refine x_gr C 13 (RJ34, TJ34, 4) rfl 3 (Nat.le_of_ble_eq_true rfl) q1705 (Or.inl rfl) rfl 14 rfl dJ34_hasNext_5 8 rfl (fun x2 => ?_)
  refine x_giN C 12 (RJ2, TJ2, 3) rfl 2 (Nat.le_of_ble_eq_true rfl) q170 rfl rfl 13 rfl dJ34_hasNext_8 11 rfl (fun x3 => ?_)
  refine s_icmp_eq C dJ34_hasNext_11 18 rfl 14 rfl (fun c_ => ?_) (fun c_ => ?_)
  · refine s_iconst C 0 rfl dJ34_hasNext_18 19 rfl ?_
    refine Sm_sub [] rfl ?_
    exact wJ34_hasNext_b19 C hret h0 hin N _ _ _ _
  · refine s_iconst C 1 rfl dJ34_hasNext_14 15 rfl ?_
    refine s_goto C (off := 4) 19 dJ34_hasNext_15 rfl ?_
    refine Sm_sub [] rfl ?_
    exact wJ34_hasNext_b19 C hret h0 hin N _ _ _ _
theorem hdJ34_hasNext : ((⟨"java/util/ArrayList$Itr", "hasNext", "()Z"⟩ : MethodName)).cls ≠ "java/lang/invoke/MethodHandle" ∧ ((⟨"java/util/ArrayList$Itr", "hasNext", "()Z"⟩ : MethodName)).cls ≠ "java/lang/invoke/VarHandle" ∧ (parseMethodDescriptor ((⟨"java/util/ArrayList$Itr", "hasNext", "()Z"⟩ : MethodName)).desc).map (fun d => d.parameters.length) = some 0 := ⟨by decide +kernel, by decide +kernel, by decide +kernel⟩
theorem ctJ34_hasNext {l : Launch} {g : GG} (hst : l.stackTraces = false) (N : Nat) (m : Mm) (v0 : Option Nat) : ∀ v m' k n, fJ34_hasNext (gE_ g) N m v0 = some (v, m', k, n) → Ct_ l g (⟨"java/util/ArrayList$Itr", "hasNext", "()Z"⟩ : MethodName) (ws_ (⟨"java/util/ArrayList$Itr", "hasNext", "()Z"⟩ : MethodName) cJ34_hasNext 1 (Option.some Jvm.ClassFile.FieldType.boolean)) 10 [vr_ v0] m (en_i v) m' k n :=
  Ct_of (by decide +kernel) rfl hst (Nat.le_of_ble_eq_true rfl) rfl (fun E C hret h0 hin => wJ34_hasNext C hret h0 hin N m v0 0 0)
theorem wJ2_clear_b27 {l : Launch} {g : GG} {E : Me_} (C : Cx_ l g E "java/util/ArrayList" cJ2_clear 4 10) (hret : (eT_ E).sig.returnType = (Option.none : Option Jvm.ClassFile.FieldType)) (h0 : ∀ x ∈ (eC_ E).exceptionTable.toList, False) (hin : (eT_ E).name = "clear") (N : Nat) : ∀ (F : Nat) (m : Mm) (v1 : Option Nat) (v2 : Int32) (v3 : Int32) (k n : Nat), Sm_ l g E 4 en_v (fJ2_clear_b27 (gE_ g) N F m v1 v2 v3) k n 27 [(1, vr_ v1), (2, vi_ v2), (3, vi_ v3)] [] m := by
  intro F
  induction F with
  | zero => intros; exact Sm_none
  | succ F ih =>
    intro m v1 v2 v3 k n
    unfold fJ2_clear_b27
    refine s_iload_n C rfl 2 rfl dJ2_clear_27 28 rfl ?_
    refine s_iload_n C rfl 1 rfl dJ2_clear_28 29 rfl ?_
    refine s_icmp_ge C dJ2_clear_29 42 rfl 32 rfl (fun c_ => ?_) (fun c_ => ?_)
    · refine s_aload_n C rfl 0 rfl dJ2_clear_32 33 rfl ?_
      refine s_iload_n C rfl 2 rfl dJ2_clear_33 34 rfl ?_
      refine s_null C dJ2_clear_34 35 rfl ?_
      refine x_br C 4 "java/lang/Object" rfl _ caO 204 rfl dJ2_clear_35 36 rfl (fun m1 => ?_)
      refine s_iinc C 1 rfl 2 rfl (Nat.le_of_ble_eq_true rfl) [0, 1] rfl rfl dJ2_clear_36 39 rfl ?_
      refine s_goto C (off := -12) 27 dJ2_clear_39 rfl ?_
      refine Sm_sub [1, 2, 0] rfl ?_
      exact ih _ _ _ _ _ _
    · exact x_vret C hret rfl dJ2_clear_42
theorem wJ2_clear {l : Launch} {g : GG} {E : Me_} (C : Cx_ l g E "java/util/ArrayList" cJ2_clear 4 10) (hret : (eT_ E).sig.returnType = (Option.none : Option Jvm.ClassFile.FieldType)) (h0 : ∀ x ∈ (eC_ E).exceptionTable.toList, False) (hin : (eT_ E).name = "clear") (N : Nat) : ∀ (m : Mm) (v0 : Option Nat) (k n : Nat), Sm_ l g E 4 en_v (fJ2_clear (gE_ g) N m v0) k n 0 [(0, vr_ v0)] [] m := by
  intro m v0 k n
  unfold fJ2_clear
  refine s_aload_n C rfl 0 rfl dJ2_clear_0 1 rfl ?_
  refine s_dup C rfl dJ2_clear_1 2 rfl ?_
  refine x_gi C 12 (RJ2, TJ2, 3) rfl 0 (Nat.le_of_ble_eq_true rfl) q175 (Or.inr q174) rfl 13 rfl dJ2_clear_2 5 rfl (fun x1 => ?_)
  refine s_iconst C 1 rfl dJ2_clear_5 6 rfl ?_
  refine s_iadd C dJ2_clear_6 7 rfl ?_
  refine x_pi C 12 (RJ2, TJ2, 3) rfl 0 (Nat.le_of_ble_eq_true rfl) rfl q175 (Or.inr q174) rfl trivial 13 rfl dJ2_clear_7 10 rfl (fun m1 => ?_)
  refine s_aload_n C rfl 0 rfl dJ2_clear_10 11 rfl ?_
  refine x_gr C 12 (RJ2, TJ2, 3) rfl 1 (Nat.le_of_ble_eq_true rfl) q168 (Or.inl rfl) rfl 13 rfl dJ2_clear_11 14 rfl (fun x2 => ?_)
  refine s_astore_n C rfl (Nat.le_of_ble_eq_true rfl) [0] rfl rfl dJ2_clear_14 15 rfl ?_
  refine s_aload_n C rfl 1 rfl dJ2_clear_15 16 rfl ?_
  refine x_gi C 12 (RJ2, TJ2, 3) rfl 2 (Nat.le_of_ble_eq_true rfl) q171 (Or.inl rfl) rfl 13 rfl dJ2_clear_16 19 rfl (fun x3 => ?_)
  refine s_istore_n C rfl (Nat.le_of_ble_eq_true rfl) [0, 1] rfl rfl dJ2_clear_19 20 rfl ?_
  refine s_aload_n C rfl 2 rfl dJ2_clear_20 21 rfl ?_
  refine s_iconst C 0 rfl dJ2_clear_21 22 rfl ?_
  refine s_dup_x1 C rfl rfl dJ2_clear_22 23 rfl ?_
  refine x_pi C 12 (RJ2, TJ2, 3) rfl 2 (Nat.le_of_ble_eq_true rfl) rfl q171 (Or.inl rfl) rfl trivial 13 rfl dJ2_clear_23 26 rfl (fun m2 => ?_)
  refine s_istore_n C rfl (Nat.le_of_ble_eq_true rfl) [0, 1] rfl rfl dJ2_clear_26 27 rfl ?_
  refine Sm_sub [2, 1, 0] rfl ?_
  exact wJ2_clear_b27 C hret h0 hin N N _ _ _ _ _ _
theorem hdJ2_clear : ((⟨"java/util/ArrayList", "clear", "()V"⟩ : MethodName)).cls ≠ "java/lang/invoke/MethodHandle" ∧ ((⟨"java/util/ArrayList", "clear", "()V"⟩ : MethodName)).cls ≠ "java/lang/invoke/VarHandle" ∧ (parseMethodDescriptor ((⟨"java/util/ArrayList", "clear", "()V"⟩ : MethodName)).desc).map (fun d => d.parameters.length) = some 0 := ⟨by decide +kernel, by decide +kernel, by decide +kernel⟩
theorem ctJ2_clear {l : Launch} {g : GG} (hst : l.stackTraces = false) (N : Nat) (m : Mm) (v0 : Option Nat) : ∀ v m' k n, fJ2_clear (gE_ g) N m v0 = some (v, m', k, n) → Ct_ l g (⟨"java/util/ArrayList", "clear", "()V"⟩ : MethodName) (ws_ (⟨"java/util/ArrayList", "clear", "()V"⟩ : MethodName) cJ2_clear 4 (Option.none : Option Jvm.ClassFile.FieldType)) 10 [vr_ v0] m (en_v v) m' k n :=
  Ct_of (by decide +kernel) rfl hst (Nat.le_of_ble_eq_true rfl) rfl (fun E C hret h0 hin => wJ2_clear C hret h0 hin N m v0 0 0)
theorem wX7_init {l : Launch} {g : GG} {E : Me_} (C : Cx_ l g E "MasterTree$Change" cX7_init 10 10) (hret : (eT_ E).sig.returnType = (Option.none : Option Jvm.ClassFile.FieldType)) (h0 : ∀ x ∈ (eC_ E).exceptionTable.toList, False) (hin : (eT_ E).name = "<init>") (N : Nat) : ∀ (m : Mm) (v0 : Option Nat) (v1 : Int32) (v2 : Int32) (v3 : Int32) (v4 : Option Nat) (v5 : Int32) (v6 : Int32) (v7 : Int32) (v8 : Int32) (v9 : Option Nat) (k n : Nat), Sm_ l g E 10 en_v (fX7_init (gE_ g) N m v0 v1 v2 v3 v4 v5 v6 v7 v8 v9) k n 0 [(0, vr_ v0), (1, vi_ v1), (2, vi_ v2), (3, vi_ v3), (4, vr_ v4), (5, vi_ v5), (6, vi_ v6), (7, vi_ v7), (8, vi_ v8), (9, vr_ v9)] [] m := by
  intro m v0 v1 v2 v3 v4 v5 v6 v7 v8 v9 k n
  unfold fX7_init
  refine s_aload_n C rfl 0 rfl dX7_init_0 1 rfl ?_
  refine x_ok (fun hb_ => ?_)
  refine x_obj C hb_ q1730 q152 q153 (by decide) (Nat.le_of_ble_eq_true rfl) dX7_init_1 4 rfl ?_
  refine s_aload_n C rfl 0 rfl dX7_init_4 5 rfl ?_
  refine s_iload_n C rfl 1 rfl dX7_init_5 6 rfl ?_
  refine x_piF C hin 6 (RX7, TX7, 9) rfl 0 (Nat.le_of_ble_eq_true rfl) rfl q1731 rfl rfl trivial 7 rfl dX7_init_6 9 rfl (fun m1 => ?_)
  refine s_aload_n C rfl 0 rfl dX7_init_9 10 rfl ?_
  refine s_iload_n C rfl 2 rfl dX7_init_10 11 rfl ?_
  refine x_piF C hin 6 (RX7, TX7, 9) rfl 1 (Nat.le_of_ble_eq_true rfl) rfl q1733 rfl rfl trivial 7 rfl dX7_init_11 14 rfl (fun m2 => ?_)
  refine s_aload_n C rfl 0 rfl dX7_init_14 15 rfl ?_
  refine s_iload_n C rfl 3 rfl dX7_init_15 16 rfl ?_
  refine x_piF C hin 6 (RX7, TX7, 9) rfl 2 (Nat.le_of_ble_eq_true rfl) rfl q1736 rfl rfl trivial 7 rfl dX7_init_16 19 rfl (fun m3 => ?_)
  refine s_aload_n C rfl 0 rfl dX7_init_19 20 rfl ?_
  refine s_aload C 4 rfl dX7_init_20 22 rfl ?_
  refine x_prF C hin 6 (RX7, TX7, 9) rfl 3 (Nat.le_of_ble_eq_true rfl) rfl q1739 rfl rfl trivial 7 rfl dX7_init_22 25 rfl (fun m4 => ?_)
  refine s_aload_n C rfl 0 rfl dX7_init_25 26 rfl ?_
  refine s_iload C 5 rfl dX7_init_26 28 rfl ?_
  refine x_piF C hin 6 (RX7, TX7, 9) rfl 4 (Nat.le_of_ble_eq_true rfl) rfl q1743 rfl rfl trivial 7 rfl dX7_init_28 31 rfl (fun m5 => ?_)
  refine s_aload_n C rfl 0 rfl dX7_init_31 32 rfl ?_
  refine s_iload C 6 rfl dX7_init_32 34 rfl ?_
  refine x_piF C hin 6 (RX7, TX7, 9) rfl 5 (Nat.le_of_ble_eq_true rfl) rfl q1746 rfl rfl trivial 7 rfl dX7_init_34 37 rfl (fun m6 => ?_)
  refine s_aload_n C rfl 0 rfl dX7_init_37 38 rfl ?_
  refine s_iload C 7 rfl dX7_init_38 40 rfl ?_
  refine x_piF C hin 6 (RX7, TX7, 9) rfl 6 (Nat.le_of_ble_eq_true rfl) rfl q1754 rfl rfl trivial 7 rfl dX7_init_40 43 rfl (fun m7 => ?_)
  refine s_aload_n C rfl 0 rfl dX7_init_43 44 rfl ?_
  refine s_iload C 8 rfl dX7_init_44 46 rfl ?_
  refine x_piF C hin 6 (RX7, TX7, 9) rfl 7 (Nat.le_of_ble_eq_true rfl) rfl q1760 rfl rfl trivial 7 rfl dX7_init_46 49 rfl (fun m8 => ?_)
  refine s_aload_n C rfl 0 rfl dX7_init_49 50 rfl ?_
  refine s_aload C 9 rfl dX7_init_50 52 rfl ?_
  refine x_prF C hin 6 (RX7, TX7, 9) rfl 8 (Nat.le_of_ble_eq_true rfl) rfl q1764 rfl rfl trivial 7 rfl dX7_init_52 55 rfl (fun m9 => ?_)
  exact x_vret C hret rfl dX7_init_55
theorem hdX7_init : ((⟨"MasterTree$Change", "<init>", "(IIILMasterTree$Kind;IIIILjava/util/List;)V"⟩ : MethodName)).cls ≠ "java/lang/invoke/MethodHandle" ∧ ((⟨"MasterTree$Change", "<init>", "(IIILMasterTree$Kind;IIIILjava/util/List;)V"⟩ : MethodName)).cls ≠ "java/lang/invoke/VarHandle" ∧ (parseMethodDescriptor ((⟨"MasterTree$Change", "<init>", "(IIILMasterTree$Kind;IIIILjava/util/List;)V"⟩ : MethodName)).desc).map (fun d => d.parameters.length) = some 9 := ⟨by decide +kernel, by decide +kernel, by decide +kernel⟩
theorem ctX7_init {l : Launch} {g : GG} (hst : l.stackTraces = false) (N : Nat) (m : Mm) (v0 : Option Nat) (v1 : Int32) (v2 : Int32) (v3 : Int32) (v4 : Option Nat) (v5 : Int32) (v6 : Int32) (v7 : Int32) (v8 : Int32) (v9 : Option Nat) : ∀ v m' k n, fX7_init (gE_ g) N m v0 v1 v2 v3 v4 v5 v6 v7 v8 v9 = some (v, m', k, n) → Ct_ l g (⟨"MasterTree$Change", "<init>", "(IIILMasterTree$Kind;IIIILjava/util/List;)V"⟩ : MethodName) (ws_ (⟨"MasterTree$Change", "<init>", "(IIILMasterTree$Kind;IIIILjava/util/List;)V"⟩ : MethodName) cX7_init 10 (Option.none : Option Jvm.ClassFile.FieldType)) 10 [vr_ v0, vi_ v1, vi_ v2, vi_ v3, vr_ v4, vi_ v5, vi_ v6, vi_ v7, vi_ v8, vr_ v9] m (en_v v) m' k n :=
  Ct_of (by decide +kernel) rfl hst (Nat.le_of_ble_eq_true rfl) rfl (fun E C hret h0 hin => wX7_init C hret h0 hin N m v0 v1 v2 v3 v4 v5 v6 v7 v8 v9 0 0)
theorem wX1_isAbove_b29 {l : Launch} {g : GG} {E : Me_} (C : Cx_ l g E "MasterTree" cX1_isAbove 4 10) (hret : (eT_ E).sig.returnType = (Option.some Jvm.ClassFile.FieldType.boolean)) (h0 : ∀ x ∈ (eC_ E).exceptionTable.toList, False) (hin : (eT_ E).name = "isAbove") (N : Nat) : ∀ (m : Mm) (s0 : Int32) (k n : Nat), Sm_ l g E 4 en_i (fX1_isAbove_b29 (gE_ g) N m s0) k n 29 [] [vi_ s0] m := by
  intro m s0 k n
  unfold fX1_isAbove_b29
  exact x_zret C hret rfl dX1_isAbove_29
theorem wX1_isAbove_b19 {l : Launch} {g : GG} {E : Me_} (C : Cx_ l g E "MasterTree" cX1_isAbove 4 10) (hret : (eT_ E).sig.returnType = (Option.some Jvm.ClassFile.FieldType.boolean)) (h0 : ∀ x ∈ (eC_ E).exceptionTable.toList, False) (hin : (eT_ E).name = "isAbove") (N : Nat) : ∀ (m : Mm) (v1 : Int32) (v3 : Int32) (k n : Nat), Sm_ l g E 4 en_i (fX1_isAbove_b19 (gE_ g) N m v1 v3) k n 19 [(1, vi_ v1), (3, vi_ v3)] [] m := by
  intro m v1 v3 k n
  unfold fX1_isAbove_b19
  refine s_iload_n C rfl 1 rfl dX1_isAbove_19 20 rfl ?_
  refine s_iload_n C rfl 0 rfl dX1_isAbove_20 21 rfl ?_
  refine s_icmp_ne C dX1_isAbove_21 28 rfl 24 rfl (fun c_ => ?_) (fun c_ => ?_)
  · refine s_iconst C 1 rfl dX1_isAbove_24 25 rfl ?_
    refine s_goto C (off := 4) 29 dX1_isAbove_25 rfl ?_
    refine Sm_sub [] rfl ?_
    exact wX1_isAbove_b29 C hret h0 hin N _ _ _ _
  · refine s_iconst C 0 rfl dX1_isAbove_28 29 rfl ?_
    refine Sm_sub [] rfl ?_
    exact wX1_isAbove_b29 C hret h0 hin N _ _ _ _
theorem wX1_isAbove_b2 {l : Launch} {g : GG} {E : Me_} (C : Cx_ l g E "MasterTree" cX1_isAbove 4 10) (hret : (eT_ E).sig.returnType = (Option.some Jvm.ClassFile.FieldType.boolean)) (h0 : ∀ x ∈ (eC_ E).exceptionTable.toList, False) (hin : (eT_ E).name = "isAbove") (N : Nat) : ∀ (F : Nat) (m : Mm) (v0 : Option Nat) (v1 : Int32) (v3 : Int32) (k n : Nat), Sm_ l g E 4 en_i (fX1_isAbove_b2 (gE_ g) N F m v0 v1 v3) k n 2 [(0, vr_ v0), (1, vi_ v1), (3, vi_ v3)] [] m := by
  intro F
  induction F with
  | zero => intros; exact Sm_none
  | succ F ih =>
    intro m v0 v1 v3 k n
    unfold fX1_isAbove_b2
    refine s_iload_n C rfl 2 rfl dX1_isAbove_2 3 rfl ?_
    refine s_iconst C (-1) rfl dX1_isAbove_3 4 rfl ?_
    refine s_icmp_eq C dX1_isAbove_4 19 rfl 7 rfl (fun c_ => ?_) (fun c_ => ?_)
    · refine Sm_sub [1, 2] rfl ?_
      exact wX1_isAbove_b19 C hret h0 hin N _ _ _ _ _
    · refine s_iload_n C rfl 2 rfl dX1_isAbove_7 8 rfl ?_
      refine s_iload_n C rfl 1 rfl dX1_isAbove_8 9 rfl ?_
      refine s_icmp_eq C dX1_isAbove_9 19 rfl 12 rfl (fun c_ => ?_) (fun c_ => ?_)
      · refine Sm_sub [1, 2] rfl ?_
        exact wX1_isAbove_b19 C hret h0 hin N _ _ _ _ _
      · refine s_aload_n C rfl 0 rfl dX1_isAbove_12 13 rfl ?_
        refine s_iload_n C rfl 2 rfl dX1_isAbove_13 14 rfl ?_
        refine x_ai0 C 200 rfl dX1_isAbove_14 15 rfl (fun x1 => ?_)
        refine s_istore_n C rfl (Nat.le_of_ble_eq_true rfl) [0, 1] rfl rfl dX1_isAbove_15 16 rfl ?_
        refine s_goto C (off := -14) 2 dX1_isAbove_16 rfl ?_
        refine Sm_sub [1, 2, 0] rfl ?_
        exact ih _ _ _ _ _ _
theorem wX1_isAbove {l : Launch} {g : GG} {E : Me_} (C : Cx_ l g E "MasterTree" cX1_isAbove 4 10) (hret : (eT_ E).sig.returnType = (Option.some Jvm.ClassFile.FieldType.boolean)) (h0 : ∀ x ∈ (eC_ E).exceptionTable.toList, False) (hin : (eT_ E).name = "isAbove") (N : Nat) : ∀ (m : Mm) (v0 : Option Nat) (v1 : Int32) (v2 : Int32) (k n : Nat), Sm_ l g E 4 en_i (fX1_isAbove (gE_ g) N m v0 v1 v2) k n 0 [(0, vr_ v0), (1, vi_ v1), (2, vi_ v2)] [] m := by
  intro m v0 v1 v2 k n
  unfold fX1_isAbove
  refine s_iload_n C rfl 2 rfl dX1_isAbove_0 1 rfl ?_
  refine s_istore_n C rfl (Nat.le_of_ble_eq_true rfl) [0, 1] rfl rfl dX1_isAbove_1 2 rfl ?_
  refine Sm_sub [1, 2, 0] rfl ?_
  exact wX1_isAbove_b2 C hret h0 hin N N _ _ _ _ _ _
theorem hdX1_isAbove : ((⟨"MasterTree", "isAbove", "([III)Z"⟩ : MethodName)).cls ≠ "java/lang/invoke/MethodHandle" ∧ ((⟨"MasterTree", "isAbove", "([III)Z"⟩ : MethodName)).cls ≠ "java/lang/invoke/VarHandle" ∧ (parseMethodDescriptor ((⟨"MasterTree", "isAbove", "([III)Z"⟩ : MethodName)).desc).map (fun d => d.parameters.length) = some 3 := ⟨by decide +kernel, by decide +kernel, by decide +kernel⟩
theorem ctX1_isAbove {l : Launch} {g : GG} (hst : l.stackTraces = false) (N : Nat) (m : Mm) (v0 : Option Nat) (v1 : Int32) (v2 : Int32) : ∀ v m' k n, fX1_isAbove (gE_ g) N m v0 v1 v2 = some (v, m', k, n) → Ct_ l g (⟨"MasterTree", "isAbove", "([III)Z"⟩ : MethodName) (ws_ (⟨"MasterTree", "isAbove", "([III)Z"⟩ : MethodName) cX1_isAbove 4 (Option.some Jvm.ClassFile.FieldType.boolean)) 10 [vr_ v0, vi_ v1, vi_ v2] m (en_i v) m' k n :=
  Ct_of (by decide +kernel) rfl hst (Nat.le_of_ble_eq_true rfl) rfl (fun E C hret h0 hin => wX1_isAbove C hret h0 hin N m v0 v1 v2 0 0)
theorem wJ34_checkForComodification {l : Launch} {g : GG} {E : Me_} (C : Cx_ l g E "java/util/ArrayList$Itr" cJ34_checkForComodification 1 10) (hret : (eT_ E).sig.returnType = (Option.none : Option Jvm.ClassFile.FieldType)) (h0 : ∀ x ∈ (eC_ E).exceptionTable.toList, False) (hin : (eT_ E).name = "checkForComodification") (N : Nat) : ∀ (m : Mm) (v0 : Option Nat) (k n : Nat), Sm_ l g E 1 en_v (fJ34_checkForComodification (gE_ g) N m v0) k n 0 [(0, vr_ v0)] [] m := by
  intro m v0 k n
  unfold fJ34_checkForComodification
  refine s_aload_n C rfl 0 rfl dJ34_checkForComodification_0 1 rfl ?_
  refine x_gr C 13 (RJ34, TJ34, 4) rfl 3 (Nat.le_of_ble_eq_true rfl) q1705 (Or.inl rfl) rfl 14 rfl dJ34_checkForComodification_1 4 rfl (fun x1 => ?_)
  refine x_gi C 12 (RJ2, TJ2, 3) rfl 0 (Nat.le_of_ble_eq_true rfl) q173 (Or.inr q174) rfl 13 rfl dJ34_checkForComodification_4 7 rfl (fun x2 => ?_)
  refine s_aload_n C rfl 0 rfl dJ34_checkForComodification_7 8 rfl ?_
  refine x_gi C 13 (RJ34, TJ34, 4) rfl 2 (Nat.le_of_ble_eq_true rfl) q1704 (Or.inl rfl) rfl 14 rfl dJ34_checkForComodification_8 11 rfl (fun x3 => ?_)
  refine s_icmp_eq C dJ34_checkForComodification_11 22 rfl 14 rfl (fun c_ => ?_) (fun c_ => ?_)
  · exact x_vret C hret rfl dJ34_checkForComodification_22
  · exact Sm_none
theorem hdJ34_checkForComodification : ((⟨"java/util/ArrayList$Itr", "checkForComodification", "()V"⟩ : MethodName)).cls ≠ "java/lang/invoke/MethodHandle" ∧ ((⟨"java/util/ArrayList$Itr", "checkForComodification", "()V"⟩ : MethodName)).cls ≠ "java/lang/invoke/VarHandle" ∧ (parseMethodDescriptor ((⟨"java/util/ArrayList$Itr", "checkForComodification", "()V"⟩ : MethodName)).desc).map (fun d => d.parameters.length) = some 0 := ⟨by decide +kernel, by decide +kernel, by decide +kernel⟩
theorem ctJ34_checkForComodification {l : Launch} {g : GG} (hst : l.stackTraces = false) (N : Nat) (m : Mm) (v0 : Option Nat) : ∀ v m' k n, fJ34_checkForComodification (gE_ g) N m v0 = some (v, m', k, n) → Ct_ l g (⟨"java/util/ArrayList$Itr", "checkForComodification", "()V"⟩ : MethodName) (ws_ (⟨"java/util/ArrayList$Itr", "checkForComodification", "()V"⟩ : MethodName) cJ34_checkForComodification 1 (Option.none : Option Jvm.ClassFile.FieldType)) 10 [vr_ v0] m (en_v v) m' k n :=
  Ct_of (by decide +kernel) rfl hst (Nat.le_of_ble_eq_true rfl) rfl (fun E C hret h0 hin => wJ34_checkForComodification C hret h0 hin N m v0 0 0)
theorem wJ34_next {l : Launch} {g : GG} {E : Me_} (C : Cx_ l g E "java/util/ArrayList$Itr" cJ34_next 3 11) (hret : (eT_ E).sig.returnType = (Option.some (Jvm.ClassFile.FieldType.object "java/lang/Object"))) (h0 : ∀ x ∈ (eC_ E).exceptionTable.toList, False) (hin : (eT_ E).name = "next") (N : Nat) : ∀ (m : Mm) (v0 : Option Nat) (k n : Nat), Sm_ l g E 3 en_r (fJ34_next (gE_ g) N m v0) k n 0 [(0, vr_ v0)] [] m := by
  intro m v0 k n
  unfold fJ34_next
  refine s_aload_n C rfl 0 rfl dJ34_next_0 1 rfl ?_
  refine x_ck (fun hb_ hb0_ => ?_)
  refine x_callV (enc := en_v) C 10 0 [] 14 (ctJ34_checkForComodification C.2.2.2.2.2.2.2.2.1 N m v0) hb_ hb0_ rfl rfl q1500 q1501 q1502 q124 q1503 hdJ34_checkForComodification (Nat.le_of_ble_eq_true rfl) (Nat.le_of_ble_eq_true rfl) rfl (Nat.le_of_ble_eq_true rfl) dJ34_next_1 4 rfl rfl hen_v (kk_v (fun m1 k1 n1 => ?_)) (kx_n he_v)
  refine s_aload_n C rfl 0 rfl dJ34_next_4 5 rfl ?_
  refine x_gi C 13 (RJ34, TJ34, 4) rfl 0 (Nat.le_of_ble_eq_true rfl) q1702 (Or.inl rfl) rfl 14 rfl dJ34_next_5 8 rfl (fun x1 => ?_)
  refine s_istore_n C rfl (Nat.le_of_ble_eq_true rfl) [0] rfl rfl dJ34_next_8 9 rfl ?_
  refine s_iload_n C rfl 0 rfl dJ34_next_9 10 rfl ?_
  refine s_aload_n C rfl 1 rfl dJ34_next_10 11 rfl ?_
  refine x_gr C 13 (RJ34, TJ34, 4) rfl 3 (Nat.le_of_ble_eq_true rfl) q1705 (Or.inl rfl) rfl 14 rfl dJ34_next_11 14 rfl (fun x2 => ?_)
  refine x_giN C 12 (RJ2, TJ2, 3) rfl 2 (Nat.le_of_ble_eq_true rfl) q170 rfl rfl 13 rfl dJ34_next_14 17 rfl (fun x3 => ?_)
  refine s_icmp_lt C dJ34_next_17 28 rfl 20 rfl (fun c_ => ?_) (fun c_ => ?_)
  · refine s_aload_n C rfl 1 rfl dJ34_next_28 29 rfl ?_
    refine x_gr C 13 (RJ34, TJ34, 4) rfl 3 (Nat.le_of_ble_eq_true rfl) q1705 (Or.inl rfl) rfl 14 rfl dJ34_next_29 32 rfl (fun x4 => ?_)
    refine x_gr C 12 (RJ2, TJ2, 3) rfl 1 (Nat.le_of_ble_eq_true rfl) q169 (Or.inl rfl) rfl 13 rfl dJ34_next_32 35 rfl (fun x5 => ?_)
    refine s_astore_n C rfl (Nat.le_of_ble_eq_true rfl) [0, 1] rfl rfl dJ34_next_35 36 rfl ?_
    refine s_iload_n C rfl 1 rfl dJ34_next_36 37 rfl ?_
    refine s_aload_n C rfl 0 rfl dJ34_next_37 38 rfl ?_
    refine x_ln C 4 (.object "java/lang/Object") rfl 204 rfl dJ34_next_38 39 rfl (fun x6 => ?_)
    refine s_icmp_lt C dJ34_next_39 50 rfl 42 rfl (fun c_ => ?_) (fun c_ => ?_)
    · refine s_aload_n C rfl 2 rfl dJ34_next_50 51 rfl ?_
      refine s_iload_n C rfl 1 rfl dJ34_next_51 52 rfl ?_
      refine s_iconst C 1 rfl dJ34_next_52 53 rfl ?_
      refine s_iadd C dJ34_next_53 54 rfl ?_
      refine x_pi C 13 (RJ34, TJ34, 4) rfl 0 (Nat.le_of_ble_eq_true rfl) rfl q1702 (Or.inl rfl) rfl trivial 14 rfl dJ34_next_54 57 rfl (fun m2 => ?_)
      refine s_aload_n C rfl 0 rfl dJ34_next_57 58 rfl ?_
      refine s_aload_n C rfl 2 rfl dJ34_next_58 59 rfl ?_
      refine s_iload_n C rfl 1 rfl dJ34_next_59 60 rfl ?_
      refine s_dup_x1 C rfl rfl dJ34_next_60 61 rfl ?_
      refine x_pi C 13 (RJ34, TJ34, 4) rfl 1 (Nat.le_of_ble_eq_true rfl) rfl q1703 (Or.inl rfl) rfl trivial 14 rfl dJ34_next_61 64 rfl (fun m3 => ?_)
      refine x_ar C 4 (.object "java/lang/Object") rfl rfl rfl 204 rfl dJ34_next_64 65 rfl (fun x7 => ?_)
      exact x_aret C hret (Or.inl ⟨_, rfl⟩) rfl dJ34_next_65
    · exact Sm_none
  · exact Sm_none
theorem hdJ34_next : ((⟨"java/util/ArrayList$Itr", "next", "()Ljava/lang/Object;"⟩ : MethodName)).cls ≠ "java/lang/invoke/MethodHandle" ∧ ((⟨"java/util/ArrayList$Itr", "next", "()Ljava/lang/Object;"⟩ : MethodName)).cls ≠ "java/lang/invoke/VarHandle" ∧ (parseMethodDescriptor ((⟨"java/util/ArrayList$Itr", "next", "()Ljava/lang/Object;"⟩ : MethodName)).desc).map (fun d => d.parameters.length) = some 0 := ⟨by decide +kernel, by decide +kernel, by decide +kernel⟩
theorem ctJ34_next {l : Launch} {g : GG} (hst : l.stackTraces = false) (N : Nat) (m : Mm) (v0 : Option Nat) : ∀ v m' k n, fJ34_next (gE_ g) N m v0 = some (v, m', k, n) → Ct_ l g (⟨"java/util/ArrayList$Itr", "next", "()Ljava/lang/Object;"⟩ : MethodName) (ws_ (⟨"java/util/ArrayList$Itr", "next", "()Ljava/lang/Object;"⟩ : MethodName) cJ34_next 3 (Option.some (Jvm.ClassFile.FieldType.object "java/lang/Object"))) 11 [vr_ v0] m (en_r v) m' k n :=
  Ct_of (by decide +kernel) rfl hst (Nat.le_of_ble_eq_true rfl) rfl (fun E C hret h0 hin => wJ34_next C hret h0 hin N m v0 0 0)
theorem wJ34_init {l : Launch} {g : GG} {E : Me_} (C : Cx_ l g E "java/util/ArrayList$Itr" cJ34_init 2 10) (hret : (eT_ E).sig.returnType = (Option.none : Option Jvm.ClassFile.FieldType)) (h0 : ∀ x ∈ (eC_ E).exceptionTable.toList, False) (hin : (eT_ E).name = "<init>") (N : Nat) : ∀ (m : Mm) (v0 : Option Nat) (v1 : Option Nat) (k n : Nat), Sm_ l g E 2 en_v (fJ34_init (gE_ g) N m v0 v1) k n 0 [(0, vr_ v0), (1, vr_ v1)] [] m := by
  intro m v0 v1 k n
  unfold fJ34_init
  refine s_aload_n C rfl 0 rfl dJ34_init_0 1 rfl ?_
  refine s_aload_n C rfl 1 rfl dJ34_init_1 2 rfl ?_
  refine x_prF C hin 13 (RJ34, TJ34, 4) rfl 3 (Nat.le_of_ble_eq_true rfl) rfl q1705 rfl rfl trivial 14 rfl dJ34_init_2 5 rfl (fun m1 => ?_)
  refine s_aload_n C rfl 0 rfl dJ34_init_5 6 rfl ?_
  refine x_ok (fun hb_ => ?_)
  refine x_obj C hb_ q1701 q152 q153 (by decide) (Nat.le_of_ble_eq_true rfl) dJ34_init_6 9 rfl ?_
  refine s_aload_n C rfl 0 rfl dJ34_init_9 10 rfl ?_
  refine s_iconst C (-1) rfl dJ34_init_10 11 rfl ?_
  refine x_pi C 13 (RJ34, TJ34, 4) rfl 1 (Nat.le_of_ble_eq_true rfl) rfl q1703 (Or.inl rfl) rfl trivial 14 rfl dJ34_init_11 14 rfl (fun m2 => ?_)
  refine s_aload_n C rfl 0 rfl dJ34_init_14 15 rfl ?_
  refine s_aload_n C rfl 0 rfl dJ34_init_15 16 rfl ?_
  refine x_gr C 13 (RJ34, TJ34, 4) rfl 3 (Nat.le_of_ble_eq_true rfl) q1705 (Or.inl rfl) rfl 14 rfl dJ34_init_16 19 rfl (fun x1 => ?_)
  refine x_gi C 12 (RJ2, TJ2, 3) rfl 0 (Nat.le_of_ble_eq_true rfl) q173 (Or.inr q174) rfl 13 rfl dJ34_init_19 22 rfl (fun x2 => ?_)
  refine x_pi C 13 (RJ34, TJ34, 4) rfl 2 (Nat.le_of_ble_eq_true rfl) rfl q1704 (Or.inl rfl) rfl trivial 14 rfl dJ34_init_22 25 rfl (fun m3 => ?_)
  exact x_vret C hret rfl dJ34_init_25
theorem hdJ34_init : ((⟨"java/util/ArrayList$Itr", "<init>", "(Ljava/util/ArrayList;)V"⟩ : MethodName)).cls ≠ "java/lang/invoke/MethodHandle" ∧ ((⟨"java/util/ArrayList$Itr", "<init>", "(Ljava/util/ArrayList;)V"⟩ : MethodName)).cls ≠ "java/lang/invoke/VarHandle" ∧ (parseMethodDescriptor ((⟨"java/util/ArrayList$Itr", "<init>", "(Ljava/util/ArrayList;)V"⟩ : MethodName)).desc).map (fun d => d.parameters.length) = some 1 := ⟨by decide +kernel, by decide +kernel, by decide +kernel⟩
theorem ctJ34_init {l : Launch} {g : GG} (hst : l.stackTraces = false) (N : Nat) (m : Mm) (v0 : Option Nat) (v1 : Option Nat) : ∀ v m' k n, fJ34_init (gE_ g) N m v0 v1 = some (v, m', k, n) → Ct_ l g (⟨"java/util/ArrayList$Itr", "<init>", "(Ljava/util/ArrayList;)V"⟩ : MethodName) (ws_ (⟨"java/util/ArrayList$Itr", "<init>", "(Ljava/util/ArrayList;)V"⟩ : MethodName) cJ34_init 2 (Option.none : Option Jvm.ClassFile.FieldType)) 10 [vr_ v0, vr_ v1] m (en_v v) m' k n :=
  Ct_of (by decide +kernel) rfl hst (Nat.le_of_ble_eq_true rfl) rfl (fun E C hret h0 hin => wJ34_init C hret h0 hin N m v0 v1 0 0)
theorem wJ2_iterator {l : Launch} {g : GG} {E : Me_} (C : Cx_ l g E "java/util/ArrayList" cJ2_iterator 1 11) (hret : (eT_ E).sig.returnType = (Option.some (Jvm.ClassFile.FieldType.object "java/util/Iterator"))) (h0 : ∀ x ∈ (eC_ E).exceptionTable.toList, False) (hin : (eT_ E).name = "iterator") (N : Nat) : ∀ (m : Mm) (v0 : Option Nat) (k n : Nat), Sm_ l g E 1 en_r (fJ2_iterator (gE_ g) N m v0) k n 0 [(0, vr_ v0)] [] m := by
  intro m v0 k n
  unfold fJ2_iterator
  refine x_nw C 13 (RJ34, TJ34, 4) rfl q1696 q1697 q124 14 4 rfl rfl dJ2_iterator_0 3 rfl (fun x1 m1 => ?_)
  refine s_dup C rfl dJ2_iterator_3 4 rfl ?_
  refine s_aload_n C rfl 0 rfl dJ2_iterator_4 5 rfl ?_
  refine x_callI (enc := en_v) C 10 1 [vr_ v0] (ctJ34_init C.2.2.2.2.2.2.2.2.1 N m1 (some x1) v0) (fun h => by cases h) rfl q1698 q1699 q124 q1700 rfl hdJ34_init (Nat.le_of_ble_eq_true rfl) (Nat.le_of_ble_eq_true rfl) rfl (Nat.le_of_ble_eq_true rfl) dJ2_iterator_5 8 rfl rfl hen_v (kk_v (fun m2 k1 n1 => ?_)) (kx_n he_v)
  exact x_aret C hret (Or.inl ⟨_, rfl⟩) rfl dJ2_iterator_8
theorem hdJ2_iterator : ((⟨"java/util/ArrayList", "iterator", "()Ljava/util/Iterator;"⟩ : MethodName)).cls ≠ "java/lang/invoke/MethodHandle" ∧ ((⟨"java/util/ArrayList", "iterator", "()Ljava/util/Iterator;"⟩ : MethodName)).cls ≠ "java/lang/invoke/VarHandle" ∧ (parseMethodDescriptor ((⟨"java/util/ArrayList", "iterator", "()Ljava/util/Iterator;"⟩ : MethodName)).desc).map (fun d => d.parameters.length) = some 0 := ⟨by decide +kernel, by decide +kernel, by decide +kernel⟩
theorem ctJ2_iterator {l : Launch} {g : GG} (hst : l.stackTraces = false) (N : Nat) (m : Mm) (v0 : Option Nat) : ∀ v m' k n, fJ2_iterator (gE_ g) N m v0 = some (v, m', k, n) → Ct_ l g (⟨"java/util/ArrayList", "iterator", "()Ljava/util/Iterator;"⟩ : MethodName) (ws_ (⟨"java/util/ArrayList", "iterator", "()Ljava/util/Iterator;"⟩ : MethodName) cJ2_iterator 1 (Option.some (Jvm.ClassFile.FieldType.object "java/util/Iterator"))) 11 [vr_ v0] m (en_r v) m' k n :=
  Ct_of (by decide +kernel) rfl hst (Nat.le_of_ble_eq_true rfl) rfl (fun E C hret h0 hin => wJ2_iterator C hret h0 hin N m v0 0 0)
theorem wX1_findsParents_b121 {l : Launch} {g : GG} {E : Me_} (C : Cx_ l g E "MasterTree" cX1_findsParents 6 12) (hret : (eT_ E).sig.returnType = (Option.none : Option Jvm.ClassFile.FieldType)) (h0 : ∀ x ∈ (eC_ E).exceptionTable.toList, False) (hin : (eT_ E).name = "findsParents") (N : Nat) {k25 : Mm → Option Nat → Option Nat → Rs (Unit)} (hk25 : ∀ (m : Mm) (v1 : Option Nat) (v2 : Option Nat) (k n : Nat), Sm_ l g E 6 en_v (k25 m v1 v2) k n 25 [(1, vr_ v1), (2, vr_ v2)] [] m) : ∀ (m : Mm) (v1 : Option Nat) (v2 : Option Nat) (s0 : Option Nat) (s1 : Int32) (s2 : Int32) (k n : Nat), Sm_ l g E 6 en_v (fX1_findsParents_b121 (gE_ g) N k25 m v1 v2 s0 s1 s2) k n 121 [(1, vr_ v1), (2, vr_ v2)] [vi_ s2, vi_ s1, vr_ s0] m := by
  intro m v1 v2 s0 s1 s2 k n
  unfold fX1_findsParents_b121
  refine x_bi0 C 200 rfl dX1_findsParents_121 122 rfl (fun m1 => ?_)
  refine s_goto C (off := -97) 25 dX1_findsParents_122 rfl ?_
  exact hk25 _ _ _ _ _
theorem wX1_findsParents_b108 {l : Launch} {g : GG} {E : Me_} (C : Cx_ l g E "MasterTree" cX1_findsParents 6 12) (hret : (eT_ E).sig.returnType = (Option.none : Option Jvm.ClassFile.FieldType)) (h0 : ∀ x ∈ (eC_ E).exceptionTable.toList, False) (hin : (eT_ E).name = "findsParents") (N : Nat) {k25 : Mm → Option Nat → Option Nat → Rs (Unit)} (hk25 : ∀ (m : Mm) (v1 : Option Nat) (v2 : Option Nat) (k n : Nat), Sm_ l g E 6 en_v (k25 m v1 v2) k n 25 [(1, vr_ v1), (2, vr_ v2)] [] m) : ∀ (m : Mm) (v1 : Option Nat) (v2 : Option Nat) (v3 : Option Nat) (s0 : Option Nat) (s1 : Int32) (k n : Nat), Sm_ l g E 6 en_v (fX1_findsParents_b108 (gE_ g) N k25 m v1 v2 v3 s0 s1) k n 108 [(1, vr_ v1), (2, vr_ v2), (3, vr_ v3)] [vi_ s1, vr_ s0] m := by
  intro m v1 v2 v3 s0 s1 k n
  unfold fX1_findsParents_b108
  refine s_aload_n C rfl 2 rfl dX1_findsParents_108 109 rfl ?_
  refine x_giN C 6 (RX7, TX7, 9) rfl 5 (Nat.le_of_ble_eq_true rfl) q1753 rfl rfl 7 rfl dX1_findsParents_109 112 rfl (fun x1 => ?_)
  refine s_goto C (off := 9) 121 dX1_findsParents_112 rfl ?_
  refine Sm_sub [0, 1] rfl ?_
  exact wX1_findsParents_b121 C hret h0 hin N hk25 _ _ _ _ _ _ _ _
theorem wX1_findsParents_b91 {l : Launch} {g : GG} {E : Me_} (C : Cx_ l g E "MasterTree" cX1_findsParents 6 12) (hret : (eT_ E).sig.returnType = (Option.none : Option Jvm.ClassFile.FieldType)) (h0 : ∀ x ∈ (eC_ E).exceptionTable.toList, False) (hin : (eT_ E).name = "findsParents") (N : Nat) {k25 : Mm → Option Nat → Option Nat → Rs (Unit)} (hk25 : ∀ (m : Mm) (v1 : Option Nat) (v2 : Option Nat) (k n : Nat), Sm_ l g E 6 en_v (k25 m v1 v2) k n 25 [(1, vr_ v1), (2, vr_ v2)] [] m) : ∀ (m : Mm) (v1 : Option Nat) (v2 : Option Nat) (v3 : Option Nat) (v4 : Int32) (s0 : Int32) (k n : Nat), Sm_ l g E 6 en_v (fX1_findsParents_b91 (gE_ g) N k25 m v1 v2 v3 v4 s0) k n 91 [(1, vr_ v1), (2, vr_ v2), (3, vr_ v3), (4, vi_ v4)] [vi_ s0] m := by
  intro m v1 v2 v3 v4 s0 k n
  unfold fX1_findsParents_b91
  refine s_istore C (Nat.le_of_ble_eq_true rfl) [0, 1, 2, 3] rfl rfl dX1_findsParents_91 93 rfl ?_
  refine s_aload_n C rfl 1 rfl dX1_findsParents_93 94 rfl ?_
  refine s_aload_n C rfl 3 rfl dX1_findsParents_94 95 rfl ?_
  refine x_giN C 6 (RX7, TX7, 9) rfl 4 (Nat.le_of_ble_eq_true rfl) q1744 rfl rfl 7 rfl dX1_findsParents_95 98 rfl (fun x1 => ?_)
  refine s_iload C 4 rfl dX1_findsParents_98 100 rfl ?_
  refine s_if_ne C dX1_findsParents_100 108 rfl 103 rfl (fun c_ => ?_) (fun c_ => ?_)
  · refine s_iload C 0 rfl dX1_findsParents_103 105 rfl ?_
    refine s_if_eq C dX1_findsParents_105 115 rfl 108 rfl (fun c_ => ?_) (fun c_ => ?_)
    · refine s_aload_n C rfl 1 rfl dX1_findsParents_115 116 rfl ?_
      refine s_aload_n C rfl 3 rfl dX1_findsParents_116 117 rfl ?_
      refine x_giN C 6 (RX7, TX7, 9) rfl 4 (Nat.le_of_ble_eq_true rfl) q1744 rfl rfl 7 rfl dX1_findsParents_117 120 rfl (fun x2 => ?_)
      refine x_ai0 C 200 rfl dX1_findsParents_120 121 rfl (fun x3 => ?_)
      refine Sm_sub [1, 2] rfl ?_
      exact wX1_findsParents_b121 C hret h0 hin N hk25 _ _ _ _ _ _ _ _
    · refine Sm_sub [1, 2, 3] rfl ?_
      exact wX1_findsParents_b108 C hret h0 hin N hk25 _ _ _ _ _ _ _ _
  · refine Sm_sub [1, 2, 3] rfl ?_
    exact wX1_findsParents_b108 C hret h0 hin N hk25 _ _ _ _ _ _ _ _
theorem wX1_findsParents_b90 {l : Launch} {g : GG} {E : Me_} (C : Cx_ l g E "MasterTree" cX1_findsParents 6 12) (hret : (eT_ E).sig.returnType = (Option.none : Option Jvm.ClassFile.FieldType)) (h0 : ∀ x ∈ (eC_ E).exceptionTable.toList, False) (hin : (eT_ E).name = "findsParents") (N : Nat) {k25 : Mm → Option Nat → Option Nat → Rs (Unit)} (hk25 : ∀ (m : Mm) (v1 : Option Nat) (v2 : Option Nat) (k n : Nat), Sm_ l g E 6 en_v (k25 m v1 v2) k n 25 [(1, vr_ v1), (2, vr_ v2)] [] m) : ∀ (m : Mm) (v1 : Option Nat) (v2 : Option Nat) (v3 : Option Nat) (v4 : Int32) (k n : Nat), Sm_ l g E 6 en_v (fX1_findsParents_b90 (gE_ g) N k25 m v1 v2 v3 v4) k n 90 [(1, vr_ v1), (2, vr_ v2), (3, vr_ v3), (4, vi_ v4)] [] m := by
  intro m v1 v2 v3 v4 k n
  unfold fX1_findsParents_b90
  refine s_iconst C 0 rfl dX1_findsParents_90 91 rfl ?_
  exact wX1_findsParents_b91 C hret h0 hin N hk25 _ _ _ _ _ _ _ _
theorem wX1_findsParents_b59 {l : Launch} {g : GG} {E : Me_} (C : Cx_ l g E "MasterTree" cX1_findsParents 6 12) (hret : (eT_ E).sig.returnType = (Option.none : Option Jvm.ClassFile.FieldType)) (h0 : ∀ x ∈ (eC_ E).exceptionTable.toList, False) (hin : (eT_ E).name = "findsParents") (N : Nat) {k25 : Mm → Option Nat → Option Nat → Rs (Unit)} (hk25 : ∀ (m : Mm) (v1 : Option Nat) (v2 : Option Nat) (k n : Nat), Sm_ l g E 6 en_v (k25 m v1 v2) k n 25 [(1, vr_ v1), (2, vr_ v2)] [] m) : ∀ (m : Mm) (v1 : Option Nat) (v2 : Option Nat) (v3 : Option Nat) (s0 : Int32) (k n : Nat), Sm_ l g E 6 en_v (fX1_findsParents_b59 (gE_ g) N k25 m v1 v2 v3 s0) k n 59 [(1, vr_ v1), (2, vr_ v2), (3, vr_ v3)] [vi_ s0] m := by
  intro m v1 v2 v3 s0 k n
  unfold fX1_findsParents_b59
  refine s_istore C (Nat.le_of_ble_eq_true rfl) [0, 1, 2] rfl rfl dX1_findsParents_59 61 rfl ?_
  refine s_aload_n C rfl 3 rfl dX1_findsParents_61 62 rfl ?_
  refine x_grN C 6 (RX7, TX7, 9) rfl 3 (Nat.le_of_ble_eq_true rfl) q1740 rfl rfl 7 rfl dX1_findsParents_62 65 rfl (fun x1 => ?_)
  refine x_gs C 15 (vr_ (some (gE_ g 13))) rfl q2295 rfl dX1_findsParents_65 68 rfl ?_
  refine s_acmp_ne C dX1_findsParents_68 90 rfl 71 rfl (fun c_ => ?_) (fun c_ => ?_)
  · refine s_aload_n C rfl 1 rfl dX1_findsParents_71 72 rfl ?_
    refine s_aload_n C rfl 3 rfl dX1_findsParents_72 73 rfl ?_
    refine x_giN C 6 (RX7, TX7, 9) rfl 4 (Nat.le_of_ble_eq_true rfl) q1744 rfl rfl 7 rfl dX1_findsParents_73 76 rfl (fun x2 => ?_)
    refine s_aload_n C rfl 3 rfl dX1_findsParents_76 77 rfl ?_
    refine x_giN C 6 (RX7, TX7, 9) rfl 5 (Nat.le_of_ble_eq_true rfl) q1753 rfl rfl 7 rfl dX1_findsParents_77 80 rfl (fun x3 => ?_)
    refine x_callS (enc := en_i) C 10 3 [vr_ v1, vi_ x2, vi_ x3] (ctX1_isAbove C.2.2.2.2.2.2.2.2.1 N m v1 x2 x3) q2296 q2297 q81 q2298 hdX1_isAbove (Nat.le_of_ble_eq_true rfl) (Nat.le_of_ble_eq_true rfl) rfl (Nat.le_of_ble_eq_true rfl) dX1_findsParents_80 83 rfl rfl hen_i (kk_i (fun x4 m1 k1 n1 => ?_)) (kx_n he_i)
    refine s_if_ne C dX1_findsParents_83 90 rfl 86 rfl (fun c_ => ?_) (fun c_ => ?_)
    · refine s_iconst C 1 rfl dX1_findsParents_86 87 rfl ?_
      refine s_goto C (off := 4) 91 dX1_findsParents_87 rfl ?_
      refine Sm_sub [1, 2, 3, 0] rfl ?_
      exact wX1_findsParents_b91 C hret h0 hin N hk25 _ _ _ _ _ _ _ _
    · refine Sm_sub [1, 2, 3, 0] rfl ?_
      exact wX1_findsParents_b90 C hret h0 hin N hk25 _ _ _ _ _ _ _
  · refine Sm_sub [1, 2, 3, 0] rfl ?_
    exact wX1_findsParents_b90 C hret h0 hin N hk25 _ _ _ _ _ _ _
theorem wX1_findsParents_b25 {l : Launch} {g : GG} {E : Me_} (C : Cx_ l g E "MasterTree" cX1_findsParents 6 12) (hret : (eT_ E).sig.returnType = (Option.none : Option Jvm.ClassFile.FieldType)) (h0 : ∀ x ∈ (eC_ E).exceptionTable.toList, False) (hin : (eT_ E).name = "findsParents") (N : Nat) : ∀ (F : Nat) (m : Mm) (v1 : Option Nat) (v2 : Option Nat) (k n : Nat), Sm_ l g E 6 en_v (fX1_findsParents_b25 (gE_ g) N F m v1 v2) k n 25 [(1, vr_ v1), (2, vr_ v2)] [] m := by
  intro F
  induction F with
  | zero => intros; exact Sm_none
  | succ F ih =>
    intro m v1 v2 k n
    unfold fX1_findsParents_b25
    refine s_aload_n C rfl 1 rfl dX1_findsParents_25 26 rfl ?_
    refine x_ck (fun hb_ hb0_ => ?_)
    refine x_callF (enc := en_i) C 10 0 [] 14 (ctJ34_hasNext C.2.2.2.2.2.2.2.2.1 N m v2) hb_ hb0_ rfl rfl rfl fw_13 q1716 q1458 q1460 q124 q1462 hx3 (Nat.le_of_ble_eq_true rfl) (Nat.le_of_ble_eq_true rfl) rfl (Nat.le_of_ble_eq_true rfl) dX1_findsParents_26 31 rfl rfl hen_i (kk_i (fun x1 m1 k1 n1 => ?_)) (kx_n he_i)
    refine s_if_eq C dX1_findsParents_31 125 rfl 34 rfl (fun c_ => ?_) (fun c_ => ?_)
    · exact x_vret C hret rfl dX1_findsParents_125
    · refine s_aload_n C rfl 1 rfl dX1_findsParents_34 35 rfl ?_
      refine x_ck (fun hb_ hb0_ => ?_)
      refine x_callF (enc := en_r) C 11 0 [] 14 (ctJ34_next C.2.2.2.2.2.2.2.2.1 N m1 v2) hb_ hb0_ rfl rfl rfl fw_19 q1718 q1495 q1497 q124 q1499 hx5 (Nat.le_of_ble_eq_true rfl) (Nat.le_of_ble_eq_true rfl) rfl (Nat.le_of_ble_eq_true rfl) dX1_findsParents_35 40 rfl rfl hen_r (kk_r (fun x2 m2 k1 n1 => ?_)) (kx_n he_r)
      refine x_cc C "MasterTree$Change" [7] (fun k hk => by rw [List.mem_singleton.mp hk]; exact ⟨rfl, Or.inr rfl⟩) q1725 dX1_findsParents_40 43 rfl ?_
      refine s_astore_n C rfl (Nat.le_of_ble_eq_true rfl) [0, 1] rfl rfl dX1_findsParents_43 44 rfl ?_
      refine s_aload_n C rfl 0 rfl dX1_findsParents_44 45 rfl ?_
      refine x_grN C 6 (RX7, TX7, 9) rfl 3 (Nat.le_of_ble_eq_true rfl) q1740 rfl rfl 7 rfl dX1_findsParents_45 48 rfl (fun x3 => ?_)
      refine x_gs C 8 (vr_ (some (gE_ g 6))) rfl q1719 rfl dX1_findsParents_48 51 rfl ?_
      refine s_acmp_ne C dX1_findsParents_51 58 rfl 54 rfl (fun c_ => ?_) (fun c_ => ?_)
      · refine s_iconst C 1 rfl dX1_findsParents_54 55 rfl ?_
        refine s_goto C (off := 4) 59 dX1_findsParents_55 rfl ?_
        refine Sm_sub [1, 2, 0] rfl ?_
        exact wX1_findsParents_b59 C hret h0 hin N (fun m v1 v2 k n => ih m v1 v2 k n) _ _ _ _ _ _ _
      · refine s_iconst C 0 rfl dX1_findsParents_58 59 rfl ?_
        refine Sm_sub [1, 2, 0] rfl ?_
        exact wX1_findsParents_b59 C hret h0 hin N (fun m v1 v2 k n => ih m v1 v2 k n) _ _ _ _ _ _ _
theorem wX1_findsParents_b2 {l : Launch} {g : GG} {E : Me_} (C : Cx_ l g E "MasterTree" cX1_findsParents 6 12) (hret : (eT_ E).sig.returnType = (Option.none : Option Jvm.ClassFile.FieldType)) (h0 : ∀ x ∈ (eC_ E).exceptionTable.toList, False) (hin : (eT_ E).name = "findsParents") (N : Nat) : ∀ (F : Nat) (m : Mm) (v0 : Option Nat) (v1 : Option Nat) (v2 : Int32) (k n : Nat), Sm_ l g E 6 en_v (fX1_findsParents_b2 (gE_ g) N F m v0 v1 v2) k n 2 [(0, vr_ v0), (1, vr_ v1), (2, vi_ v2)] [] m := by
  intro F
  induction F with
  | zero => intros; exact Sm_none
  | succ F ih =>
    intro m v0 v1 v2 k n
    unfold fX1_findsParents_b2
    refine s_iload_n C rfl 2 rfl dX1_findsParents_2 3 rfl ?_
    refine s_bipush C 48 rfl dX1_findsParents_3 5 rfl ?_
    refine s_icmp_ge C dX1_findsParents_5 18 rfl 8 rfl (fun c_ => ?_) (fun c_ => ?_)
    · refine s_aload_n C rfl 1 rfl dX1_findsParents_8 9 rfl ?_
      refine s_iload_n C rfl 2 rfl dX1_findsParents_9 10 rfl ?_
      refine s_iconst C (-1) rfl dX1_findsParents_10 11 rfl ?_
      refine x_bi0 C 200 rfl dX1_findsParents_11 12 rfl (fun m1 => ?_)
      refine s_iinc C 1 rfl 2 rfl (Nat.le_of_ble_eq_true rfl) [0, 1] rfl rfl dX1_findsParents_12 15 rfl ?_
      refine s_goto C (off := -13) 2 dX1_findsParents_15 rfl ?_
      refine Sm_sub [1, 2, 0] rfl ?_
      exact ih _ _ _ _ _ _
    · refine s_aload_n C rfl 0 rfl dX1_findsParents_18 19 rfl ?_
      refine x_ck (fun hb_ hb0_ => ?_)
      refine x_callF (enc := en_r) C 11 0 [] 13 (ctJ2_iterator C.2.2.2.2.2.2.2.2.1 N m v0) hb_ hb0_ rfl rfl rfl fw_27 q1688 q1691 q1693 q84 q1695 hx6 (Nat.le_of_ble_eq_true rfl) (Nat.le_of_ble_eq_true rfl) rfl (Nat.le_of_ble_eq_true rfl) dX1_findsParents_19 24 rfl rfl hen_r (kk_r (fun x1 m2 k1 n1 => ?_)) (kx_n he_r)
      refine s_astore_n C rfl (Nat.le_of_ble_eq_true rfl) [1] rfl rfl dX1_findsParents_24 25 rfl ?_
      refine Sm_sub [1, 0] rfl ?_
      exact wX1_findsParents_b25 C hret h0 hin N N _ _ _ _ _
theorem wX1_findsParents {l : Launch} {g : GG} {E : Me_} (C : Cx_ l g E "MasterTree" cX1_findsParents 6 12) (hret : (eT_ E).sig.returnType = (Option.none : Option Jvm.ClassFile.FieldType)) (h0 : ∀ x ∈ (eC_ E).exceptionTable.toList, False) (hin : (eT_ E).name = "findsParents") (N : Nat) : ∀ (m : Mm) (v0 : Option Nat) (v1 : Option Nat) (k n : Nat), Sm_ l g E 6 en_v (fX1_findsParents (gE_ g) N m v0 v1) k n 0 [(0, vr_ v0), (1, vr_ v1)] [] m := by
  intro m v0 v1 k n
  unfold fX1_findsParents
  refine s_iconst C 0 rfl dX1_findsParents_0 1 rfl ?_
  refine s_istore_n C rfl (Nat.le_of_ble_eq_true rfl) [0, 1] rfl rfl dX1_findsParents_1 2 rfl ?_
  refine Sm_sub [1, 2, 0] rfl ?_
  exact wX1_findsParents_b2 C hret h0 hin N N _ _ _ _ _ _
theorem hdX1_findsParents : ((⟨"MasterTree", "findsParents", "(Ljava/util/List;[I)V"⟩ : MethodName)).cls ≠ "java/lang/invoke/MethodHandle" ∧ ((⟨"MasterTree", "findsParents", "(Ljava/util/List;[I)V"⟩ : MethodName)).cls ≠ "java/lang/invoke/VarHandle" ∧ (parseMethodDescriptor ((⟨"MasterTree", "findsParents", "(Ljava/util/List;[I)V"⟩ : MethodName)).desc).map (fun d => d.parameters.length) = some 2 := ⟨by decide +kernel, by decide +kernel, by decide +kernel⟩
theorem ctX1_findsParents {l : Launch} {g : GG} (hst : l.stackTraces = false) (N : Nat) (m : Mm) (v0 : Option Nat) (v1 : Option Nat) : ∀ v m' k n, fX1_findsParents (gE_ g) N m v0 v1 = some (v, m', k, n) → Ct_ l g (⟨"MasterTree", "findsParents", "(Ljava/util/List;[I)V"⟩ : MethodName) (ws_ (⟨"MasterTree", "findsParents", "(Ljava/util/List;[I)V"⟩ : MethodName) cX1_findsParents 6 (Option.none : Option Jvm.ClassFile.FieldType)) 12 [vr_ v0, vr_ v1] m (en_v v) m' k n :=
  Ct_of (by decide +kernel) rfl hst (Nat.le_of_ble_eq_true rfl) rfl (fun E C hret h0 hin => wX1_findsParents C hret h0 hin N m v0 v1 0 0)
theorem wJ20_init_t28 {l : Launch} {g : GG} {E : Me_} (C : Cx_ l g E "java/lang/Number" cJ20_init 1 10) (hret : (eT_ E).sig.returnType = (Option.none : Option Jvm.ClassFile.FieldType)) (h0 : ∀ x ∈ (eC_ E).exceptionTable.toList, False) (hin : (eT_ E).name = "<init>") (N : Nat) : ∀ (m : Mm) (v0 : Option Nat) (k n : Nat), Sm_ l g E 1 en_v (fJ20_init_t28 (gE_ g) N m v0) k n 0 [(0, vr_ v0)] [] m := by
  intro m v0 k n
  unfold fJ20_init_t28
  refine s_aload_n C rfl 0 rfl dJ20_init_0 1 rfl ?_
  refine x_ok (fun hb_ => ?_)
  refine x_obj C hb_ q1633 q152 q153 (by decide) (Nat.le_of_ble_eq_true rfl) dJ20_init_1 4 rfl ?_
  exact x_vret C hret rfl dJ20_init_4
theorem hdJ20_init_t28 : ((⟨"java/lang/Number", "<init>", "()V"⟩ : MethodName)).cls ≠ "java/lang/invoke/MethodHandle" ∧ ((⟨"java/lang/Number", "<init>", "()V"⟩ : MethodName)).cls ≠ "java/lang/invoke/VarHandle" ∧ (parseMethodDescriptor ((⟨"java/lang/Number", "<init>", "()V"⟩ : MethodName)).desc).map (fun d => d.parameters.length) = some 0 := ⟨by decide +kernel, by decide +kernel, by decide +kernel⟩
theorem ctJ20_init_t28 {l : Launch} {g : GG} (hst : l.stackTraces = false) (N : Nat) (m : Mm) (v0 : Option Nat) : ∀ v m' k n, fJ20_init_t28 (gE_ g) N m v0 = some (v, m', k, n) → Ct_ l g (⟨"java/lang/Number", "<init>", "()V"⟩ : MethodName) (ws_ (⟨"java/lang/Number", "<init>", "()V"⟩ : MethodName) cJ20_init 1 (Option.none : Option Jvm.ClassFile.FieldType)) 10 [vr_ v0] m (en_v v) m' k n :=
  Ct_of (by decide +kernel) rfl hst (Nat.le_of_ble_eq_true rfl) rfl (fun E C hret h0 hin => wJ20_init_t28 C hret h0 hin N m v0 0 0)
theorem wJ28_init {l : Launch} {g : GG} {E : Me_} (C : Cx_ l g E "java/lang/Long" cJ28_init 3 11) (hret : (eT_ E).sig.returnType = (Option.none : Option Jvm.ClassFile.FieldType)) (h0 : ∀ x ∈ (eC_ E).exceptionTable.toList, False) (hin : (eT_ E).name = "<init>") (N : Nat) : ∀ (m : Mm) (v0 : Option Nat) (v1 : Int64) (k n : Nat), Sm_ l g E 3 en_v (fJ28_init (gE_ g) N m v0 v1) k n 0 [(0, vr_ v0), (1, vj_ v1)] [] m := by
  intro m v0 v1 k n
  unfold fJ28_init
  refine s_aload_n C rfl 0 rfl dJ28_init_0 1 rfl ?_
  refine x_ok (fun hb0_ => ?_)
  refine x_callI (enc := en_v) C 10 0 [] (ctJ20_init_t28 C.2.2.2.2.2.2.2.2.1 N m v0) hb0_ rfl q1868 q1631 q107 q1632 rfl hdJ20_init_t28 (Nat.le_of_ble_eq_true rfl) (Nat.le_of_ble_eq_true rfl) rfl (Nat.le_of_ble_eq_true rfl) dJ28_init_1 4 rfl rfl hen_v (kk_v (fun m1 k1 n1 => ?_)) (kx_n he_v)
  refine s_aload_n C rfl 0 rfl dJ28_init_4 5 rfl ?_
  refine s_lload_n C rfl 1 rfl dJ28_init_5 6 rfl ?_
  refine x_pjFb C hin 27 (RJ28, TJ28, 1) rfl 0 (Nat.le_of_ble_eq_true rfl) q1869 rfl rfl trivial 28 rfl dJ28_init_6 9 rfl (fun m2 => ?_)
  exact x_vret C hret rfl dJ28_init_9
theorem hdJ28_init : ((⟨"java/lang/Long", "<init>", "(J)V"⟩ : MethodName)).cls ≠ "java/lang/invoke/MethodHandle" ∧ ((⟨"java/lang/Long", "<init>", "(J)V"⟩ : MethodName)).cls ≠ "java/lang/invoke/VarHandle" ∧ (parseMethodDescriptor ((⟨"java/lang/Long", "<init>", "(J)V"⟩ : MethodName)).desc).map (fun d => d.parameters.length) = some 1 := ⟨by decide +kernel, by decide +kernel, by decide +kernel⟩
theorem ctJ28_init {l : Launch} {g : GG} (hst : l.stackTraces = false) (N : Nat) (m : Mm) (v0 : Option Nat) (v1 : Int64) : ∀ v m' k n, fJ28_init (gE_ g) N m v0 v1 = some (v, m', k, n) → Ct_ l g (⟨"java/lang/Long", "<init>", "(J)V"⟩ : MethodName) (ws_ (⟨"java/lang/Long", "<init>", "(J)V"⟩ : MethodName) cJ28_init 3 (Option.none : Option Jvm.ClassFile.FieldType)) 11 [vr_ v0, vj_ v1] m (en_v v) m' k n :=
  Ct_of (by decide +kernel) rfl hst (Nat.le_of_ble_eq_true rfl) rfl (fun E C hret h0 hin => wJ28_init C hret h0 hin N m v0 v1 0 0)
theorem wJ28_valueOf_b31 {l : Launch} {g : GG} {E : Me_} (C : Cx_ l g E "java/lang/Long" cJ28_valueOf 3 12) (hret : (eT_ E).sig.returnType = (Option.some (Jvm.ClassFile.FieldType.object "java/lang/Long"))) (h0 : ∀ x ∈ (eC_ E).exceptionTable.toList, False) (hin : (eT_ E).name = "valueOf") (N : Nat) : ∀ (m : Mm) (v0 : Int64) (k n : Nat), Sm_ l g E 3 en_r (fJ28_valueOf_b31 (gE_ g) N m v0) k n 31 [(0, vj_ v0)] [] m := by
  intro m v0 k n
  unfold fJ28_valueOf_b31
  refine x_nw C 27 (RJ28, TJ28, 1) rfl q1137 q1864 q116 28 1 rfl rfl dJ28_valueOf_31 34 rfl (fun x1 m1 => ?_)
  refine s_dup C rfl dJ28_valueOf_34 35 rfl ?_
  refine s_lload_n C rfl 0 rfl dJ28_valueOf_35 36 rfl ?_
  refine x_callI (enc := en_v) C 11 1 [vj_ v0] (ctJ28_init C.2.2.2.2.2.2.2.2.1 N m1 (some x1) v0) (fun h => by cases h) rfl q1865 q1866 q116 q1867 rfl hdJ28_init (Nat.le_of_ble_eq_true rfl) (Nat.le_of_ble_eq_true rfl) rfl (Nat.le_of_ble_eq_true rfl) dJ28_valueOf_36 39 rfl rfl hen_v (kk_v (fun m2 k1 n1 => ?_)) (kx_n he_v)
  exact x_aret C hret (Or.inl ⟨_, rfl⟩) rfl dJ28_valueOf_39
theorem wJ28_valueOf {l : Launch} {g : GG} {E : Me_} (C : Cx_ l g E "java/lang/Long" cJ28_valueOf 3 12) (hret : (eT_ E).sig.returnType = (Option.some (Jvm.ClassFile.FieldType.object "java/lang/Long"))) (h0 : ∀ x ∈ (eC_ E).exceptionTable.toList, False) (hin : (eT_ E).name = "valueOf") (N : Nat) : ∀ (m : Mm) (v0 : Int64) (k n : Nat), Sm_ l g E 3 en_r (fJ28_valueOf (gE_ g) N m v0) k n 0 [(0, vj_ v0)] [] m := by
  intro m v0 k n
  unfold fJ28_valueOf
  refine s_sipush C 128 rfl dJ28_valueOf_0 3 rfl ?_
  refine s_istore_n C rfl (Nat.le_of_ble_eq_true rfl) [0] rfl rfl dJ28_valueOf_3 4 rfl ?_
  refine s_lload_n C rfl 1 rfl dJ28_valueOf_4 5 rfl ?_
  refine s_ldc2 C (-128) q1860 dJ28_valueOf_5 8 rfl ?_
  refine s_lcmp C dJ28_valueOf_8 9 rfl ?_
  refine s_if_lt C dJ28_valueOf_9 31 rfl 12 rfl (fun c_ => ?_) (fun c_ => ?_)
  · refine Sm_sub [1] rfl ?_
    exact wJ28_valueOf_b31 C hret h0 hin N _ _ _ _
  · refine s_lload_n C rfl 1 rfl dJ28_valueOf_12 13 rfl ?_
    refine s_ldc2 C 127 q1861 dJ28_valueOf_13 16 rfl ?_
    refine s_lcmp C dJ28_valueOf_16 17 rfl ?_
    refine s_if_gt C dJ28_valueOf_17 31 rfl 20 rfl (fun c_ => ?_) (fun c_ => ?_)
    · refine Sm_sub [1] rfl ?_
      exact wJ28_valueOf_b31 C hret h0 hin N _ _ _ _
    · refine x_gs C 7 (vr_ (some (gE_ g 5))) rfl q1862 rfl dJ28_valueOf_20 23 rfl ?_
      refine s_lload_n C rfl 1 rfl dJ28_valueOf_23 24 rfl ?_
      refine s_l2i C dJ28_valueOf_24 25 rfl ?_
      refine s_sipush C 128 rfl dJ28_valueOf_25 28 rfl ?_
      refine s_iadd C dJ28_valueOf_28 29 rfl ?_
      refine x_ar C 8 (.object "java/lang/Long") rfl rfl rfl 208 rfl dJ28_valueOf_29 30 rfl (fun x1 => ?_)
      exact x_aret C hret (Or.inl ⟨_, rfl⟩) rfl dJ28_valueOf_30
theorem hdJ28_valueOf : ((⟨"java/lang/Long", "valueOf", "(J)Ljava/lang/Long;"⟩ : MethodName)).cls ≠ "java/lang/invoke/MethodHandle" ∧ ((⟨"java/lang/Long", "valueOf", "(J)Ljava/lang/Long;"⟩ : MethodName)).cls ≠ "java/lang/invoke/VarHandle" ∧ (parseMethodDescriptor ((⟨"java/lang/Long", "valueOf", "(J)Ljava/lang/Long;"⟩ : MethodName)).desc).map (fun d => d.parameters.length) = some 1 := ⟨by decide +kernel, by decide +kernel, by decide +kernel⟩
theorem ctJ28_valueOf {l : Launch} {g : GG} (hst : l.stackTraces = false) (N : Nat) (m : Mm) (v0 : Int64) : ∀ v m' k n, fJ28_valueOf (gE_ g) N m v0 = some (v, m', k, n) → Ct_ l g (⟨"java/lang/Long", "valueOf", "(J)Ljava/lang/Long;"⟩ : MethodName) (ws_ (⟨"java/lang/Long", "valueOf", "(J)Ljava/lang/Long;"⟩ : MethodName) cJ28_valueOf 3 (Option.some (Jvm.ClassFile.FieldType.object "java/lang/Long"))) 12 [vj_ v0] m (en_r v) m' k n :=
  Ct_of (by decide +kernel) rfl hst (Nat.le_of_ble_eq_true rfl) rfl (fun E C hret h0 hin => wJ28_valueOf C hret h0 hin N m v0 0 0)
theorem wJ4_parentOf_b12 {l : Launch} {g : GG} {E : Me_} (C : Cx_ l g E "java/util/TreeMap" cJ4_parentOf 1 10) (hret : (eT_ E).sig.returnType = (Option.some (Jvm.ClassFile.FieldType.object "java/util/TreeMap$Entry"))) (h0 : ∀ x ∈ (eC_ E).exceptionTable.toList, False) (hin : (eT_ E).name = "parentOf") (N : Nat) : ∀ (m : Mm) (s0 : Option Nat) (k n : Nat), Sm_ l g E 1 en_r (fJ4_parentOf_b12 (gE_ g) N m s0) k n 12 [] [vr_ s0] m := by
  intro m s0 k n
  unfold fJ4_parentOf_b12
  exact x_aret C hret (Or.inl ⟨_, rfl⟩) rfl dJ4_parentOf_12
theorem wJ4_parentOf {l : Launch} {g : GG} {E : Me_} (C : Cx_ l g E "java/util/TreeMap" cJ4_parentOf 1 10) (hret : (eT_ E).sig.returnType = (Option.some (Jvm.ClassFile.FieldType.object "java/util/TreeMap$Entry"))) (h0 : ∀ x ∈ (eC_ E).exceptionTable.toList, False) (hin : (eT_ E).name = "parentOf") (N : Nat) : ∀ (m : Mm) (v0 : Option Nat) (k n : Nat), Sm_ l g E 1 en_r (fJ4_parentOf (gE_ g) N m v0) k n 0 [(0, vr_ v0)] [] m := by
  intro m v0 k n
  unfold fJ4_parentOf
  refine s_aload_n C rfl 0 rfl dJ4_parentOf_0 1 rfl ?_
  refine s_ifnonnull C dJ4_parentOf_1 8 rfl 4 rfl (fun c_ => ?_) (fun c_ => ?_)
  · refine s_null C dJ4_parentOf_4 5 rfl ?_
    refine s_goto C (off := 7) 12 dJ4_parentOf_5 rfl ?_
    refine Sm_sub [] rfl ?_
    exact wJ4_parentOf_b12 C hret h0 hin N _ _ _ _
  · refine s_aload_n C rfl 0 rfl dJ4_parentOf_8 9 rfl ?_
    refine x_gr C 15 (RJ37, TJ37, 6) rfl 4 (Nat.le_of_ble_eq_true rfl) q1908 (Or.inl rfl) rfl 16 rfl dJ4_parentOf_9 12 rfl (fun x1 => ?_)
    refine Sm_sub [] rfl ?_
    exact wJ4_parentOf_b12 C hret h0 hin N _ _ _ _
theorem hdJ4_parentOf : ((⟨"java/util/TreeMap", "parentOf", "(Ljava/util/TreeMap$Entry;)Ljava/util/TreeMap$Entry;"⟩ : MethodName)).cls ≠ "java/lang/invoke/MethodHandle" ∧ ((⟨"java/util/TreeMap", "parentOf", "(Ljava/util/TreeMap$Entry;)Ljava/util/TreeMap$Entry;"⟩ : MethodName)).cls ≠ "java/lang/invoke/VarHandle" ∧ (parseMethodDescriptor ((⟨"java/util/TreeMap", "parentOf", "(Ljava/util/TreeMap$Entry;)Ljava/util/TreeMap$Entry;"⟩ : MethodName)).desc).map (fun d => d.parameters.length) = some 1 := ⟨by decide +kernel, by decide +kernel, by decide +kernel⟩
theorem ctJ4_parentOf {l : Launch} {g : GG} (hst : l.stackTraces = false) (N : Nat) (m : Mm) (v0 : Option Nat) : ∀ v m' k n, fJ4_parentOf (gE_ g) N m v0 = some (v, m', k, n) → Ct_ l g (⟨"java/util/TreeMap", "parentOf", "(Ljava/util/TreeMap$Entry;)Ljava/util/TreeMap$Entry;"⟩ : MethodName) (ws_ (⟨"java/util/TreeMap", "parentOf", "(Ljava/util/TreeMap$Entry;)Ljava/util/TreeMap$Entry;"⟩ : MethodName) cJ4_parentOf 1 (Option.some (Jvm.ClassFile.FieldType.object "java/util/TreeMap$Entry"))) 10 [vr_ v0] m (en_r v) m' k n :=
  Ct_of (by decide +kernel) rfl hst (Nat.le_of_ble_eq_true rfl) rfl (fun E C hret h0 hin => wJ4_parentOf C hret h0 hin N m v0 0 0)
theorem wJ4_setColor_b9 {l : Launch} {g : GG} {E : Me_} (C : Cx_ l g E "java/util/TreeMap" cJ4_setColor 2 10) (hret : (eT_ E).sig.returnType = (Option.none : Option Jvm.ClassFile.FieldType)) (h0 : ∀ x ∈ (eC_ E).exceptionTable.toList, False) (hin : (eT_ E).name = "setColor") (N : Nat) : ∀ (m : Mm) (k n : Nat), Sm_ l g E 2 en_v (fJ4_setColor_b9 (gE_ g) N m) k n 9 [] [] m := by
  intro m k n
  unfold fJ4_setColor_b9
  exact x_vret C hret rfl dJ4_setColor_9
theorem wJ4_setColor {l : Launch} {g : GG} {E : Me_} (C : Cx_ l g E "java/util/TreeMap" cJ4_setColor 2 10) (hret : (eT_ E).sig.returnType = (Option.none : Option Jvm.ClassFile.FieldType)) (h0 : ∀ x ∈ (eC_ E).exceptionTable.toList, False) (hin : (eT_ E).name = "setColor") (N : Nat) : ∀ (m : Mm) (v0 : Option Nat) (v1 : Int32) (k n : Nat), Sm_ l g E 2 en_v (fJ4_setColor (gE_ g) N m v0 v1) k n 0 [(0, vr_ v0), (1, vi_ v1)] [] m := by
  intro m v0 v1 k n
  unfold fJ4_setColor
  refine s_aload_n C rfl 0 rfl dJ4_setColor_0 1 rfl ?_
  refine s_ifnull C dJ4_setColor_1 9 rfl 4 rfl (fun c_ => ?_) (fun c_ => ?_)
  · refine Sm_sub [] rfl ?_
    exact wJ4_setColor_b9 C hret h0 hin N _ _ _
  · refine s_aload_n C rfl 0 rfl dJ4_setColor_4 5 rfl ?_
    refine s_iload_n C rfl 1 rfl dJ4_setColor_5 6 rfl ?_
    refine x_pz C 15 (RJ37, TJ37, 6) rfl 5 (Nat.le_of_ble_eq_true rfl) rfl q1910 (Or.inl rfl) rfl (Or.inl rfl) 16 rfl dJ4_setColor_6 9 rfl (fun m1 => ?_)
    refine Sm_sub [] rfl ?_
    exact wJ4_setColor_b9 C hret h0 hin N _ _ _
theorem hdJ4_setColor : ((⟨"java/util/TreeMap", "setColor", "(Ljava/util/TreeMap$Entry;Z)V"⟩ : MethodName)).cls ≠ "java/lang/invoke/MethodHandle" ∧ ((⟨"java/util/TreeMap", "setColor", "(Ljava/util/TreeMap$Entry;Z)V"⟩ : MethodName)).cls ≠ "java/lang/invoke/VarHandle" ∧ (parseMethodDescriptor ((⟨"java/util/TreeMap", "setColor", "(Ljava/util/TreeMap$Entry;Z)V"⟩ : MethodName)).desc).map (fun d => d.parameters.length) = some 2 := ⟨by decide +kernel, by decide +kernel, by decide +kernel⟩
theorem ctJ4_setColor {l : Launch} {g : GG} (hst : l.stackTraces = false) (N : Nat) (m : Mm) (v0 : Option Nat) (v1 : Int32) : ∀ v m' k n, fJ4_setColor (gE_ g) N m v0 v1 = some (v, m', k, n) → Ct_ l g (⟨"java/util/TreeMap", "setColor", "(Ljava/util/TreeMap$Entry;Z)V"⟩ : MethodName) (ws_ (⟨"java/util/TreeMap", "setColor", "(Ljava/util/TreeMap$Entry;Z)V"⟩ : MethodName) cJ4_setColor 2 (Option.none : Option Jvm.ClassFile.FieldType)) 10 [vr_ v0, vi_ v1] m (en_v v) m' k n :=
  Ct_of (by decide +kernel) rfl hst (Nat.le_of_ble_eq_true rfl) rfl (fun E C hret h0 hin => wJ4_setColor C hret h0 hin N m v0 v1 0 0)
theorem wJ4_rotateRight_b95 {l : Launch} {g : GG} {E : Me_} (C : Cx_ l g E "java/util/TreeMap" cJ4_rotateRight 3 10) (hret : (eT_ E).sig.returnType = (Option.none : Option Jvm.ClassFile.FieldType)) (h0 : ∀ x ∈ (eC_ E).exceptionTable.toList, False) (hin : (eT_ E).name = "rotateRight") (N : Nat) : ∀ (m : Mm) (k n : Nat), Sm_ l g E 3 en_v (fJ4_rotateRight_b95 (gE_ g) N m) k n 95 [] [] m := by
  intro m k n
  unfold fJ4_rotateRight_b95
  exact x_vret C hret rfl dJ4_rotateRight_95
theorem wJ4_rotateRight_b85 {l : Launch} {g : GG} {E : Me_} (C : Cx_ l g E "java/util/TreeMap" cJ4_rotateRight 3 10) (hret : (eT_ E).sig.returnType = (Option.none : Option Jvm.ClassFile.FieldType)) (h0 : ∀ x ∈ (eC_ E).exceptionTable.toList, False) (hin : (eT_ E).name = "rotateRight") (N : Nat) : ∀ (m : Mm) (v1 : Option Nat) (v2 : Option Nat) (k n : Nat), Sm_ l g E 3 en_v (fJ4_rotateRight_b85 (gE_ g) N m v1 v2) k n 85 [(1, vr_ v1), (2, vr_ v2)] [] m := by
  intro m v1 v2 k n
  unfold fJ4_rotateRight_b85
  refine s_aload_n C rfl 1 rfl dJ4_rotateRight_85 86 rfl ?_
  refine s_aload_n C rfl 0 rfl dJ4_rotateRight_86 87 rfl ?_
  refine x_pr C 15 (RJ37, TJ37, 6) rfl 3 (Nat.le_of_ble_eq_true rfl) rfl q1906 (Or.inl rfl) rfl trivial 16 rfl dJ4_rotateRight_87 90 rfl (fun m1 => ?_)
  refine s_aload_n C rfl 0 rfl dJ4_rotateRight_90 91 rfl ?_
  refine s_aload_n C rfl 1 rfl dJ4_rotateRight_91 92 rfl ?_
  refine x_pr C 15 (RJ37, TJ37, 6) rfl 4 (Nat.le_of_ble_eq_true rfl) rfl q1908 (Or.inl rfl) rfl trivial 16 rfl dJ4_rotateRight_92 95 rfl (fun m2 => ?_)
  refine Sm_sub [] rfl ?_
  exact wJ4_rotateRight_b95 C hret h0 hin N _ _ _
theorem wJ4_rotateRight_b32 {l : Launch} {g : GG} {E : Me_} (C : Cx_ l g E "java/util/TreeMap" cJ4_rotateRight 3 10) (hret : (eT_ E).sig.returnType = (Option.none : Option Jvm.ClassFile.FieldType)) (h0 : ∀ x ∈ (eC_ E).exceptionTable.toList, False) (hin : (eT_ E).name = "rotateRight") (N : Nat) : ∀ (m : Mm) (v0 : Option Nat) (v1 : Option Nat) (v2 : Option Nat) (k n : Nat), Sm_ l g E 3 en_v (fJ4_rotateRight_b32 (gE_ g) N m v0 v1 v2) k n 32 [(0, vr_ v0), (1, vr_ v1), (2, vr_ v2)] [] m := by
  intro m v0 v1 v2 k n
  unfold fJ4_rotateRight_b32
  refine s_aload_n C rfl 2 rfl dJ4_rotateRight_32 33 rfl ?_
  refine s_aload_n C rfl 1 rfl dJ4_rotateRight_33 34 rfl ?_
  refine x_gr C 15 (RJ37, TJ37, 6) rfl 4 (Nat.le_of_ble_eq_true rfl) q1908 (Or.inl rfl) rfl 16 rfl dJ4_rotateRight_34 37 rfl (fun x1 => ?_)
  refine x_pr C 15 (RJ37, TJ37, 6) rfl 4 (Nat.le_of_ble_eq_true rfl) rfl q1908 (Or.inl rfl) rfl trivial 16 rfl dJ4_rotateRight_37 40 rfl (fun m1 => ?_)
  refine s_aload_n C rfl 1 rfl dJ4_rotateRight_40 41 rfl ?_
  refine x_gr C 15 (RJ37, TJ37, 6) rfl 4 (Nat.le_of_ble_eq_true rfl) q1908 (Or.inl rfl) rfl 16 rfl dJ4_rotateRight_41 44 rfl (fun x2 => ?_)
  refine s_ifnonnull C dJ4_rotateRight_44 55 rfl 47 rfl (fun c_ => ?_) (fun c_ => ?_)
  · refine s_aload_n C rfl 0 rfl dJ4_rotateRight_47 48 rfl ?_
    refine s_aload_n C rfl 2 rfl dJ4_rotateRight_48 49 rfl ?_
    refine x_pr C 14 (RJ4, TJ4, 9) rfl 3 (Nat.le_of_ble_eq_true rfl) rfl q205 (Or.inl rfl) rfl trivial 15 rfl dJ4_rotateRight_49 52 rfl (fun m2 => ?_)
    refine s_goto C (off := 33) 85 dJ4_rotateRight_52 rfl ?_
    refine Sm_sub [1, 2] rfl ?_
    exact wJ4_rotateRight_b85 C hret h0 hin N _ _ _ _ _
  · refine s_aload_n C rfl 1 rfl dJ4_rotateRight_55 56 rfl ?_
    refine x_gr C 15 (RJ37, TJ37, 6) rfl 4 (Nat.le_of_ble_eq_true rfl) q1908 (Or.inl rfl) rfl 16 rfl dJ4_rotateRight_56 59 rfl (fun x3 => ?_)
    refine x_gr C 15 (RJ37, TJ37, 6) rfl 3 (Nat.le_of_ble_eq_true rfl) q1906 (Or.inl rfl) rfl 16 rfl dJ4_rotateRight_59 62 rfl (fun x4 => ?_)
    refine s_aload_n C rfl 1 rfl dJ4_rotateRight_62 63 rfl ?_
    refine s_acmp_ne C dJ4_rotateRight_63 77 rfl 66 rfl (fun c_ => ?_) (fun c_ => ?_)
    · refine s_aload_n C rfl 1 rfl dJ4_rotateRight_66 67 rfl ?_
      refine x_gr C 15 (RJ37, TJ37, 6) rfl 4 (Nat.le_of_ble_eq_true rfl) q1908 (Or.inl rfl) rfl 16 rfl dJ4_rotateRight_67 70 rfl (fun x5 => ?_)
      refine s_aload_n C rfl 2 rfl dJ4_rotateRight_70 71 rfl ?_
      refine x_pr C 15 (RJ37, TJ37, 6) rfl 3 (Nat.le_of_ble_eq_true rfl) rfl q1906 (Or.inl rfl) rfl trivial 16 rfl dJ4_rotateRight_71 74 rfl (fun m3 => ?_)
      refine s_goto C (off := 11) 85 dJ4_rotateRight_74 rfl ?_
      refine Sm_sub [1, 2] rfl ?_
      exact wJ4_rotateRight_b85 C hret h0 hin N _ _ _ _ _
    · refine s_aload_n C rfl 1 rfl dJ4_rotateRight_77 78 rfl ?_
      refine x_gr C 15 (RJ37, TJ37, 6) rfl 4 (Nat.le_of_ble_eq_true rfl) q1908 (Or.inl rfl) rfl 16 rfl dJ4_rotateRight_78 81 rfl (fun x6 => ?_)
      refine s_aload_n C rfl 2 rfl dJ4_rotateRight_81 82 rfl ?_
      refine x_pr C 15 (RJ37, TJ37, 6) rfl 2 (Nat.le_of_ble_eq_true rfl) rfl q1903 (Or.inl rfl) rfl trivial 16 rfl dJ4_rotateRight_82 85 rfl (fun m4 => ?_)
      refine Sm_sub [1, 2] rfl ?_
      exact wJ4_rotateRight_b85 C hret h0 hin N _ _ _ _ _
theorem wJ4_rotateRight {l : Launch} {g : GG} {E : Me_} (C : Cx_ l g E "java/util/TreeMap" cJ4_rotateRight 3 10) (hret : (eT_ E).sig.returnType = (Option.none : Option Jvm.ClassFile.FieldType)) (h0 : ∀ x ∈ (eC_ E).exceptionTable.toList, False) (hin : (eT_ E).name = "rotateRight") (N : Nat) : ∀ (m : Mm) (v0 : Option Nat) (v1 : Option Nat) (k n : Nat), Sm_ l g E 3 en_v (fJ4_rotateRight (gE_ g) N m v0 v1) k n 0 [(0, vr_ v0), (1, vr_ v1)] [] m := by
  intro m v0 v1 k n
  unfold fJ4_rotateRight
  refine s_aload_n C rfl 1 rfl dJ4_rotateRight_0 1 rfl ?_
  refine s_ifnull C dJ4_rotateRight_1 95 rfl 4 rfl (fun c_ => ?_) (fun c_ => ?_)
  · refine Sm_sub [] rfl ?_
    exact wJ4_rotateRight_b95 C hret h0 hin N _ _ _
  · refine s_aload_n C rfl 1 rfl dJ4_rotateRight_4 5 rfl ?_
    refine x_gr C 15 (RJ37, TJ37, 6) rfl 2 (Nat.le_of_ble_eq_true rfl) q1903 (Or.inl rfl) rfl 16 rfl dJ4_rotateRight_5 8 rfl (fun x1 => ?_)
    refine s_astore_n C rfl (Nat.le_of_ble_eq_true rfl) [0, 1] rfl rfl dJ4_rotateRight_8 9 rfl ?_
    refine s_aload_n C rfl 2 rfl dJ4_rotateRight_9 10 rfl ?_
    refine s_aload_n C rfl 0 rfl dJ4_rotateRight_10 11 rfl ?_
    refine x_gr C 15 (RJ37, TJ37, 6) rfl 3 (Nat.le_of_ble_eq_true rfl) q1906 (Or.inl rfl) rfl 16 rfl dJ4_rotateRight_11 14 rfl (fun x2 => ?_)
    refine x_pr C 15 (RJ37, TJ37, 6) rfl 2 (Nat.le_of_ble_eq_true rfl) rfl q1903 (Or.inl rfl) rfl trivial 16 rfl dJ4_rotateRight_14 17 rfl (fun m1 => ?_)
    refine s_aload_n C rfl 0 rfl dJ4_rotateRight_17 18 rfl ?_
    refine x_gr C 15 (RJ37, TJ37, 6) rfl 3 (Nat.le_of_ble_eq_true rfl) q1906 (Or.inl rfl) rfl 16 rfl dJ4_rotateRight_18 21 rfl (fun x3 => ?_)
    refine s_ifnull C dJ4_rotateRight_21 32 rfl 24 rfl (fun c_ => ?_) (fun c_ => ?_)
    · refine Sm_sub [1, 2, 0] rfl ?_
      exact wJ4_rotateRight_b32 C hret h0 hin N _ _ _ _ _ _
    · refine s_aload_n C rfl 0 rfl dJ4_rotateRight_24 25 rfl ?_
      refine x_gr C 15 (RJ37, TJ37, 6) rfl 3 (Nat.le_of_ble_eq_true rfl) q1906 (Or.inl rfl) rfl 16 rfl dJ4_rotateRight_25 28 rfl (fun x4 => ?_)
      refine s_aload_n C rfl 2 rfl dJ4_rotateRight_28 29 rfl ?_
      refine x_pr C 15 (RJ37, TJ37, 6) rfl 4 (Nat.le_of_ble_eq_true rfl) rfl q1908 (Or.inl rfl) rfl trivial 16 rfl dJ4_rotateRight_29 32 rfl (fun m2 => ?_)
      refine Sm_sub [1, 2, 0] rfl ?_
      exact wJ4_rotateRight_b32 C hret h0 hin N _ _ _ _ _ _
theorem hdJ4_rotateRight : ((⟨"java/util/TreeMap", "rotateRight", "(Ljava/util/TreeMap$Entry;)V"⟩ : MethodName)).cls ≠ "java/lang/invoke/MethodHandle" ∧ ((⟨"java/util/TreeMap", "rotateRight", "(Ljava/util/TreeMap$Entry;)V"⟩ : MethodName)).cls ≠ "java/lang/invoke/VarHandle" ∧ (parseMethodDescriptor ((⟨"java/util/TreeMap", "rotateRight", "(Ljava/util/TreeMap$Entry;)V"⟩ : MethodName)).desc).map (fun d => d.parameters.length) = some 1 := ⟨by decide +kernel, by decide +kernel, by decide +kernel⟩
theorem ctJ4_rotateRight {l : Launch} {g : GG} (hst : l.stackTraces = false) (N : Nat) (m : Mm) (v0 : Option Nat) (v1 : Option Nat) : ∀ v m' k n, fJ4_rotateRight (gE_ g) N m v0 v1 = some (v, m', k, n) → Ct_ l g (⟨"java/util/TreeMap", "rotateRight", "(Ljava/util/TreeMap$Entry;)V"⟩ : MethodName) (ws_ (⟨"java/util/TreeMap", "rotateRight", "(Ljava/util/TreeMap$Entry;)V"⟩ : MethodName) cJ4_rotateRight 3 (Option.none : Option Jvm.ClassFile.FieldType)) 10 [vr_ v0, vr_ v1] m (en_v v) m' k n :=
  Ct_of (by decide +kernel) rfl hst (Nat.le_of_ble_eq_true rfl) rfl (fun E C hret h0 hin => wJ4_rotateRight C hret h0 hin N m v0 v1 0 0)
theorem wJ4_rotateLeft_b95 {l : Launch} {g : GG} {E : Me_} (C : Cx_ l g E "java/util/TreeMap" cJ4_rotateLeft 3 10) (hret : (eT_ E).sig.returnType = (Option.none : Option Jvm.ClassFile.FieldType)) (h0 : ∀ x ∈ (eC_ E).exceptionTable.toList, False) (hin : (eT_ E).name = "rotateLeft") (N : Nat) : ∀ (m : Mm) (k n : Nat), Sm_ l g E 3 en_v (fJ4_rotateLeft_b95 (gE_ g) N m) k n 95 [] [] m := by
  intro m k n
  unfold fJ4_rotateLeft_b95
  exact x_vret C hret rfl dJ4_rotateLeft_95
theorem wJ4_rotateLeft_b85 {l : Launch} {g : GG} {E : Me_} (C : Cx_ l g E "java/util/TreeMap" cJ4_rotateLeft 3 10) (hret : (eT_ E).sig.returnType = (Option.none : Option Jvm.ClassFile.FieldType)) (h0 : ∀ x ∈ (eC_ E).exceptionTable.toList, False) (hin : (eT_ E).name = "rotateLeft") (N : Nat) : ∀ (m : Mm) (v1 : Option Nat) (v2 : Option Nat) (k n : Nat), Sm_ l g E 3 en_v (fJ4_rotateLeft_b85 (gE_ g) N m v1 v2) k n 85 [(1, vr_ v1), (2, vr_ v2)] [] m := by
  intro m v1 v2 k n
  unfold fJ4_rotateLeft_b85
  refine s_aload_n C rfl 1 rfl dJ4_rotateLeft_85 86 rfl ?_
  refine s_aload_n C rfl 0 rfl dJ4_rotateLeft_86 87 rfl ?_
  refine x_pr C 15 (RJ37, TJ37, 6) rfl 2 (Nat.le_of_ble_eq_true rfl) rfl q1903 (Or.inl rfl) rfl trivial 16 rfl dJ4_rotateLeft_87 90 rfl (fun m1 => ?_)
  refine s_aload_n C rfl 0 rfl dJ4_rotateLeft_90 91 rfl ?_
  refine s_aload_n C rfl 1 rfl dJ4_rotateLeft_91 92 rfl ?_
  refine x_pr C 15 (RJ37, TJ37, 6) rfl 4 (Nat.le_of_ble_eq_true rfl) rfl q1908 (Or.inl rfl) rfl trivial 16 rfl dJ4_rotateLeft_92 95 rfl (fun m2 => ?_)
  refine Sm_sub [] rfl ?_
  exact wJ4_rotateLeft_b95 C hret h0 hin N _ _ _
theorem wJ4_rotateLeft_b32 {l : Launch} {g : GG} {E : Me_} (C : Cx_ l g E "java/util/TreeMap" cJ4_rotateLeft 3 10) (hret : (eT_ E).sig.returnType = (Option.none : Option Jvm.ClassFile.FieldType)) (h0 : ∀ x ∈ (eC_ E).exceptionTable.toList, False) (hin : (eT_ E).name = "rotateLeft") (N : Nat) : ∀ (m : Mm) (v0 : Option Nat) (v1 : Option Nat) (v2 : Option Nat) (k n : Nat), Sm_ l g E 3 en_v (fJ4_rotateLeft_b32 (gE_ g) N m v0 v1 v2) k n 32 [(0, vr_ v0), (1, vr_ v1), (2, vr_ v2)] [] m := by
  intro m v0 v1 v2 k n
  unfold fJ4_rotateLeft_b32
  refine s_aload_n C rfl 2 rfl dJ4_rotateLeft_32 33 rfl ?_
  refine s_aload_n C rfl 1 rfl dJ4_rotateLeft_33 34 rfl ?_
  refine x_gr C 15 (RJ37, TJ37, 6) rfl 4 (Nat.le_of_ble_eq_true rfl) q1908 (Or.inl rfl) rfl 16 rfl dJ4_rotateLeft_34 37 rfl (fun x1 => ?_)
  refine x_pr C 15 (RJ37, TJ37, 6) rfl 4 (Nat.le_of_ble_eq_true rfl) rfl q1908 (Or.inl rfl) rfl trivial 16 rfl dJ4_rotateLeft_37 40 rfl (fun m1 => ?_)
  refine s_aload_n C rfl 1 rfl dJ4_rotateLeft_40 41 rfl ?_
  refine x_gr C 15 (RJ37, TJ37, 6) rfl 4 (Nat.le_of_ble_eq_true rfl) q1908 (Or.inl rfl) rfl 16 rfl dJ4_rotateLeft_41 44 rfl (fun x2 => ?_)
  refine s_ifnonnull C dJ4_rotateLeft_44 55 rfl 47 rfl (fun c_ => ?_) (fun c_ => ?_)
  · refine s_aload_n C rfl 0 rfl dJ4_rotateLeft_47 48 rfl ?_
    refine s_aload_n C rfl 2 rfl dJ4_rotateLeft_48 49 rfl ?_
    refine x_pr C 14 (RJ4, TJ4, 9) rfl 3 (Nat.le_of_ble_eq_true rfl) rfl q205 (Or.inl rfl) rfl trivial 15 rfl dJ4_rotateLeft_49 52 rfl (fun m2 => ?_)
    refine s_goto C (off := 33) 85 dJ4_rotateLeft_52 rfl ?_
    refine Sm_sub [1, 2] rfl ?_
    exact wJ4_rotateLeft_b85 C hret h0 hin N _ _ _ _ _
  · refine s_aload_n C rfl 1 rfl dJ4_rotateLeft_55 56 rfl ?_
    refine x_gr C 15 (RJ37, TJ37, 6) rfl 4 (Nat.le_of_ble_eq_true rfl) q1908 (Or.inl rfl) rfl 16 rfl dJ4_rotateLeft_56 59 rfl (fun x3 => ?_)
    refine x_gr C 15 (RJ37, TJ37, 6) rfl 2 (Nat.le_of_ble_eq_true rfl) q1903 (Or.inl rfl) rfl 16 rfl dJ4_rotateLeft_59 62 rfl (fun x4 => ?_)
    refine s_aload_n C rfl 1 rfl dJ4_rotateLeft_62 63 rfl ?_
    refine s_acmp_ne C dJ4_rotateLeft_63 77 rfl 66 rfl (fun c_ => ?_) (fun c_ => ?_)
    · refine s_aload_n C rfl 1 rfl dJ4_rotateLeft_66 67 rfl ?_
      refine x_gr C 15 (RJ37, TJ37, 6) rfl 4 (Nat.le_of_ble_eq_true rfl) q1908 (Or.inl rfl) rfl 16 rfl dJ4_rotateLeft_67 70 rfl (fun x5 => ?_)
      refine s_aload_n C rfl 2 rfl dJ4_rotateLeft_70 71 rfl ?_
      refine x_pr C 15 (RJ37, TJ37, 6) rfl 2 (Nat.le_of_ble_eq_true rfl) rfl q1903 (Or.inl rfl) rfl trivial 16 rfl dJ4_rotateLeft_71 74 rfl (fun m3 => ?_)
      refine s_goto C (off := 11) 85 dJ4_rotateLeft_74 rfl ?_
      refine Sm_sub [1, 2] rfl ?_
      exact wJ4_rotateLeft_b85 C hret h0 hin N _ _ _ _ _
    · refine s_aload_n C rfl 1 rfl dJ4_rotateLeft_77 78 rfl ?_
      refine x_gr C 15 (RJ37, TJ37, 6) rfl 4 (Nat.le_of_ble_eq_true rfl) q1908 (Or.inl rfl) rfl 16 rfl dJ4_rotateLeft_78 81 rfl (fun x6 => ?_)
      refine s_aload_n C rfl 2 rfl dJ4_rotateLeft_81 82 rfl ?_
      refine x_pr C 15 (RJ37, TJ37, 6) rfl 3 (Nat.le_of_ble_eq_true rfl) rfl q1906 (Or.inl rfl) rfl trivial 16 rfl dJ4_rotateLeft_82 85 rfl (fun m4 => ?_)
      refine Sm_sub [1, 2] rfl ?_
      exact wJ4_rotateLeft_b85 C hret h0 hin N _ _ _ _ _
theorem wJ4_rotateLeft {l : Launch} {g : GG} {E : Me_} (C : Cx_ l g E "java/util/TreeMap" cJ4_rotateLeft 3 10) (hret : (eT_ E).sig.returnType = (Option.none : Option Jvm.ClassFile.FieldType)) (h0 : ∀ x ∈ (eC_ E).exceptionTable.toList, False) (hin : (eT_ E).name = "rotateLeft") (N : Nat) : ∀ (m : Mm) (v0 : Option Nat) (v1 : Option Nat) (k n : Nat), Sm_ l g E 3 en_v (fJ4_rotateLeft (gE_ g) N m v0 v1) k n 0 [(0, vr_ v0), (1, vr_ v1)] [] m := by
  intro m v0 v1 k n
  unfold fJ4_rotateLeft
  refine s_aload_n C rfl 1 rfl dJ4_rotateLeft_0 1 rfl ?_
  refine s_ifnull C dJ4_rotateLeft_1 95 rfl 4 rfl (fun c_ => ?_) (fun c_ => ?_)
  · refine Sm_sub [] rfl ?_
    exact wJ4_rotateLeft_b95 C hret h0 hin N _ _ _
  · refine s_aload_n C rfl 1 rfl dJ4_rotateLeft_4 5 rfl ?_
    refine x_gr C 15 (RJ37, TJ37, 6) rfl 3 (Nat.le_of_ble_eq_true rfl) q1906 (Or.inl rfl) rfl 16 rfl dJ4_rotateLeft_5 8 rfl (fun x1 => ?_)
    refine s_astore_n C rfl (Nat.le_of_ble_eq_true rfl) [0, 1] rfl rfl dJ4_rotateLeft_8 9 rfl ?_
    refine s_aload_n C rfl 2 rfl dJ4_rotateLeft_9 10 rfl ?_
    refine s_aload_n C rfl 0 rfl dJ4_rotateLeft_10 11 rfl ?_
    refine x_gr C 15 (RJ37, TJ37, 6) rfl 2 (Nat.le_of_ble_eq_true rfl) q1903 (Or.inl rfl) rfl 16 rfl dJ4_rotateLeft_11 14 rfl (fun x2 => ?_)
    refine x_pr C 15 (RJ37, TJ37, 6) rfl 3 (Nat.le_of_ble_eq_true rfl) rfl q1906 (Or.inl rfl) rfl trivial 16 rfl dJ4_rotateLeft_14 17 rfl (fun m1 => ?_)
    refine s_aload_n C rfl 0 rfl dJ4_rotateLeft_17 18 rfl ?_
    refine x_gr C 15 (RJ37, TJ37, 6) rfl 2 (Nat.le_of_ble_eq_true rfl) q1903 (Or.inl rfl) rfl 16 rfl dJ4_rotateLeft_18 21 rfl (fun x3 => ?_)
    refine s_ifnull C dJ4_rotateLeft_21 32 rfl 24 rfl (fun c_ => ?_) (fun c_ => ?_)
    · refine Sm_sub [1, 2, 0] rfl ?_
      exact wJ4_rotateLeft_b32 C hret h0 hin N _ _ _ _ _ _
    · refine s_aload_n C rfl 0 rfl dJ4_rotateLeft_24 25 rfl ?_
      refine x_gr C 15 (RJ37, TJ37, 6) rfl 2 (Nat.le_of_ble_eq_true rfl) q1903 (Or.inl rfl) rfl 16 rfl dJ4_rotateLeft_25 28 rfl (fun x4 => ?_)
      refine s_aload_n C rfl 2 rfl dJ4_rotateLeft_28 29 rfl ?_
      refine x_pr C 15 (RJ37, TJ37, 6) rfl 4 (Nat.le_of_ble_eq_true rfl) rfl q1908 (Or.inl rfl) rfl trivial 16 rfl dJ4_rotateLeft_29 32 rfl (fun m2 => ?_)
      refine Sm_sub [1, 2, 0] rfl ?_
      exact wJ4_rotateLeft_b32 C hret h0 hin N _ _ _ _ _ _
theorem hdJ4_rotateLeft : ((⟨"java/util/TreeMap", "rotateLeft", "(Ljava/util/TreeMap$Entry;)V"⟩ : MethodName)).cls ≠ "java/lang/invoke/MethodHandle" ∧ ((⟨"java/util/TreeMap", "rotateLeft", "(Ljava/util/TreeMap$Entry;)V"⟩ : MethodName)).cls ≠ "java/lang/invoke/VarHandle" ∧ (parseMethodDescriptor ((⟨"java/util/TreeMap", "rotateLeft", "(Ljava/util/TreeMap$Entry;)V"⟩ : MethodName)).desc).map (fun d => d.parameters.length) = some 1 := ⟨by decide +kernel, by decide +kernel, by decide +kernel⟩
theorem ctJ4_rotateLeft {l : Launch} {g : GG} (hst : l.stackTraces = false) (N : Nat) (m : Mm) (v0 : Option Nat) (v1 : Option Nat) : ∀ v m' k n, fJ4_rotateLeft (gE_ g) N m v0 v1 = some (v, m', k, n) → Ct_ l g (⟨"java/util/TreeMap", "rotateLeft", "(Ljava/util/TreeMap$Entry;)V"⟩ : MethodName) (ws_ (⟨"java/util/TreeMap", "rotateLeft", "(Ljava/util/TreeMap$Entry;)V"⟩ : MethodName) cJ4_rotateLeft 3 (Option.none : Option Jvm.ClassFile.FieldType)) 10 [vr_ v0, vr_ v1] m (en_v v) m' k n :=
  Ct_of (by decide +kernel) rfl hst (Nat.le_of_ble_eq_true rfl) rfl (fun E C hret h0 hin => wJ4_rotateLeft C hret h0 hin N m v0 v1 0 0)
theorem wJ4_leftOf_b12 {l : Launch} {g : GG} {E : Me_} (C : Cx_ l g E "java/util/TreeMap" cJ4_leftOf 1 10) (hret : (eT_ E).sig.returnType = (Option.some (Jvm.ClassFile.FieldType.object "java/util/TreeMap$Entry"))) (h0 : ∀ x ∈ (eC_ E).exceptionTable.toList, False) (hin : (eT_ E).name = "leftOf") (N : Nat) : ∀ (m : Mm) (s0 : Option Nat) (k n : Nat), Sm_ l g E 1 en_r (fJ4_leftOf_b12 (gE_ g) N m s0) k n 12 [] [vr_ s0] m := by
  intro m s0 k n
  unfold fJ4_leftOf_b12
  exact x_aret C hret (Or.inl ⟨_, rfl⟩) rfl dJ4_leftOf_12
theorem wJ4_leftOf {l : Launch} {g : GG} {E : Me_} (C : Cx_ l g E "java/util/TreeMap" cJ4_leftOf 1 10) (hret : (eT_ E).sig.returnType = (Option.some (Jvm.ClassFile.FieldType.object "java/util/TreeMap$Entry"))) (h0 : ∀ x ∈ (eC_ E).exceptionTable.toList, False) (hin : (eT_ E).name = "leftOf") (N : Nat) : ∀ (m : Mm) (v0 : Option Nat) (k n : Nat), Sm_ l g E 1 en_r (fJ4_leftOf (gE_ g) N m v0) k n 0 [(0, vr_ v0)] [] m := by
  intro m v0 k n
  unfold fJ4_leftOf
  refine s_aload_n C rfl 0 rfl dJ4_leftOf_0 1 rfl ?_
  refine s_ifnonnull C dJ4_leftOf_1 8 rfl 4 rfl (fun c_ => ?_) (fun c_ => ?_)
  · refine s_null C dJ4_leftOf_4 5 rfl ?_
    refine s_goto C (off := 7) 12 dJ4_leftOf_5 rfl ?_
    refine Sm_sub [] rfl ?_
    exact wJ4_leftOf_b12 C hret h0 hin N _ _ _ _
  · refine s_aload_n C rfl 0 rfl dJ4_leftOf_8 9 rfl ?_
    refine x_gr C 15 (RJ37, TJ37, 6) rfl 2 (Nat.le_of_ble_eq_true rfl) q1903 (Or.inl rfl) rfl 16 rfl dJ4_leftOf_9 12 rfl (fun x1 => ?_)
    refine Sm_sub [] rfl ?_
    exact wJ4_leftOf_b12 C hret h0 hin N _ _ _ _
theorem hdJ4_leftOf : ((⟨"java/util/TreeMap", "leftOf", "(Ljava/util/TreeMap$Entry;)Ljava/util/TreeMap$Entry;"⟩ : MethodName)).cls ≠ "java/lang/invoke/MethodHandle" ∧ ((⟨"java/util/TreeMap", "leftOf", "(Ljava/util/TreeMap$Entry;)Ljava/util/TreeMap$Entry;"⟩ : MethodName)).cls ≠ "java/lang/invoke/VarHandle" ∧ (parseMethodDescriptor ((⟨"java/util/TreeMap", "leftOf", "(Ljava/util/TreeMap$Entry;)Ljava/util/TreeMap$Entry;"⟩ : MethodName)).desc).map (fun d => d.parameters.length) = some 1 := ⟨by decide +kernel, by decide +kernel, by decide +kernel⟩
theorem ctJ4_leftOf {l : Launch} {g : GG} (hst : l.stackTraces = false) (N : Nat) (m : Mm) (v0 : Option Nat) : ∀ v m' k n, fJ4_leftOf (gE_ g) N m v0 = some (v, m', k, n) → Ct_ l g (⟨"java/util/TreeMap", "leftOf", "(Ljava/util/TreeMap$Entry;)Ljava/util/TreeMap$Entry;"⟩ : MethodName) (ws_ (⟨"java/util/TreeMap", "leftOf", "(Ljava/util/TreeMap$Entry;)Ljava/util/TreeMap$Entry;"⟩ : MethodName) cJ4_leftOf 1 (Option.some (Jvm.ClassFile.FieldType.object "java/util/TreeMap$Entry"))) 10 [vr_ v0] m (en_r v) m' k n :=
  Ct_of (by decide +kernel) rfl hst (Nat.le_of_ble_eq_true rfl) rfl (fun E C hret h0 hin => wJ4_leftOf C hret h0 hin N m v0 0 0)
theorem wJ4_rightOf_b12 {l : Launch} {g : GG} {E : Me_} (C : Cx_ l g E "java/util/TreeMap" cJ4_rightOf 1 10) (hret : (eT_ E).sig.returnType = (Option.some (Jvm.ClassFile.FieldType.object "java/util/TreeMap$Entry"))) (h0 : ∀ x ∈ (eC_ E).exceptionTable.toList, False) (hin : (eT_ E).name = "rightOf") (N : Nat) : ∀ (m : Mm) (s0 : Option Nat) (k n : Nat), Sm_ l g E 1 en_r (fJ4_rightOf_b12 (gE_ g) N m s0) k n 12 [] [vr_ s0] m := by
  intro m s0 k n
  unfold fJ4_rightOf_b12
  exact x_aret C hret (Or.inl ⟨_, rfl⟩) rfl dJ4_rightOf_12
theorem wJ4_rightOf {l : Launch} {g : GG} {E : Me_} (C : Cx_ l g E "java/util/TreeMap" cJ4_rightOf 1 10) (hret : (eT_ E).sig.returnType = (Option.some (Jvm.ClassFile.FieldType.object "java/util/TreeMap$Entry"))) (h0 : ∀ x ∈ (eC_ E).exceptionTable.toList, False) (hin : (eT_ E).name = "rightOf") (N : Nat) : ∀ (m : Mm) (v0 : Option Nat) (k n : Nat), Sm_ l g E 1 en_r (fJ4_rightOf (gE_ g) N m v0) k n 0 [(0, vr_ v0)] [] m := by
  intro m v0 k n
  unfold fJ4_rightOf
  refine s_aload_n C rfl 0 rfl dJ4_rightOf_0 1 rfl ?_
  refine s_ifnonnull C dJ4_rightOf_1 8 rfl 4 rfl (fun c_ => ?_) (fun c_ => ?_)
  · refine s_null C dJ4_rightOf_4 5 rfl ?_
    refine s_goto C (off := 7) 12 dJ4_rightOf_5 rfl ?_
    refine Sm_sub [] rfl ?_
    exact wJ4_rightOf_b12 C hret h0 hin N _ _ _ _
  · refine s_aload_n C rfl 0 rfl dJ4_rightOf_8 9 rfl ?_
    refine x_gr C 15 (RJ37, TJ37, 6) rfl 3 (Nat.le_of_ble_eq_true rfl) q1906 (Or.inl rfl) rfl 16 rfl dJ4_rightOf_9 12 rfl (fun x1 => ?_)
    refine Sm_sub [] rfl ?_
    exact wJ4_rightOf_b12 C hret h0 hin N _ _ _ _
theorem hdJ4_rightOf : ((⟨"java/util/TreeMap", "rightOf", "(Ljava/util/TreeMap$Entry;)Ljava/util/TreeMap$Entry;"⟩ : MethodName)).cls ≠ "java/lang/invoke/MethodHandle" ∧ ((⟨"java/util/TreeMap", "rightOf", "(Ljava/util/TreeMap$Entry;)Ljava/util/TreeMap$Entry;"⟩ : MethodName)).cls ≠ "java/lang/invoke/VarHandle" ∧ (parseMethodDescriptor ((⟨"java/util/TreeMap", "rightOf", "(Ljava/util/TreeMap$Entry;)Ljava/util/TreeMap$Entry;"⟩ : MethodName)).desc).map (fun d => d.parameters.length) = some 1 := ⟨by decide +kernel, by decide +kernel, by decide +kernel⟩
theorem ctJ4_rightOf {l : Launch} {g : GG} (hst : l.stackTraces = false) (N : Nat) (m : Mm) (v0 : Option Nat) : ∀ v m' k n, fJ4_rightOf (gE_ g) N m v0 = some (v, m', k, n) → Ct_ l g (⟨"java/util/TreeMap", "rightOf", "(Ljava/util/TreeMap$Entry;)Ljava/util/TreeMap$Entry;"⟩ : MethodName) (ws_ (⟨"java/util/TreeMap", "rightOf", "(Ljava/util/TreeMap$Entry;)Ljava/util/TreeMap$Entry;"⟩ : MethodName) cJ4_rightOf 1 (Option.some (Jvm.ClassFile.FieldType.object "java/util/TreeMap$Entry"))) 10 [vr_ v0] m (en_r v) m' k n :=
  Ct_of (by decide +kernel) rfl hst (Nat.le_of_ble_eq_true rfl) rfl (fun E C hret h0 hin => wJ4_rightOf C hret h0 hin N m v0 0 0)
theorem wJ4_colorOf_b12 {l : Launch} {g : GG} {E : Me_} (C : Cx_ l g E "java/util/TreeMap" cJ4_colorOf 1 10) (hret : (eT_ E).sig.returnType = (Option.some Jvm.ClassFile.FieldType.boolean)) (h0 : ∀ x ∈ (eC_ E).exceptionTable.toList, False) (hin : (eT_ E).name = "colorOf") (N : Nat) : ∀ (m : Mm) (s0 : Int32) (k n : Nat), Sm_ l g E 1 en_i (fJ4_colorOf_b12 (gE_ g) N m s0) k n 12 [] [vi_ s0] m := by
  intro m s0 k n
  unfold fJ4_colorOf_b12
  exact x_zret C hret rfl dJ4_colorOf_12
theorem wJ4_colorOf {l : Launch} {g : GG} {E : Me_} (C : Cx_ l g E "java/util/TreeMap" cJ4_colorOf 1 10) (hret : (eT_ E).sig.returnType = (Option.some Jvm.ClassFile.FieldType.boolean)) (h0 : ∀ x ∈ (eC_ E).exceptionTable.toList, False) (hin : (eT_ E).name = "colorOf") (N : Nat) : ∀ (m : Mm) (v0 : Option Nat) (k n : Nat), Sm_ l g E 1 en_i (fJ4_colorOf (gE_ g) N m v0) k n 0 [(0, vr_ v0)] [] m := by
  intro m v0 k n
  unfold fJ4_colorOf
  refine s_aload_n C rfl 0 rfl dJ4_colorOf_0 1 rfl ?_
  refine s_ifnonnull C dJ4_colorOf_1 8 rfl 4 rfl (fun c_ => ?_) (fun c_ => ?_)
  · refine s_iconst C 1 rfl dJ4_colorOf_4 5 rfl ?_
    refine s_goto C (off := 7) 12 dJ4_colorOf_5 rfl ?_
    refine Sm_sub [] rfl ?_
    exact wJ4_colorOf_b12 C hret h0 hin N _ _ _ _
  · refine s_aload_n C rfl 0 rfl dJ4_colorOf_8 9 rfl ?_
    refine x_gi C 15 (RJ37, TJ37, 6) rfl 5 (Nat.le_of_ble_eq_true rfl) q1910 (Or.inl rfl) rfl 16 rfl dJ4_colorOf_9 12 rfl (fun x1 => ?_)
    refine Sm_sub [] rfl ?_
    exact wJ4_colorOf_b12 C hret h0 hin N _ _ _ _
theorem hdJ4_colorOf : ((⟨"java/util/TreeMap", "colorOf", "(Ljava/util/TreeMap$Entry;)Z"⟩ : MethodName)).cls ≠ "java/lang/invoke/MethodHandle" ∧ ((⟨"java/util/TreeMap", "colorOf", "(Ljava/util/TreeMap$Entry;)Z"⟩ : MethodName)).cls ≠ "java/lang/invoke/VarHandle" ∧ (parseMethodDescriptor ((⟨"java/util/TreeMap", "colorOf", "(Ljava/util/TreeMap$Entry;)Z"⟩ : MethodName)).desc).map (fun d => d.parameters.length) = some 1 := ⟨by decide +kernel, by decide +kernel, by decide +kernel⟩
theorem ctJ4_colorOf {l : Launch} {g : GG} (hst : l.stackTraces = false) (N : Nat) (m : Mm) (v0 : Option Nat) : ∀ v m' k n, fJ4_colorOf (gE_ g) N m v0 = some (v, m', k, n) → Ct_ l g (⟨"java/util/TreeMap", "colorOf", "(Ljava/util/TreeMap$Entry;)Z"⟩ : MethodName) (ws_ (⟨"java/util/TreeMap", "colorOf", "(Ljava/util/TreeMap$Entry;)Z"⟩ : MethodName) cJ4_colorOf 1 (Option.some Jvm.ClassFile.FieldType.boolean)) 10 [vr_ v0] m (en_i v) m' k n :=
  Ct_of (by decide +kernel) rfl hst (Nat.le_of_ble_eq_true rfl) rfl (fun E C hret h0 hin => wJ4_colorOf C hret h0 hin N m v0 0 0)
theorem wJ4_fixAfterInsertion_b148 {l : Launch} {g : GG} {E : Me_} (C : Cx_ l g E "java/util/TreeMap" cJ4_fixAfterInsertion 3 11) (hret : (eT_ E).sig.returnType = (Option.none : Option Jvm.ClassFile.FieldType)) (h0 : ∀ x ∈ (eC_ E).exceptionTable.toList, False) (hin : (eT_ E).name = "fixAfterInsertion") (N : Nat) {k5 : Mm → Option Nat → Option Nat → Rs (Unit)} (hk5 : ∀ (m : Mm) (v0 : Option Nat) (v1 : Option Nat) (k n : Nat), Sm_ l g E 3 en_v (k5 m v0 v1) k n 5 [(0, vr_ v0), (1, vr_ v1)] [] m) : ∀ (m : Mm) (v0 : Option Nat) (v1 : Option Nat) (k n : Nat), Sm_ l g E 3 en_v (fJ4_fixAfterInsertion_b148 (gE_ g) N k5 m v0 v1) k n 148 [(0, vr_ v0), (1, vr_ v1)] [] m := by
  intro m v0 v1 k n
  unfold fJ4_fixAfterInsertion_b148
  refine s_goto C (off := -143) 5 dJ4_fixAfterInsertion_148 rfl ?_
  exact hk5 _ _ _ _ _
theorem wJ4_fixAfterInsertion_b118 {l : Launch} {g : GG} {E : Me_} (C : Cx_ l g E "java/util/TreeMap" cJ4_fixAfterInsertion 3 11) (hret : (eT_ E).sig.returnType = (Option.none : Option Jvm.ClassFile.FieldType)) (h0 : ∀ x ∈ (eC_ E).exceptionTable.toList, False) (hin : (eT_ E).name = "fixAfterInsertion") (N : Nat) {k5 : Mm → Option Nat → Option Nat → Rs (Unit)} (hk5 : ∀ (m : Mm) (v0 : Option Nat) (v1 : Option Nat) (k n : Nat), Sm_ l g E 3 en_v (k5 m v0 v1) k n 5 [(0, vr_ v0), (1, vr_ v1)] [] m) : ∀ (m : Mm) (v0 : Option Nat) (v1 : Option Nat) (k n : Nat), Sm_ l g E 3 en_v (fJ4_fixAfterInsertion_b118 (gE_ g) N k5 m v0 v1) k n 118 [(0, vr_ v0), (1, vr_ v1)] [] m := by
  intro m v0 v1 k n
  unfold fJ4_fixAfterInsertion_b118
  refine s_aload_n C rfl 1 rfl dJ4_fixAfterInsertion_118 119 rfl ?_
  refine x_callS (enc := en_r) C 10 1 [vr_ v1] (ctJ4_parentOf C.2.2.2.2.2.2.2.2.1 N m v1) q1932 q1933 q87 q1934 hdJ4_parentOf (Nat.le_of_ble_eq_true rfl) (Nat.le_of_ble_eq_true rfl) rfl (Nat.le_of_ble_eq_true rfl) dJ4_fixAfterInsertion_119 122 rfl rfl hen_r (kk_r (fun x1 m1 k1 n1 => ?_)) (kx_n he_r)
  refine s_iconst C 1 rfl dJ4_fixAfterInsertion_122 123 rfl ?_
  refine x_callS (enc := en_v) C 10 2 [vr_ x1, vi_ 1] (ctJ4_setColor C.2.2.2.2.2.2.2.2.1 N m1 x1 1) q1944 q1945 q87 q1946 hdJ4_setColor (Nat.le_of_ble_eq_true rfl) (Nat.le_of_ble_eq_true rfl) rfl (Nat.le_of_ble_eq_true rfl) dJ4_fixAfterInsertion_123 126 rfl rfl hen_v (kk_v (fun m2 k1 n1 => ?_)) (kx_n he_v)
  refine s_aload_n C rfl 1 rfl dJ4_fixAfterInsertion_126 127 rfl ?_
  refine x_callS (enc := en_r) C 10 1 [vr_ v1] (ctJ4_parentOf C.2.2.2.2.2.2.2.2.1 N m2 v1) q1932 q1933 q87 q1934 hdJ4_parentOf (Nat.le_of_ble_eq_true rfl) (Nat.le_of_ble_eq_true rfl) rfl (Nat.le_of_ble_eq_true rfl) dJ4_fixAfterInsertion_127 130 rfl rfl hen_r (kk_r (fun x2 m3 k1 n1 => ?_)) (kx_n he_r)
  refine x_callS (enc := en_r) C 10 1 [vr_ x2] (ctJ4_parentOf C.2.2.2.2.2.2.2.2.1 N m3 x2) q1932 q1933 q87 q1934 hdJ4_parentOf (Nat.le_of_ble_eq_true rfl) (Nat.le_of_ble_eq_true rfl) rfl (Nat.le_of_ble_eq_true rfl) dJ4_fixAfterInsertion_130 133 rfl rfl hen_r (kk_r (fun x3 m4 k1 n1 => ?_)) (kx_n he_r)
  refine s_iconst C 0 rfl dJ4_fixAfterInsertion_133 134 rfl ?_
  refine x_callS (enc := en_v) C 10 2 [vr_ x3, vi_ 0] (ctJ4_setColor C.2.2.2.2.2.2.2.2.1 N m4 x3 0) q1944 q1945 q87 q1946 hdJ4_setColor (Nat.le_of_ble_eq_true rfl) (Nat.le_of_ble_eq_true rfl) rfl (Nat.le_of_ble_eq_true rfl) dJ4_fixAfterInsertion_134 137 rfl rfl hen_v (kk_v (fun m5 k1 n1 => ?_)) (kx_n he_v)
  refine s_aload_n C rfl 0 rfl dJ4_fixAfterInsertion_137 138 rfl ?_
  refine s_aload_n C rfl 1 rfl dJ4_fixAfterInsertion_138 139 rfl ?_
  refine x_callS (enc := en_r) C 10 1 [vr_ v1] (ctJ4_parentOf C.2.2.2.2.2.2.2.2.1 N m5 v1) q1932 q1933 q87 q1934 hdJ4_parentOf (Nat.le_of_ble_eq_true rfl) (Nat.le_of_ble_eq_true rfl) rfl (Nat.le_of_ble_eq_true rfl) dJ4_fixAfterInsertion_139 142 rfl rfl hen_r (kk_r (fun x4 m6 k1 n1 => ?_)) (kx_n he_r)
  refine x_callS (enc := en_r) C 10 1 [vr_ x4] (ctJ4_parentOf C.2.2.2.2.2.2.2.2.1 N m6 x4) q1932 q1933 q87 q1934 hdJ4_parentOf (Nat.le_of_ble_eq_true rfl) (Nat.le_of_ble_eq_true rfl) rfl (Nat.le_of_ble_eq_true rfl) dJ4_fixAfterInsertion_142 145 rfl rfl hen_r (kk_r (fun x5 m7 k1 n1 => ?_)) (kx_n he_r)
  refine x_ck (fun hb_ hb0_ => ?_)
  refine x_callV (enc := en_v) C 10 1 [vr_ x5] 15 (ctJ4_rotateRight C.2.2.2.2.2.2.2.2.1 N m7 v0 x5) hb_ hb0_ rfl rfl q1951 q1953 qs20 q87 q1954 hdJ4_rotateRight (Nat.le_of_ble_eq_true rfl) (Nat.le_of_ble_eq_true rfl) rfl (Nat.le_of_ble_eq_true rfl) dJ4_fixAfterInsertion_145 148 rfl rfl hen_v (kk_v (fun m8 k1 n1 => ?_)) (kx_n he_v)
  exact wJ4_fixAfterInsertion_b148 C hret h0 hin N hk5 _ _ _ _ _
theorem wJ4_fixAfterInsertion_b255 {l : Launch} {g : GG} {E : Me_} (C : Cx_ l g E "java/util/TreeMap" cJ4_fixAfterInsertion 3 11) (hret : (eT_ E).sig.returnType = (Option.none : Option Jvm.ClassFile.FieldType)) (h0 : ∀ x ∈ (eC_ E).exceptionTable.toList, False) (hin : (eT_ E).name = "fixAfterInsertion") (N : Nat) {k5 : Mm → Option Nat → Option Nat → Rs (Unit)} (hk5 : ∀ (m : Mm) (v0 : Option Nat) (v1 : Option Nat) (k n : Nat), Sm_ l g E 3 en_v (k5 m v0 v1) k n 5 [(0, vr_ v0), (1, vr_ v1)] [] m) : ∀ (m : Mm) (v0 : Option Nat) (v1 : Option Nat) (k n : Nat), Sm_ l g E 3 en_v (fJ4_fixAfterInsertion_b255 (gE_ g) N k5 m v0 v1) k n 255 [(0, vr_ v0), (1, vr_ v1)] [] m := by
  intro m v0 v1 k n
  unfold fJ4_fixAfterInsertion_b255
  refine s_goto C (off := -250) 5 dJ4_fixAfterInsertion_255 rfl ?_
  exact hk5 _ _ _ _ _
theorem wJ4_fixAfterInsertion_b225 {l : Launch} {g : GG} {E : Me_} (C : Cx_ l g E "java/util/TreeMap" cJ4_fixAfterInsertion 3 11) (hret : (eT_ E).sig.returnType = (Option.none : Option Jvm.ClassFile.FieldType)) (h0 : ∀ x ∈ (eC_ E).exceptionTable.toList, False) (hin : (eT_ E).name = "fixAfterInsertion") (N : Nat) {k5 : Mm → Option Nat → Option Nat → Rs (Unit)} (hk5 : ∀ (m : Mm) (v0 : Option Nat) (v1 : Option Nat) (k n : Nat), Sm_ l g E 3 en_v (k5 m v0 v1) k n 5 [(0, vr_ v0), (1, vr_ v1)] [] m) : ∀ (m : Mm) (v0 : Option Nat) (v1 : Option Nat) (k n : Nat), Sm_ l g E 3 en_v (fJ4_fixAfterInsertion_b225 (gE_ g) N k5 m v0 v1) k n 225 [(0, vr_ v0), (1, vr_ v1)] [] m := by
  intro m v0 v1 k n
  unfold fJ4_fixAfterInsertion_b225
  refine s_aload_n C rfl 1 rfl dJ4_fixAfterInsertion_225 226 rfl ?_
  refine x_callS (enc := en_r) C 10 1 [vr_ v1] (ctJ4_parentOf C.2.2.2.2.2.2.2.2.1 N m v1) q1932 q1933 q87 q1934 hdJ4_parentOf (Nat.le_of_ble_eq_true rfl) (Nat.le_of_ble_eq_true rfl) rfl (Nat.le_of_ble_eq_true rfl) dJ4_fixAfterInsertion_226 229 rfl rfl hen_r (kk_r (fun x1 m1 k1 n1 => ?_)) (kx_n he_r)
  refine s_iconst C 1 rfl dJ4_fixAfterInsertion_229 230 rfl ?_
  refine x_callS (enc := en_v) C 10 2 [vr_ x1, vi_ 1] (ctJ4_setColor C.2.2.2.2.2.2.2.2.1 N m1 x1 1) q1944 q1945 q87 q1946 hdJ4_setColor (Nat.le_of_ble_eq_true rfl) (Nat.le_of_ble_eq_true rfl) rfl (Nat.le_of_ble_eq_true rfl) dJ4_fixAfterInsertion_230 233 rfl rfl hen_v (kk_v (fun m2 k1 n1 => ?_)) (kx_n he_v)
  refine s_aload_n C rfl 1 rfl dJ4_fixAfterInsertion_233 234 rfl ?_
  refine x_callS (enc := en_r) C 10 1 [vr_ v1] (ctJ4_parentOf C.2.2.2.2.2.2.2.2.1 N m2 v1) q1932 q1933 q87 q1934 hdJ4_parentOf (Nat.le_of_ble_eq_true rfl) (Nat.le_of_ble_eq_true rfl) rfl (Nat.le_of_ble_eq_true rfl) dJ4_fixAfterInsertion_234 237 rfl rfl hen_r (kk_r (fun x2 m3 k1 n1 => ?_)) (kx_n he_r)
  refine x_callS (enc := en_r) C 10 1 [vr_ x2] (ctJ4_parentOf C.2.2.2.2.2.2.2.2.1 N m3 x2) q1932 q1933 q87 q1934 hdJ4_parentOf (Nat.le_of_ble_eq_true rfl) (Nat.le_of_ble_eq_true rfl) rfl (Nat.le_of_ble_eq_true rfl) dJ4_fixAfterInsertion_237 240 rfl rfl hen_r (kk_r (fun x3 m4 k1 n1 => ?_)) (kx_n he_r)
  refine s_iconst C 0 rfl dJ4_fixAfterInsertion_240 241 rfl ?_
  refine x_callS (enc := en_v) C 10 2 [vr_ x3, vi_ 0] (ctJ4_setColor C.2.2.2.2.2.2.2.2.1 N m4 x3 0) q1944 q1945 q87 q1946 hdJ4_setColor (Nat.le_of_ble_eq_true rfl) (Nat.le_of_ble_eq_true rfl) rfl (Nat.le_of_ble_eq_true rfl) dJ4_fixAfterInsertion_241 244 rfl rfl hen_v (kk_v (fun m5 k1 n1 => ?_)) (kx_n he_v)
  refine s_aload_n C rfl 0 rfl dJ4_fixAfterInsertion_244 245 rfl ?_
  refine s_aload_n C rfl 1 rfl dJ4_fixAfterInsertion_245 246 rfl ?_
  refine x_callS (enc := en_r) C 10 1 [vr_ v1] (ctJ4_parentOf C.2.2.2.2.2.2.2.2.1 N m5 v1) q1932 q1933 q87 q1934 hdJ4_parentOf (Nat.le_of_ble_eq_true rfl) (Nat.le_of_ble_eq_true rfl) rfl (Nat.le_of_ble_eq_true rfl) dJ4_fixAfterInsertion_246 249 rfl rfl hen_r (kk_r (fun x4 m6 k1 n1 => ?_)) (kx_n he_r)
  refine x_callS (enc := en_r) C 10 1 [vr_ x4] (ctJ4_parentOf C.2.2.2.2.2.2.2.2.1 N m6 x4) q1932 q1933 q87 q1934 hdJ4_parentOf (Nat.le_of_ble_eq_true rfl) (Nat.le_of_ble_eq_true rfl) rfl (Nat.le_of_ble_eq_true rfl) dJ4_fixAfterInsertion_249 252 rfl rfl hen_r (kk_r (fun x5 m7 k1 n1 => ?_)) (kx_n he_r)
  refine x_ck (fun hb_ hb0_ => ?_)
  refine x_callV (enc := en_v) C 10 1 [vr_ x5] 15 (ctJ4_rotateLeft C.2.2.2.2.2.2.2.2.1 N m7 v0 x5) hb_ hb0_ rfl rfl q1947 q1949 qs19 q87 q1950 hdJ4_rotateLeft (Nat.le_of_ble_eq_true rfl) (Nat.le_of_ble_eq_true rfl) rfl (Nat.le_of_ble_eq_true rfl) dJ4_fixAfterInsertion_252 255 rfl rfl hen_v (kk_v (fun m8 k1 n1 => ?_)) (kx_n he_v)
  exact wJ4_fixAfterInsertion_b255 C hret h0 hin N hk5 _ _ _ _ _
theorem wJ4_fixAfterInsertion_b258 {l : Launch} {g : GG} {E : Me_} (C : Cx_ l g E "java/util/TreeMap" cJ4_fixAfterInsertion 3 11) (hret : (eT_ E).sig.returnType = (Option.none : Option Jvm.ClassFile.FieldType)) (h0 : ∀ x ∈ (eC_ E).exceptionTable.toList, False) (hin : (eT_ E).name = "fixAfterInsertion") (N : Nat) : ∀ (m : Mm) (v0 : Option Nat) (k n : Nat), Sm_ l g E 3 en_v (fJ4_fixAfterInsertion_b258 (gE_ g) N m v0) k n 258 [(0, vr_ v0)] [] m := by
  intro m v0 k n
  unfold fJ4_fixAfterInsertion_b258
  refine s_aload_n C rfl 0 rfl dJ4_fixAfterInsertion_258 259 rfl ?_
  refine x_gr C 14 (RJ4, TJ4, 9) rfl 3 (Nat.le_of_ble_eq_true rfl) q205 (Or.inl rfl) rfl 15 rfl dJ4_fixAfterInsertion_259 262 rfl (fun x1 => ?_)
  refine s_iconst C 1 rfl dJ4_fixAfterInsertion_262 263 rfl ?_
  refine x_pz C 15 (RJ37, TJ37, 6) rfl 5 (Nat.le_of_ble_eq_true rfl) rfl q1910 (Or.inl rfl) rfl (Or.inl rfl) 16 rfl dJ4_fixAfterInsertion_263 266 rfl (fun m1 => ?_)
  exact x_vret C hret rfl dJ4_fixAfterInsertion_266
theorem wJ4_fixAfterInsertion_b5 {l : Launch} {g : GG} {E : Me_} (C : Cx_ l g E "java/util/TreeMap" cJ4_fixAfterInsertion 3 11) (hret : (eT_ E).sig.returnType = (Option.none : Option Jvm.ClassFile.FieldType)) (h0 : ∀ x ∈ (eC_ E).exceptionTable.toList, False) (hin : (eT_ E).name = "fixAfterInsertion") (N : Nat) : ∀ (F : Nat) (m : Mm) (v0 : Option Nat) (v1 : Option Nat) (k n : Nat), Sm_ l g E 3 en_v (fJ4_fixAfterInsertion_b5 (gE_ g) N F m v0 v1) k n 5 [(0, vr_ v0), (1, vr_ v1)] [] m := by
  intro F
  induction F with
  | zero => intros; exact Sm_none
  | succ F ih =>
    intro m v0 v1 k n
    unfold fJ4_fixAfterInsertion_b5
    refine s_aload_n C rfl 1 rfl dJ4_fixAfterInsertion_5 6 rfl ?_
    refine s_ifnull C dJ4_fixAfterInsertion_6 258 rfl 9 rfl (fun c_ => ?_) (fun c_ => ?_)
    · refine Sm_sub [0] rfl ?_
      exact wJ4_fixAfterInsertion_b258 C hret h0 hin N _ _ _ _
    · refine s_aload_n C rfl 1 rfl dJ4_fixAfterInsertion_9 10 rfl ?_
      refine s_aload_n C rfl 0 rfl dJ4_fixAfterInsertion_10 11 rfl ?_
      refine x_gr C 14 (RJ4, TJ4, 9) rfl 3 (Nat.le_of_ble_eq_true rfl) q205 (Or.inl rfl) rfl 15 rfl dJ4_fixAfterInsertion_11 14 rfl (fun x1 => ?_)
      refine s_acmp_eq C dJ4_fixAfterInsertion_14 258 rfl 17 rfl (fun c_ => ?_) (fun c_ => ?_)
      · refine Sm_sub [0] rfl ?_
        exact wJ4_fixAfterInsertion_b258 C hret h0 hin N _ _ _ _
      · refine s_aload_n C rfl 1 rfl dJ4_fixAfterInsertion_17 18 rfl ?_
        refine x_gr C 15 (RJ37, TJ37, 6) rfl 4 (Nat.le_of_ble_eq_true rfl) q1908 (Or.inl rfl) rfl 16 rfl dJ4_fixAfterInsertion_18 21 rfl (fun x2 => ?_)
        refine x_gi C 15 (RJ37, TJ37, 6) rfl 5 (Nat.le_of_ble_eq_true rfl) q1910 (Or.inl rfl) rfl 16 rfl dJ4_fixAfterInsertion_21 24 rfl (fun x3 => ?_)
        refine s_if_ne C dJ4_fixAfterInsertion_24 258 rfl 27 rfl (fun c_ => ?_) (fun c_ => ?_)
        · refine s_aload_n C rfl 1 rfl dJ4_fixAfterInsertion_27 28 rfl ?_
          refine x_callS (enc := en_r) C 10 1 [vr_ v1] (ctJ4_parentOf C.2.2.2.2.2.2.2.2.1 N m v1) q1932 q1933 q87 q1934 hdJ4_parentOf (Nat.le_of_ble_eq_true rfl) (Nat.le_of_ble_eq_true rfl) rfl (Nat.le_of_ble_eq_true rfl) dJ4_fixAfterInsertion_28 31 rfl rfl hen_r (kk_r (fun x4 m1 k1 n1 => ?_)) (kx_n he_r)
          refine s_aload_n C rfl 1 rfl dJ4_fixAfterInsertion_31 32 rfl ?_
          refine x_callS (enc := en_r) C 10 1 [vr_ v1] (ctJ4_parentOf C.2.2.2.2.2.2.2.2.1 N m1 v1) q1932 q1933 q87 q1934 hdJ4_parentOf (Nat.le_of_ble_eq_true rfl) (Nat.le_of_ble_eq_true rfl) rfl (Nat.le_of_ble_eq_true rfl) dJ4_fixAfterInsertion_32 35 rfl rfl hen_r (kk_r (fun x5 m2 k1 n1 => ?_)) (kx_n he_r)
          refine x_callS (enc := en_r) C 10 1 [vr_ x5] (ctJ4_parentOf C.2.2.2.2.2.2.2.2.1 N m2 x5) q1932 q1933 q87 q1934 hdJ4_parentOf (Nat.le_of_ble_eq_true rfl) (Nat.le_of_ble_eq_true rfl) rfl (Nat.le_of_ble_eq_true rfl) dJ4_fixAfterInsertion_35 38 rfl rfl hen_r (kk_r (fun x6 m3 k1 n1 => ?_)) (kx_n he_r)
          refine x_callS (enc := en_r) C 10 1 [vr_ x6] (ctJ4_leftOf C.2.2.2.2.2.2.2.2.1 N m3 x6) q1935 q1936 q87 q1937 hdJ4_leftOf (Nat.le_of_ble_eq_true rfl) (Nat.le_of_ble_eq_true rfl) rfl (Nat.le_of_ble_eq_true rfl) dJ4_fixAfterInsertion_38 41 rfl rfl hen_r (kk_r (fun x7 m4 k1 n1 => ?_)) (kx_n he_r)
          refine s_acmp_ne C dJ4_fixAfterInsertion_41 151 rfl 44 rfl (fun c_ => ?_) (fun c_ => ?_)
          · refine s_aload_n C rfl 1 rfl dJ4_fixAfterInsertion_44 45 rfl ?_
            refine x_callS (enc := en_r) C 10 1 [vr_ v1] (ctJ4_parentOf C.2.2.2.2.2.2.2.2.1 N m4 v1) q1932 q1933 q87 q1934 hdJ4_parentOf (Nat.le_of_ble_eq_true rfl) (Nat.le_of_ble_eq_true rfl) rfl (Nat.le_of_ble_eq_true rfl) dJ4_fixAfterInsertion_45 48 rfl rfl hen_r (kk_r (fun x8 m5 k1 n1 => ?_)) (kx_n he_r)
            refine x_callS (enc := en_r) C 10 1 [vr_ x8] (ctJ4_parentOf C.2.2.2.2.2.2.2.2.1 N m5 x8) q1932 q1933 q87 q1934 hdJ4_parentOf (Nat.le_of_ble_eq_true rfl) (Nat.le_of_ble_eq_true rfl) rfl (Nat.le_of_ble_eq_true rfl) dJ4_fixAfterInsertion_48 51 rfl rfl hen_r (kk_r (fun x9 m6 k1 n1 => ?_)) (kx_n he_r)
            refine x_callS (enc := en_r) C 10 1 [vr_ x9] (ctJ4_rightOf C.2.2.2.2.2.2.2.2.1 N m6 x9) q1938 q1939 q87 q1940 hdJ4_rightOf (Nat.le_of_ble_eq_true rfl) (Nat.le_of_ble_eq_true rfl) rfl (Nat.le_of_ble_eq_true rfl) dJ4_fixAfterInsertion_51 54 rfl rfl hen_r (kk_r (fun x10 m7 k1 n1 => ?_)) (kx_n he_r)
            refine s_astore_n C rfl (Nat.le_of_ble_eq_true rfl) [0, 1] rfl rfl dJ4_fixAfterInsertion_54 55 rfl ?_
            refine s_aload_n C rfl 0 rfl dJ4_fixAfterInsertion_55 56 rfl ?_
            refine x_callS (enc := en_i) C 10 1 [vr_ x10] (ctJ4_colorOf C.2.2.2.2.2.2.2.2.1 N m7 x10) q1941 q1942 q87 q1943 hdJ4_colorOf (Nat.le_of_ble_eq_true rfl) (Nat.le_of_ble_eq_true rfl) rfl (Nat.le_of_ble_eq_true rfl) dJ4_fixAfterInsertion_56 59 rfl rfl hen_i (kk_i (fun x11 m8 k1 n1 => ?_)) (kx_n he_i)
            refine s_if_ne C dJ4_fixAfterInsertion_59 97 rfl 62 rfl (fun c_ => ?_) (fun c_ => ?_)
            · refine s_aload_n C rfl 2 rfl dJ4_fixAfterInsertion_62 63 rfl ?_
              refine x_callS (enc := en_r) C 10 1 [vr_ v1] (ctJ4_parentOf C.2.2.2.2.2.2.2.2.1 N m8 v1) q1932 q1933 q87 q1934 hdJ4_parentOf (Nat.le_of_ble_eq_true rfl) (Nat.le_of_ble_eq_true rfl) rfl (Nat.le_of_ble_eq_true rfl) dJ4_fixAfterInsertion_63 66 rfl rfl hen_r (kk_r (fun x12 m9 k1 n1 => ?_)) (kx_n he_r)
              refine s_iconst C 1 rfl dJ4_fixAfterInsertion_66 67 rfl ?_
              refine x_callS (enc := en_v) C 10 2 [vr_ x12, vi_ 1] (ctJ4_setColor C.2.2.2.2.2.2.2.2.1 N m9 x12 1) q1944 q1945 q87 q1946 hdJ4_setColor (Nat.le_of_ble_eq_true rfl) (Nat.le_of_ble_eq_true rfl) rfl (Nat.le_of_ble_eq_true rfl) dJ4_fixAfterInsertion_67 70 rfl rfl hen_v (kk_v (fun m10 k1 n1 => ?_)) (kx_n he_v)
              refine s_aload_n C rfl 0 rfl dJ4_fixAfterInsertion_70 71 rfl ?_
              refine s_iconst C 1 rfl dJ4_fixAfterInsertion_71 72 rfl ?_
              refine x_callS (enc := en_v) C 10 2 [vr_ x10, vi_ 1] (ctJ4_setColor C.2.2.2.2.2.2.2.2.1 N m10 x10 1) q1944 q1945 q87 q1946 hdJ4_setColor (Nat.le_of_ble_eq_true rfl) (Nat.le_of_ble_eq_true rfl) rfl (Nat.le_of_ble_eq_true rfl) dJ4_fixAfterInsertion_72 75 rfl rfl hen_v (kk_v (fun m11 k1 n1 => ?_)) (kx_n he_v)
              refine s_aload_n C rfl 2 rfl dJ4_fixAfterInsertion_75 76 rfl ?_
              refine x_callS (enc := en_r) C 10 1 [vr_ v1] (ctJ4_parentOf C.2.2.2.2.2.2.2.2.1 N m11 v1) q1932 q1933 q87 q1934 hdJ4_parentOf (Nat.le_of_ble_eq_true rfl) (Nat.le_of_ble_eq_true rfl) rfl (Nat.le_of_ble_eq_true rfl) dJ4_fixAfterInsertion_76 79 rfl rfl hen_r (kk_r (fun x13 m12 k1 n1 => ?_)) (kx_n he_r)
              refine x_callS (enc := en_r) C 10 1 [vr_ x13] (ctJ4_parentOf C.2.2.2.2.2.2.2.2.1 N m12 x13) q1932 q1933 q87 q1934 hdJ4_parentOf (Nat.le_of_ble_eq_true rfl) (Nat.le_of_ble_eq_true rfl) rfl (Nat.le_of_ble_eq_true rfl) dJ4_fixAfterInsertion_79 82 rfl rfl hen_r (kk_r (fun x14 m13 k1 n1 => ?_)) (kx_n he_r)
              refine s_iconst C 0 rfl dJ4_fixAfterInsertion_82 83 rfl ?_
              refine x_callS (enc := en_v) C 10 2 [vr_ x14, vi_ 0] (ctJ4_setColor C.2.2.2.2.2.2.2.2.1 N m13 x14 0) q1944 q1945 q87 q1946 hdJ4_setColor (Nat.le_of_ble_eq_true rfl) (Nat.le_of_ble_eq_true rfl) rfl (Nat.le_of_ble_eq_true rfl) dJ4_fixAfterInsertion_83 86 rfl rfl hen_v (kk_v (fun m14 k1 n1 => ?_)) (kx_n he_v)
              refine s_aload_n C rfl 2 rfl dJ4_fixAfterInsertion_86 87 rfl ?_
              refine x_callS (enc := en_r) C 10 1 [vr_ v1] (ctJ4_parentOf C.2.2.2.2.2.2.2.2.1 N m14 v1) q1932 q1933 q87 q1934 hdJ4_parentOf (Nat.le_of_ble_eq_true rfl) (Nat.le_of_ble_eq_true rfl) rfl (Nat.le_of_ble_eq_true rfl) dJ4_fixAfterInsertion_87 90 rfl rfl hen_r (kk_r (fun x15 m15 k1 n1 => ?_)) (kx_n he_r)
              refine x_callS (enc := en_r) C 10 1 [vr_ x15] (ctJ4_parentOf C.2.2.2.2.2.2.2.2.1 N m15 x15) q1932 q1933 q87 q1934 hdJ4_parentOf (Nat.le_of_ble_eq_true rfl) (Nat.le_of_ble_eq_true rfl) rfl (Nat.le_of_ble_eq_true rfl) dJ4_fixAfterInsertion_90 93 rfl rfl hen_r (kk_r (fun x16 m16 k1 n1 => ?_)) (kx_n he_r)
              refine s_astore_n C rfl (Nat.le_of_ble_eq_true rfl) [1] rfl rfl dJ4_fixAfterInsertion_93 94 rfl ?_
              refine s_goto C (off := 54) 148 dJ4_fixAfterInsertion_94 rfl ?_
              refine Sm_sub [1, 0] rfl ?_
              exact wJ4_fixAfterInsertion_b148 C hret h0 hin N (fun m v0 v1 k n => ih m v0 v1 k n) _ _ _ _ _
            · refine s_aload_n C rfl 2 rfl dJ4_fixAfterInsertion_97 98 rfl ?_
              refine s_aload_n C rfl 2 rfl dJ4_fixAfterInsertion_98 99 rfl ?_
              refine x_callS (enc := en_r) C 10 1 [vr_ v1] (ctJ4_parentOf C.2.2.2.2.2.2.2.2.1 N m8 v1) q1932 q1933 q87 q1934 hdJ4_parentOf (Nat.le_of_ble_eq_true rfl) (Nat.le_of_ble_eq_true rfl) rfl (Nat.le_of_ble_eq_true rfl) dJ4_fixAfterInsertion_99 102 rfl rfl hen_r (kk_r (fun x17 m17 k1 n1 => ?_)) (kx_n he_r)
              refine x_callS (enc := en_r) C 10 1 [vr_ x17] (ctJ4_rightOf C.2.2.2.2.2.2.2.2.1 N m17 x17) q1938 q1939 q87 q1940 hdJ4_rightOf (Nat.le_of_ble_eq_true rfl) (Nat.le_of_ble_eq_true rfl) rfl (Nat.le_of_ble_eq_true rfl) dJ4_fixAfterInsertion_102 105 rfl rfl hen_r (kk_r (fun x18 m18 k1 n1 => ?_)) (kx_n he_r)
              refine s_acmp_ne C dJ4_fixAfterInsertion_105 118 rfl 108 rfl (fun c_ => ?_) (fun c_ => ?_)
              · refine s_aload_n C rfl 2 rfl dJ4_fixAfterInsertion_108 109 rfl ?_
                refine x_callS (enc := en_r) C 10 1 [vr_ v1] (ctJ4_parentOf C.2.2.2.2.2.2.2.2.1 N m18 v1) q1932 q1933 q87 q1934 hdJ4_parentOf (Nat.le_of_ble_eq_true rfl) (Nat.le_of_ble_eq_true rfl) rfl (Nat.le_of_ble_eq_true rfl) dJ4_fixAfterInsertion_109 112 rfl rfl hen_r (kk_r (fun x19 m19 k1 n1 => ?_)) (kx_n he_r)
                refine s_astore_n C rfl (Nat.le_of_ble_eq_true rfl) [1] rfl rfl dJ4_fixAfterInsertion_112 113 rfl ?_
                refine s_aload_n C rfl 1 rfl dJ4_fixAfterInsertion_113 114 rfl ?_
                refine s_aload_n C rfl 0 rfl dJ4_fixAfterInsertion_114 115 rfl ?_
                refine x_ck (fun hb_ hb0_ => ?_)
                refine x_callV (enc := en_v) C 10 1 [vr_ x19] 15 (ctJ4_rotateLeft C.2.2.2.2.2.2.2.2.1 N m19 v0 x19) hb_ hb0_ rfl rfl q1947 q1949 qs19 q87 q1950 hdJ4_rotateLeft (Nat.le_of_ble_eq_true rfl) (Nat.le_of_ble_eq_true rfl) rfl (Nat.le_of_ble_eq_true rfl) dJ4_fixAfterInsertion_115 118 rfl rfl hen_v (kk_v (fun m20 k1 n1 => ?_)) (kx_n he_v)
                refine Sm_sub [1, 0] rfl ?_
                exact wJ4_fixAfterInsertion_b118 C hret h0 hin N (fun m v0 v1 k n => ih m v0 v1 k n) _ _ _ _ _
              · refine Sm_sub [1, 2] rfl ?_
                exact wJ4_fixAfterInsertion_b118 C hret h0 hin N (fun m v0 v1 k n => ih m v0 v1 k n) _ _ _ _ _
          · refine s_aload_n C rfl 1 rfl dJ4_fixAfterInsertion_151 152 rfl ?_
            refine x_callS (enc := en_r) C 10 1 [vr_ v1] (ctJ4_parentOf C.2.2.2.2.2.2.2.2.1 N m4 v1) q1932 q1933 q87 q1934 hdJ4_parentOf (Nat.le_of_ble_eq_true rfl) (Nat.le_of_ble_eq_true rfl) rfl (Nat.le_of_ble_eq_true rfl) dJ4_fixAfterInsertion_152 155 rfl rfl hen_r (kk_r (fun x20 m21 k1 n1 => ?_)) (kx_n he_r)
            refine x_callS (enc := en_r) C 10 1 [vr_ x20] (ctJ4_parentOf C.2.2.2.2.2.2.2.2.1 N m21 x20) q1932 q1933 q87 q1934 hdJ4_parentOf (Nat.le_of_ble_eq_true rfl) (Nat.le_of_ble_eq_true rfl) rfl (Nat.le_of_ble_eq_true rfl) dJ4_fixAfterInsertion_155 158 rfl rfl hen_r (kk_r (fun x21 m22 k1 n1 => ?_)) (kx_n he_r)
            refine x_callS (enc := en_r) C 10 1 [vr_ x21] (ctJ4_leftOf C.2.2.2.2.2.2.2.2.1 N m22 x21) q1935 q1936 q87 q1937 hdJ4_leftOf (Nat.le_of_ble_eq_true rfl) (Nat.le_of_ble_eq_true rfl) rfl (Nat.le_of_ble_eq_true rfl) dJ4_fixAfterInsertion_158 161 rfl rfl hen_r (kk_r (fun x22 m23 k1 n1 => ?_)) (kx_n he_r)
            refine s_astore_n C rfl (Nat.le_of_ble_eq_true rfl) [0, 1] rfl rfl dJ4_fixAfterInsertion_161 162 rfl ?_
            refine s_aload_n C rfl 0 rfl dJ4_fixAfterInsertion_162 163 rfl ?_
            refine x_callS (enc := en_i) C 10 1 [vr_ x22] (ctJ4_colorOf C.2.2.2.2.2.2.2.2.1 N m23 x22) q1941 q1942 q87 q1943 hdJ4_colorOf (Nat.le_of_ble_eq_true rfl) (Nat.le_of_ble_eq_true rfl) rfl (Nat.le_of_ble_eq_true rfl) dJ4_fixAfterInsertion_163 166 rfl rfl hen_i (kk_i (fun x23 m24 k1 n1 => ?_)) (kx_n he_i)
            refine s_if_ne C dJ4_fixAfterInsertion_166 204 rfl 169 rfl (fun c_ => ?_) (fun c_ => ?_)
            · refine s_aload_n C rfl 2 rfl dJ4_fixAfterInsertion_169 170 rfl ?_
              refine x_callS (enc := en_r) C 10 1 [vr_ v1] (ctJ4_parentOf C.2.2.2.2.2.2.2.2.1 N m24 v1) q1932 q1933 q87 q1934 hdJ4_parentOf (Nat.le_of_ble_eq_true rfl) (Nat.le_of_ble_eq_true rfl) rfl (Nat.le_of_ble_eq_true rfl) dJ4_fixAfterInsertion_170 173 rfl rfl hen_r (kk_r (fun x24 m25 k1 n1 => ?_)) (kx_n he_r)
              refine s_iconst C 1 rfl dJ4_fixAfterInsertion_173 174 rfl ?_
              refine x_callS (enc := en_v) C 10 2 [vr_ x24, vi_ 1] (ctJ4_setColor C.2.2.2.2.2.2.2.2.1 N m25 x24 1) q1944 q1945 q87 q1946 hdJ4_setColor (Nat.le_of_ble_eq_true rfl) (Nat.le_of_ble_eq_true rfl) rfl (Nat.le_of_ble_eq_true rfl) dJ4_fixAfterInsertion_174 177 rfl rfl hen_v (kk_v (fun m26 k1 n1 => ?_)) (kx_n he_v)
              refine s_aload_n C rfl 0 rfl dJ4_fixAfterInsertion_177 178 rfl ?_
              refine s_iconst C 1 rfl dJ4_fixAfterInsertion_178 179 rfl ?_
              refine x_callS (enc := en_v) C 10 2 [vr_ x22, vi_ 1] (ctJ4_setColor C.2.2.2.2.2.2.2.2.1 N m26 x22 1) q1944 q1945 q87 q1946 hdJ4_setColor (Nat.le_of_ble_eq_true rfl) (Nat.le_of_ble_eq_true rfl) rfl (Nat.le_of_ble_eq_true rfl) dJ4_fixAfterInsertion_179 182 rfl rfl hen_v (kk_v (fun m27 k1 n1 => ?_)) (kx_n he_v)
              refine s_aload_n C rfl 2 rfl dJ4_fixAfterInsertion_182 183 rfl ?_
              refine x_callS (enc := en_r) C 10 1 [vr_ v1] (ctJ4_parentOf C.2.2.2.2.2.2.2.2.1 N m27 v1) q1932 q1933 q87 q1934 hdJ4_parentOf (Nat.le_of_ble_eq_true rfl) (Nat.le_of_ble_eq_true rfl) rfl (Nat.le_of_ble_eq_true rfl) dJ4_fixAfterInsertion_183 186 rfl rfl hen_r (kk_r (fun x25 m28 k1 n1 => ?_)) (kx_n he_r)
              refine x_callS (enc := en_r) C 10 1 [vr_ x25] (ctJ4_parentOf C.2.2.2.2.2.2.2.2.1 N m28 x25) q1932 q1933 q87 q1934 hdJ4_parentOf (Nat.le_of_ble_eq_true rfl) (Nat.le_of_ble_eq_true rfl) rfl (Nat.le_of_ble_eq_true rfl) dJ4_fixAfterInsertion_186 189 rfl rfl hen_r (kk_r (fun x26 m29 k1 n1 => ?_)) (kx_n he_r)
              refine s_iconst C 0 rfl dJ4_fixAfterInsertion_189 190 rfl ?_
              refine x_callS (enc := en_v) C 10 2 [vr_ x26, vi_ 0] (ctJ4_setColor C.2.2.2.2.2.2.2.2.1 N m29 x26 0) q1944 q1945 q87 q1946 hdJ4_setColor (Nat.le_of_ble_eq_true rfl) (Nat.le_of_ble_eq_true rfl) rfl (Nat.le_of_ble_eq_true rfl) dJ4_fixAfterInsertion_190 193 rfl rfl hen_v (kk_v (fun m30 k1 n1 => ?_)) (kx_n he_v)
              refine s_aload_n C rfl 2 rfl dJ4_fixAfterInsertion_193 194 rfl ?_
              refine x_callS (enc := en_r) C 10 1 [vr_ v1] (ctJ4_parentOf C.2.2.2.2.2.2.2.2.1 N m30 v1) q1932 q1933 q87 q1934 hdJ4_parentOf (Nat.le_of_ble_eq_true rfl) (Nat.le_of_ble_eq_true rfl) rfl (Nat.le_of_ble_eq_true rfl) dJ4_fixAfterInsertion_194 197 rfl rfl hen_r (kk_r (fun x27 m31 k1 n1 => ?_)) (kx_n he_r)
              refine x_callS (enc := en_r) C 10 1 [vr_ x27] (ctJ4_parentOf C.2.2.2.2.2.2.2.2.1 N m31 x27) q1932 q1933 q87 q1934 hdJ4_parentOf (Nat.le_of_ble_eq_true rfl) (Nat.le_of_ble_eq_true rfl) rfl (Nat.le_of_ble_eq_true rfl) dJ4_fixAfterInsertion_197 200 rfl rfl hen_r (kk_r (fun x28 m32 k1 n1 => ?_)) (kx_n he_r)
              refine s_astore_n C rfl (Nat.le_of_ble_eq_true rfl) [1] rfl rfl dJ4_fixAfterInsertion_200 201 rfl ?_
              refine s_goto C (off := 54) 255 dJ4_fixAfterInsertion_201 rfl ?_
              refine Sm_sub [1, 0] rfl ?_
              exact wJ4_fixAfterInsertion_b255 C hret h0 hin N (fun m v0 v1 k n => ih m v0 v1 k n) _ _ _ _ _
            · refine s_aload_n C rfl 2 rfl dJ4_fixAfterInsertion_204 205 rfl ?_
              refine s_aload_n C rfl 2 rfl dJ4_fixAfterInsertion_205 206 rfl ?_
              refine x_callS (enc := en_r) C 10 1 [vr_ v1] (ctJ4_parentOf C.2.2.2.2.2.2.2.2.1 N m24 v1) q1932 q1933 q87 q1934 hdJ4_parentOf (Nat.le_of_ble_eq_true rfl) (Nat.le_of_ble_eq_true rfl) rfl (Nat.le_of_ble_eq_true rfl) dJ4_fixAfterInsertion_206 209 rfl rfl hen_r (kk_r (fun x29 m33 k1 n1 => ?_)) (kx_n he_r)
              refine x_callS (enc := en_r) C 10 1 [vr_ x29] (ctJ4_leftOf C.2.2.2.2.2.2.2.2.1 N m33 x29) q1935 q1936 q87 q1937 hdJ4_leftOf (Nat.le_of_ble_eq_true rfl) (Nat.le_of_ble_eq_true rfl) rfl (Nat.le_of_ble_eq_true rfl) dJ4_fixAfterInsertion_209 212 rfl rfl hen_r (kk_r (fun x30 m34 k1 n1 => ?_)) (kx_n he_r)
              refine s_acmp_ne C dJ4_fixAfterInsertion_212 225 rfl 215 rfl (fun c_ => ?_) (fun c_ => ?_)
              · refine s_aload_n C rfl 2 rfl dJ4_fixAfterInsertion_215 216 rfl ?_
                refine x_callS (enc := en_r) C 10 1 [vr_ v1] (ctJ4_parentOf C.2.2.2.2.2.2.2.2.1 N m34 v1) q1932 q1933 q87 q1934 hdJ4_parentOf (Nat.le_of_ble_eq_true rfl) (Nat.le_of_ble_eq_true rfl) rfl (Nat.le_of_ble_eq_true rfl) dJ4_fixAfterInsertion_216 219 rfl rfl hen_r (kk_r (fun x31 m35 k1 n1 => ?_)) (kx_n he_r)
                refine s_astore_n C rfl (Nat.le_of_ble_eq_true rfl) [1] rfl rfl dJ4_fixAfterInsertion_219 220 rfl ?_
                refine s_aload_n C rfl 1 rfl dJ4_fixAfterInsertion_220 221 rfl ?_
                refine s_aload_n C rfl 0 rfl dJ4_fixAfterInsertion_221 222 rfl ?_
                refine x_ck (fun hb_ hb0_ => ?_)
                refine x_callV (enc := en_v) C 10 1 [vr_ x31] 15 (ctJ4_rotateRight C.2.2.2.2.2.2.2.2.1 N m35 v0 x31) hb_ hb0_ rfl rfl q1951 q1953 qs20 q87 q1954 hdJ4_rotateRight (Nat.le_of_ble_eq_true rfl) (Nat.le_of_ble_eq_true rfl) rfl (Nat.le_of_ble_eq_true rfl) dJ4_fixAfterInsertion_222 225 rfl rfl hen_v (kk_v (fun m36 k1 n1 => ?_)) (kx_n he_v)
                refine Sm_sub [1, 0] rfl ?_
                exact wJ4_fixAfterInsertion_b225 C hret h0 hin N (fun m v0 v1 k n => ih m v0 v1 k n) _ _ _ _ _
              · refine Sm_sub [1, 2] rfl ?_
                exact wJ4_fixAfterInsertion_b225 C hret h0 hin N (fun m v0 v1 k n => ih m v0 v1 k n) _ _ _ _ _
        · refine Sm_sub [0] rfl ?_
          exact wJ4_fixAfterInsertion_b258 C hret h0 hin N _ _ _ _
theorem wJ4_fixAfterInsertion {l : Launch} {g : GG} {E : Me_} (C : Cx_ l g E "java/util/TreeMap" cJ4_fixAfterInsertion 3 11) (hret : (eT_ E).sig.returnType = (Option.none : Option Jvm.ClassFile.FieldType)) (h0 : ∀ x ∈ (eC_ E).exceptionTable.toList, False) (hin : (eT_ E).name = "fixAfterInsertion") (N : Nat) : ∀ (m : Mm) (v0 : Option Nat) (v1 : Option Nat) (k n : Nat), Sm_ l g E 3 en_v (fJ4_fixAfterInsertion (gE_ g) N m v0 v1) k n 0 [(0, vr_ v0), (1, vr_ v1)] [] m := by
  intro m v0 v1 k n
  unfold fJ4_fixAfterInsertion
  refine s_aload_n C rfl 1 rfl dJ4_fixAfterInsertion_0 1 rfl ?_
  refine s_iconst C 0 rfl dJ4_fixAfterInsertion_1 2 rfl ?_
  refine x_pz C 15 (RJ37, TJ37, 6) rfl 5 (Nat.le_of_ble_eq_true rfl) rfl q1910 (Or.inl rfl) rfl (Or.inl rfl) 16 rfl dJ4_fixAfterInsertion_2 5 rfl (fun m1 => ?_)
  exact wJ4_fixAfterInsertion_b5 C hret h0 hin N N _ _ _ _ _
theorem hdJ4_fixAfterInsertion : ((⟨"java/util/TreeMap", "fixAfterInsertion", "(Ljava/util/TreeMap$Entry;)V"⟩ : MethodName)).cls ≠ "java/lang/invoke/MethodHandle" ∧ ((⟨"java/util/TreeMap", "fixAfterInsertion", "(Ljava/util/TreeMap$Entry;)V"⟩ : MethodName)).cls ≠ "java/lang/invoke/VarHandle" ∧ (parseMethodDescriptor ((⟨"java/util/TreeMap", "fixAfterInsertion", "(Ljava/util/TreeMap$Entry;)V"⟩ : MethodName)).desc).map (fun d => d.parameters.length) = some 1 := ⟨by decide +kernel, by decide +kernel, by decide +kernel⟩
theorem ctJ4_fixAfterInsertion {l : Launch} {g : GG} (hst : l.stackTraces = false) (N : Nat) (m : Mm) (v0 : Option Nat) (v1 : Option Nat) : ∀ v m' k n, fJ4_fixAfterInsertion (gE_ g) N m v0 v1 = some (v, m', k, n) → Ct_ l g (⟨"java/util/TreeMap", "fixAfterInsertion", "(Ljava/util/TreeMap$Entry;)V"⟩ : MethodName) (ws_ (⟨"java/util/TreeMap", "fixAfterInsertion", "(Ljava/util/TreeMap$Entry;)V"⟩ : MethodName) cJ4_fixAfterInsertion 3 (Option.none : Option Jvm.ClassFile.FieldType)) 11 [vr_ v0, vr_ v1] m (en_v v) m' k n :=
  Ct_of (by decide +kernel) rfl hst (Nat.le_of_ble_eq_true rfl) rfl (fun E C hret h0 hin => wJ4_fixAfterInsertion C hret h0 hin N m v0 v1 0 0)
theorem wJ37_init {l : Launch} {g : GG} {E : Me_} (C : Cx_ l g E "java/util/TreeMap$Entry" cJ37_init 4 10) (hret : (eT_ E).sig.returnType = (Option.none : Option Jvm.ClassFile.FieldType)) (h0 : ∀ x ∈ (eC_ E).exceptionTable.toList, False) (hin : (eT_ E).name = "<init>") (N : Nat) : ∀ (m : Mm) (v0 : Option Nat) (v1 : Option Nat) (v2 : Option Nat) (v3 : Option Nat) (k n : Nat), Sm_ l g E 4 en_v (fJ37_init (gE_ g) N m v0 v1 v2 v3) k n 0 [(0, vr_ v0), (1, vr_ v1), (2, vr_ v2), (3, vr_ v3)] [] m := by
  intro m v0 v1 v2 v3 k n
  unfold fJ37_init
  refine s_aload_n C rfl 0 rfl dJ37_init_0 1 rfl ?_
  refine x_ok (fun hb_ => ?_)
  refine x_obj C hb_ q1890 q152 q153 (by decide) (Nat.le_of_ble_eq_true rfl) dJ37_init_1 4 rfl ?_
  refine s_aload_n C rfl 0 rfl dJ37_init_4 5 rfl ?_
  refine s_iconst C 1 rfl dJ37_init_5 6 rfl ?_
  refine x_pz C 15 (RJ37, TJ37, 6) rfl 5 (Nat.le_of_ble_eq_true rfl) rfl q1909 (Or.inl rfl) rfl (Or.inl rfl) 16 rfl dJ37_init_6 9 rfl (fun m1 => ?_)
  refine s_aload_n C rfl 0 rfl dJ37_init_9 10 rfl ?_
  refine s_aload_n C rfl 1 rfl dJ37_init_10 11 rfl ?_
  refine x_pr C 15 (RJ37, TJ37, 6) rfl 0 (Nat.le_of_ble_eq_true rfl) rfl q1891 (Or.inl rfl) rfl trivial 16 rfl dJ37_init_11 14 rfl (fun m2 => ?_)
  refine s_aload_n C rfl 0 rfl dJ37_init_14 15 rfl ?_
  refine s_aload_n C rfl 2 rfl dJ37_init_15 16 rfl ?_
  refine x_pr C 15 (RJ37, TJ37, 6) rfl 1 (Nat.le_of_ble_eq_true rfl) rfl q1898 (Or.inl rfl) rfl trivial 16 rfl dJ37_init_16 19 rfl (fun m3 => ?_)
  refine s_aload_n C rfl 0 rfl dJ37_init_19 20 rfl ?_
  refine s_aload_n C rfl 3 rfl dJ37_init_20 21 rfl ?_
  refine x_pr C 15 (RJ37, TJ37, 6) rfl 4 (Nat.le_of_ble_eq_true rfl) rfl q1907 (Or.inl rfl) rfl trivial 16 rfl dJ37_init_21 24 rfl (fun m4 => ?_)
  exact x_vret C hret rfl dJ37_init_24
theorem hdJ37_init : ((⟨"java/util/TreeMap$Entry", "<init>", "(Ljava/lang/Object;Ljava/lang/Object;Ljava/util/TreeMap$Entry;)V"⟩ : MethodName)).cls ≠ "java/lang/invoke/MethodHandle" ∧ ((⟨"java/util/TreeMap$Entry", "<init>", "(Ljava/lang/Object;Ljava/lang/Object;Ljava/util/TreeMap$Entry;)V"⟩ : MethodName)).cls ≠ "java/lang/invoke/VarHandle" ∧ (parseMethodDescriptor ((⟨"java/util/TreeMap$Entry", "<init>", "(Ljava/lang/Object;Ljava/lang/Object;Ljava/util/TreeMap$Entry;)V"⟩ : MethodName)).desc).map (fun d => d.parameters.length) = some 3 := ⟨by decide +kernel, by decide +kernel, by decide +kernel⟩
theorem ctJ37_init {l : Launch} {g : GG} (hst : l.stackTraces = false) (N : Nat) (m : Mm) (v0 : Option Nat) (v1 : Option Nat) (v2 : Option Nat) (v3 : Option Nat) : ∀ v m' k n, fJ37_init (gE_ g) N m v0 v1 v2 v3 = some (v, m', k, n) → Ct_ l g (⟨"java/util/TreeMap$Entry", "<init>", "(Ljava/lang/Object;Ljava/lang/Object;Ljava/util/TreeMap$Entry;)V"⟩ : MethodName) (ws_ (⟨"java/util/TreeMap$Entry", "<init>", "(Ljava/lang/Object;Ljava/lang/Object;Ljava/util/TreeMap$Entry;)V"⟩ : MethodName) cJ37_init 4 (Option.none : Option Jvm.ClassFile.FieldType)) 10 [vr_ v0, vr_ v1, vr_ v2, vr_ v3] m (en_v v) m' k n :=
  Ct_of (by decide +kernel) rfl hst (Nat.le_of_ble_eq_true rfl) rfl (fun E C hret h0 hin => wJ37_init C hret h0 hin N m v0 v1 v2 v3 0 0)
theorem wJ4_addEntry_b32 {l : Launch} {g : GG} {E : Me_} (C : Cx_ l g E "java/util/TreeMap" cJ4_addEntry 6 12) (hret : (eT_ E).sig.returnType = (Option.none : Option Jvm.ClassFile.FieldType)) (h0 : ∀ x ∈ (eC_ E).exceptionTable.toList, False) (hin : (eT_ E).name = "addEntry") (N : Nat) : ∀ (m : Mm) (v0 : Option Nat) (v5 : Option Nat) (k n : Nat), Sm_ l g E 6 en_v (fJ4_addEntry_b32 (gE_ g) N m v0 v5) k n 32 [(0, vr_ v0), (5, vr_ v5)] [] m := by
  intro m v0 v5 k n
  unfold fJ4_addEntry_b32
  refine s_aload_n C rfl 0 rfl dJ4_addEntry_32 33 rfl ?_
  refine s_aload C 1 rfl dJ4_addEntry_33 35 rfl ?_
  refine x_ck (fun hb_ hb0_ => ?_)
  refine x_callV (enc := en_v) C 11 1 [vr_ v5] 15 (ctJ4_fixAfterInsertion C.2.2.2.2.2.2.2.2.1 N m v0 v5) hb_ hb0_ rfl rfl q1928 q1930 qs18 q87 q1931 hdJ4_fixAfterInsertion (Nat.le_of_ble_eq_true rfl) (Nat.le_of_ble_eq_true rfl) rfl (Nat.le_of_ble_eq_true rfl) dJ4_addEntry_35 38 rfl rfl hen_v (kk_v (fun m1 k1 n1 => ?_)) (kx_n he_v)
  refine s_aload_n C rfl 0 rfl dJ4_addEntry_38 39 rfl ?_
  refine s_dup C rfl dJ4_addEntry_39 40 rfl ?_
  refine x_gi C 14 (RJ4, TJ4, 9) rfl 4 (Nat.le_of_ble_eq_true rfl) q206 (Or.inl rfl) rfl 15 rfl dJ4_addEntry_40 43 rfl (fun x1 => ?_)
  refine s_iconst C 1 rfl dJ4_addEntry_43 44 rfl ?_
  refine s_iadd C dJ4_addEntry_44 45 rfl ?_
  refine x_pi C 14 (RJ4, TJ4, 9) rfl 4 (Nat.le_of_ble_eq_true rfl) rfl q206 (Or.inl rfl) rfl trivial 15 rfl dJ4_addEntry_45 48 rfl (fun m2 => ?_)
  refine s_aload_n C rfl 0 rfl dJ4_addEntry_48 49 rfl ?_
  refine s_dup C rfl dJ4_addEntry_49 50 rfl ?_
  refine x_gi C 14 (RJ4, TJ4, 9) rfl 5 (Nat.le_of_ble_eq_true rfl) q207 (Or.inl rfl) rfl 15 rfl dJ4_addEntry_50 53 rfl (fun x2 => ?_)
  refine s_iconst C 1 rfl dJ4_addEntry_53 54 rfl ?_
  refine s_iadd C dJ4_addEntry_54 55 rfl ?_
  refine x_pi C 14 (RJ4, TJ4, 9) rfl 5 (Nat.le_of_ble_eq_true rfl) rfl q207 (Or.inl rfl) rfl trivial 15 rfl dJ4_addEntry_55 58 rfl (fun m3 => ?_)
  exact x_vret C hret rfl dJ4_addEntry_58
theorem wJ4_addEntry {l : Launch} {g : GG} {E : Me_} (C : Cx_ l g E "java/util/TreeMap" cJ4_addEntry 6 12) (hret : (eT_ E).sig.returnType = (Option.none : Option Jvm.ClassFile.FieldType)) (h0 : ∀ x ∈ (eC_ E).exceptionTable.toList, False) (hin : (eT_ E).name = "addEntry") (N : Nat) : ∀ (m : Mm) (v0 : Option Nat) (v1 : Option Nat) (v2 : Option Nat) (v3 : Option Nat) (v4 : Int32) (k n : Nat), Sm_ l g E 6 en_v (fJ4_addEntry (gE_ g) N m v0 v1 v2 v3 v4) k n 0 [(0, vr_ v0), (1, vr_ v1), (2, vr_ v2), (3, vr_ v3), (4, vi_ v4)] [] m := by
  intro m v0 v1 v2 v3 v4 k n
  unfold fJ4_addEntry
  refine x_nw C 15 (RJ37, TJ37, 6) rfl q1885 q1886 q130 16 6 rfl rfl dJ4_addEntry_0 3 rfl (fun x1 m1 => ?_)
  refine s_dup C rfl dJ4_addEntry_3 4 rfl ?_
  refine s_aload_n C rfl 1 rfl dJ4_addEntry_4 5 rfl ?_
  refine s_aload_n C rfl 2 rfl dJ4_addEntry_5 6 rfl ?_
  refine s_aload_n C rfl 3 rfl dJ4_addEntry_6 7 rfl ?_
  refine x_callI (enc := en_v) C 10 3 [vr_ v1, vr_ v2, vr_ v3] (ctJ37_init C.2.2.2.2.2.2.2.2.1 N m1 (some x1) v1 v2 v3) (fun h => by cases h) rfl q1887 q1888 q130 q1889 rfl hdJ37_init (Nat.le_of_ble_eq_true rfl) (Nat.le_of_ble_eq_true rfl) rfl (Nat.le_of_ble_eq_true rfl) dJ4_addEntry_7 10 rfl rfl hen_v (kk_v (fun m2 k1 n1 => ?_)) (kx_n he_v)
  refine s_astore C (Nat.le_of_ble_eq_true rfl) [0, 3, 4] rfl rfl dJ4_addEntry_10 12 rfl ?_
  refine s_iload C 3 rfl dJ4_addEntry_12 14 rfl ?_
  refine s_if_eq C dJ4_addEntry_14 26 rfl 17 rfl (fun c_ => ?_) (fun c_ => ?_)
  · refine s_aload_n C rfl 2 rfl dJ4_addEntry_26 27 rfl ?_
    refine s_aload C 0 rfl dJ4_addEntry_27 29 rfl ?_
    refine x_pr C 15 (RJ37, TJ37, 6) rfl 3 (Nat.le_of_ble_eq_true rfl) rfl q1906 (Or.inl rfl) rfl trivial 16 rfl dJ4_addEntry_29 32 rfl (fun m3 => ?_)
    refine Sm_sub [1, 0] rfl ?_
    exact wJ4_addEntry_b32 C hret h0 hin N _ _ _ _ _
  · refine s_aload_n C rfl 2 rfl dJ4_addEntry_17 18 rfl ?_
    refine s_aload C 0 rfl dJ4_addEntry_18 20 rfl ?_
    refine x_pr C 15 (RJ37, TJ37, 6) rfl 2 (Nat.le_of_ble_eq_true rfl) rfl q1903 (Or.inl rfl) rfl trivial 16 rfl dJ4_addEntry_20 23 rfl (fun m4 => ?_)
    refine s_goto C (off := 9) 32 dJ4_addEntry_23 rfl ?_
    refine Sm_sub [1, 0] rfl ?_
    exact wJ4_addEntry_b32 C hret h0 hin N _ _ _ _ _
theorem hdJ4_addEntry : ((⟨"java/util/TreeMap", "addEntry", "(Ljava/lang/Object;Ljava/lang/Object;Ljava/util/TreeMap$Entry;Z)V"⟩ : MethodName)).cls ≠ "java/lang/invoke/MethodHandle" ∧ ((⟨"java/util/TreeMap", "addEntry", "(Ljava/lang/Object;Ljava/lang/Object;Ljava/util/TreeMap$Entry;Z)V"⟩ : MethodName)).cls ≠ "java/lang/invoke/VarHandle" ∧ (parseMethodDescriptor ((⟨"java/util/TreeMap", "addEntry", "(Ljava/lang/Object;Ljava/lang/Object;Ljava/util/TreeMap$Entry;Z)V"⟩ : MethodName)).desc).map (fun d => d.parameters.length) = some 4 := ⟨by decide +kernel, by decide +kernel, by decide +kernel⟩
theorem ctJ4_addEntry {l : Launch} {g : GG} (hst : l.stackTraces = false) (N : Nat) (m : Mm) (v0 : Option Nat) (v1 : Option Nat) (v2 : Option Nat) (v3 : Option Nat) (v4 : Int32) : ∀ v m' k n, fJ4_addEntry (gE_ g) N m v0 v1 v2 v3 v4 = some (v, m', k, n) → Ct_ l g (⟨"java/util/TreeMap", "addEntry", "(Ljava/lang/Object;Ljava/lang/Object;Ljava/util/TreeMap$Entry;Z)V"⟩ : MethodName) (ws_ (⟨"java/util/TreeMap", "addEntry", "(Ljava/lang/Object;Ljava/lang/Object;Ljava/util/TreeMap$Entry;Z)V"⟩ : MethodName) cJ4_addEntry 6 (Option.none : Option Jvm.ClassFile.FieldType)) 12 [vr_ v0, vr_ v1, vr_ v2, vr_ v3, vi_ v4] m (en_v v) m' k n :=
  Ct_of (by decide +kernel) rfl hst (Nat.le_of_ble_eq_true rfl) rfl (fun E C hret h0 hin => wJ4_addEntry C hret h0 hin N m v0 v1 v2 v3 v4 0 0)
theorem wJ21_compare_b19 {l : Launch} {g : GG} {E : Me_} (C : Cx_ l g E "java/lang/Integer" cJ21_compare 2 10) (hret : (eT_ E).sig.returnType = (Option.some Jvm.ClassFile.FieldType.int)) (h0 : ∀ x ∈ (eC_ E).exceptionTable.toList, False) (hin : (eT_ E).name = "compare") (N : Nat) : ∀ (m : Mm) (s0 : Int32) (k n : Nat), Sm_ l g E 2 en_i (fJ21_compare_b19 (gE_ g) N m s0) k n 19 [] [vi_ s0] m := by
  intro m s0 k n
  unfold fJ21_compare_b19
  exact x_iret C hret rfl dJ21_compare_19
theorem wJ21_compare {l : Launch} {g : GG} {E : Me_} (C : Cx_ l g E "java/lang/Integer" cJ21_compare 2 10) (hret : (eT_ E).sig.returnType = (Option.some Jvm.ClassFile.FieldType.int)) (h0 : ∀ x ∈ (eC_ E).exceptionTable.toList, False) (hin : (eT_ E).name = "compare") (N : Nat) : ∀ (m : Mm) (v0 : Int32) (v1 : Int32) (k n : Nat), Sm_ l g E 2 en_i (fJ21_compare (gE_ g) N m v0 v1) k n 0 [(0, vi_ v0), (1, vi_ v1)] [] m := by
  intro m v0 v1 k n
  unfold fJ21_compare
  refine s_iload_n C rfl 0 rfl dJ21_compare_0 1 rfl ?_
  refine s_iload_n C rfl 1 rfl dJ21_compare_1 2 rfl ?_
  refine s_icmp_ge C dJ21_compare_2 9 rfl 5 rfl (fun c_ => ?_) (fun c_ => ?_)
  · refine s_iconst C (-1) rfl dJ21_compare_5 6 rfl ?_
    refine s_goto C (off := 13) 19 dJ21_compare_6 rfl ?_
    refine Sm_sub [] rfl ?_
    exact wJ21_compare_b19 C hret h0 hin N _ _ _ _
  · refine s_iload_n C rfl 0 rfl dJ21_compare_9 10 rfl ?_
    refine s_iload_n C rfl 1 rfl dJ21_compare_10 11 rfl ?_
    refine s_icmp_ne C dJ21_compare_11 18 rfl 14 rfl (fun c_ => ?_) (fun c_ => ?_)
    · refine s_iconst C 0 rfl dJ21_compare_14 15 rfl ?_
      refine s_goto C (off := 4) 19 dJ21_compare_15 rfl ?_
      refine Sm_sub [] rfl ?_
      exact wJ21_compare_b19 C hret h0 hin N _ _ _ _
    · refine s_iconst C 1 rfl dJ21_compare_18 19 rfl ?_
      refine Sm_sub [] rfl ?_
      exact wJ21_compare_b19 C hret h0 hin N _ _ _ _
theorem hdJ21_compare : ((⟨"java/lang/Integer", "compare", "(II)I"⟩ : MethodName)).cls ≠ "java/lang/invoke/MethodHandle" ∧ ((⟨"java/lang/Integer", "compare", "(II)I"⟩ : MethodName)).cls ≠ "java/lang/invoke/VarHandle" ∧ (parseMethodDescriptor ((⟨"java/lang/Integer", "compare", "(II)I"⟩ : MethodName)).desc).map (fun d => d.parameters.length) = some 2 := ⟨by decide +kernel, by decide +kernel, by decide +kernel⟩
theorem ctJ21_compare {l : Launch} {g : GG} (hst : l.stackTraces = false) (N : Nat) (m : Mm) (v0 : Int32) (v1 : Int32) : ∀ v m' k n, fJ21_compare (gE_ g) N m v0 v1 = some (v, m', k, n) → Ct_ l g (⟨"java/lang/Integer", "compare", "(II)I"⟩ : MethodName) (ws_ (⟨"java/lang/Integer", "compare", "(II)I"⟩ : MethodName) cJ21_compare 2 (Option.some Jvm.ClassFile.FieldType.int)) 10 [vi_ v0, vi_ v1] m (en_i v) m' k n :=
  Ct_of (by decide +kernel) rfl hst (Nat.le_of_ble_eq_true rfl) rfl (fun E C hret h0 hin => wJ21_compare C hret h0 hin N m v0 v1 0 0)
theorem wJ21_compareTo_2 {l : Launch} {g : GG} {E : Me_} (C : Cx_ l g E "java/lang/Integer" cJ21_compareTo_2 2 11) (hret : (eT_ E).sig.returnType = (Option.some Jvm.ClassFile.FieldType.int)) (h0 : ∀ x ∈ (eC_ E).exceptionTable.toList, False) (hin : (eT_ E).name = "compareTo") (N : Nat) : ∀ (m : Mm) (v0 : Option Nat) (v1 : Option Nat) (k n : Nat), Sm_ l g E 2 en_i (fJ21_compareTo_2 (gE_ g) N m v0 v1) k n 0 [(0, vr_ v0), (1, vr_ v1)] [] m := by
  intro m v0 v1 k n
  unfold fJ21_compareTo_2
  refine s_aload_n C rfl 0 rfl dJ21_compareTo_2_0 1 rfl ?_
  refine x_gi C 26 (RJ21, TJ21, 1) rfl 0 (Nat.le_of_ble_eq_true rfl) q1634 (Or.inl rfl) rfl 27 rfl dJ21_compareTo_2_1 4 rfl (fun x1 => ?_)
  refine s_aload_n C rfl 1 rfl dJ21_compareTo_2_4 5 rfl ?_
  refine x_gi C 26 (RJ21, TJ21, 1) rfl 0 (Nat.le_of_ble_eq_true rfl) q1634 (Or.inl rfl) rfl 27 rfl dJ21_compareTo_2_5 8 rfl (fun x2 => ?_)
  refine x_callS (enc := en_i) C 10 2 [vi_ x1, vi_ x2] (ctJ21_compare C.2.2.2.2.2.2.2.2.1 N m x1 x2) q1130 q1059 q108 q1060 hdJ21_compare (Nat.le_of_ble_eq_true rfl) (Nat.le_of_ble_eq_true rfl) rfl (Nat.le_of_ble_eq_true rfl) dJ21_compareTo_2_8 11 rfl rfl hen_i (kk_i (fun x3 m1 k1 n1 => ?_)) (kx_n he_i)
  exact x_iret C hret rfl dJ21_compareTo_2_11
theorem hdJ21_compareTo_2 : ((⟨"java/lang/Integer", "compareTo", "(Ljava/lang/Integer;)I"⟩ : MethodName)).cls ≠ "java/lang/invoke/MethodHandle" ∧ ((⟨"java/lang/Integer", "compareTo", "(Ljava/lang/Integer;)I"⟩ : MethodName)).cls ≠ "java/lang/invoke/VarHandle" ∧ (parseMethodDescriptor ((⟨"java/lang/Integer", "compareTo", "(Ljava/lang/Integer;)I"⟩ : MethodName)).desc).map (fun d => d.parameters.length) = some 1 := ⟨by decide +kernel, by decide +kernel, by decide +kernel⟩
theorem ctJ21_compareTo_2 {l : Launch} {g : GG} (hst : l.stackTraces = false) (N : Nat) (m : Mm) (v0 : Option Nat) (v1 : Option Nat) : ∀ v m' k n, fJ21_compareTo_2 (gE_ g) N m v0 v1 = some (v, m', k, n) → Ct_ l g (⟨"java/lang/Integer", "compareTo", "(Ljava/lang/Integer;)I"⟩ : MethodName) (ws_ (⟨"java/lang/Integer", "compareTo", "(Ljava/lang/Integer;)I"⟩ : MethodName) cJ21_compareTo_2 2 (Option.some Jvm.ClassFile.FieldType.int)) 11 [vr_ v0, vr_ v1] m (en_i v) m' k n :=
  Ct_of (by decide +kernel) rfl hst (Nat.le_of_ble_eq_true rfl) rfl (fun E C hret h0 hin => wJ21_compareTo_2 C hret h0 hin N m v0 v1 0 0)
theorem wJ21_compareTo {l : Launch} {g : GG} {E : Me_} (C : Cx_ l g E "java/lang/Integer" cJ21_compareTo 2 12) (hret : (eT_ E).sig.returnType = (Option.some Jvm.ClassFile.FieldType.int)) (h0 : ∀ x ∈ (eC_ E).exceptionTable.toList, False) (hin : (eT_ E).name = "compareTo") (N : Nat) : ∀ (m : Mm) (v0 : Option Nat) (v1 : Option Nat) (k n : Nat), Sm_ l g E 2 en_i (fJ21_compareTo (gE_ g) N m v0 v1) k n 0 [(0, vr_ v0), (1, vr_ v1)] [] m := by
  intro m v0 v1 k n
  unfold fJ21_compareTo
  refine s_aload_n C rfl 0 rfl dJ21_compareTo_0 1 rfl ?_
  refine s_aload_n C rfl 1 rfl dJ21_compareTo_1 2 rfl ?_
  refine x_cc C "java/lang/Integer" [27] (fun k hk => by rw [List.mem_singleton.mp hk]; exact ⟨rfl, Or.inr rfl⟩) q1125 dJ21_compareTo_2 5 rfl ?_
  refine x_ck (fun hb_ hb0_ => ?_)
  refine x_callV (enc := en_i) C 11 1 [vr_ v1] 27 (ctJ21_compareTo_2 C.2.2.2.2.2.2.2.2.1 N m v0 v1) hb_ hb0_ rfl rfl q1126 q1127 q1128 q108 q1129 hdJ21_compareTo_2 (Nat.le_of_ble_eq_true rfl) (Nat.le_of_ble_eq_true rfl) rfl (Nat.le_of_ble_eq_true rfl) dJ21_compareTo_5 8 rfl rfl hen_i (kk_i (fun x1 m1 k1 n1 => ?_)) (kx_n he_i)
  exact x_iret C hret rfl dJ21_compareTo_8
theorem hdJ21_compareTo : ((⟨"java/lang/Integer", "compareTo", "(Ljava/lang/Object;)I"⟩ : MethodName)).cls ≠ "java/lang/invoke/MethodHandle" ∧ ((⟨"java/lang/Integer", "compareTo", "(Ljava/lang/Object;)I"⟩ : MethodName)).cls ≠ "java/lang/invoke/VarHandle" ∧ (parseMethodDescriptor ((⟨"java/lang/Integer", "compareTo", "(Ljava/lang/Object;)I"⟩ : MethodName)).desc).map (fun d => d.parameters.length) = some 1 := ⟨by decide +kernel, by decide +kernel, by decide +kernel⟩
theorem ctJ21_compareTo {l : Launch} {g : GG} (hst : l.stackTraces = false) (N : Nat) (m : Mm) (v0 : Option Nat) (v1 : Option Nat) : ∀ v m' k n, fJ21_compareTo (gE_ g) N m v0 v1 = some (v, m', k, n) → Ct_ l g (⟨"java/lang/Integer", "compareTo", "(Ljava/lang/Object;)I"⟩ : MethodName) (ws_ (⟨"java/lang/Integer", "compareTo", "(Ljava/lang/Object;)I"⟩ : MethodName) cJ21_compareTo 2 (Option.some Jvm.ClassFile.FieldType.int)) 12 [vr_ v0, vr_ v1] m (en_i v) m' k n :=
  Ct_of (by decide +kernel) rfl hst (Nat.le_of_ble_eq_true rfl) rfl (fun E C hret h0 hin => wJ21_compareTo C hret h0 hin N m v0 v1 0 0)
theorem wJ4_compare {l : Launch} {g : GG} {E : Me_} (C : Cx_ l g E "java/util/TreeMap" cJ4_compare 3 13) (hret : (eT_ E).sig.returnType = (Option.some Jvm.ClassFile.FieldType.int)) (h0 : ∀ x ∈ (eC_ E).exceptionTable.toList, False) (hin : (eT_ E).name = "compare") (N : Nat) : ∀ (m : Mm) (v0 : Option Nat) (v1 : Option Nat) (v2 : Option Nat) (k n : Nat), Sm_ l g E 3 en_i (fJ4_compare (gE_ g) N m v0 v1 v2) k n 0 [(0, vr_ v0), (1, vr_ v1), (2, vr_ v2)] [] m := by
  intro m v0 v1 v2 k n
  unfold fJ4_compare
  refine s_aload_n C rfl 0 rfl dJ4_compare_0 1 rfl ?_
  refine x_gr C 14 (RJ4, TJ4, 9) rfl 2 (Nat.le_of_ble_eq_true rfl) q204 (Or.inl rfl) rfl 15 rfl dJ4_compare_1 4 rfl (fun x1 => ?_)
  refine s_ifnonnull C dJ4_compare_4 20 rfl 7 rfl (fun c_ => ?_) (fun c_ => ?_)
  · refine s_aload_n C rfl 1 rfl dJ4_compare_7 8 rfl ?_
    refine x_cc C "java/lang/Comparable" [27] (fun k hk => by rw [List.mem_singleton.mp hk]; exact ⟨rfl, Or.inl q1119⟩) q1042 dJ4_compare_8 11 rfl ?_
    refine s_aload_n C rfl 2 rfl dJ4_compare_11 12 rfl ?_
    refine x_ck (fun hb_ hb0_ => ?_)
    refine x_callF (enc := en_i) C 12 1 [vr_ v2] 27 (ctJ21_compareTo C.2.2.2.2.2.2.2.2.1 N m v1 v2) hb_ hb0_ rfl rfl rfl fw_6 q1044 q1120 q1122 q108 q1124 hx7 (Nat.le_of_ble_eq_true rfl) (Nat.le_of_ble_eq_true rfl) rfl (Nat.le_of_ble_eq_true rfl) dJ4_compare_12 17 rfl rfl hen_i (kk_i (fun x2 m1 k1 n1 => ?_)) (kx_n he_i)
    refine s_goto C (off := 14) 31 dJ4_compare_17 rfl ?_
    exact x_iret C hret rfl dJ4_compare_31
  · refine s_aload_n C rfl 0 rfl dJ4_compare_20 21 rfl ?_
    refine x_gr C 14 (RJ4, TJ4, 9) rfl 2 (Nat.le_of_ble_eq_true rfl) q204 (Or.inl rfl) rfl 15 rfl dJ4_compare_21 24 rfl (fun x3 => ?_)
    refine s_aload_n C rfl 1 rfl dJ4_compare_24 25 rfl ?_
    refine s_aload_n C rfl 2 rfl dJ4_compare_25 26 rfl ?_
    exact Sm_none
theorem hdJ4_compare : ((⟨"java/util/TreeMap", "compare", "(Ljava/lang/Object;Ljava/lang/Object;)I"⟩ : MethodName)).cls ≠ "java/lang/invoke/MethodHandle" ∧ ((⟨"java/util/TreeMap", "compare", "(Ljava/lang/Object;Ljava/lang/Object;)I"⟩ : MethodName)).cls ≠ "java/lang/invoke/VarHandle" ∧ (parseMethodDescriptor ((⟨"java/util/TreeMap", "compare", "(Ljava/lang/Object;Ljava/lang/Object;)I"⟩ : MethodName)).desc).map (fun d => d.parameters.length) = some 2 := ⟨by decide +kernel, by decide +kernel, by decide +kernel⟩
theorem ctJ4_compare {l : Launch} {g : GG} (hst : l.stackTraces = false) (N : Nat) (m : Mm) (v0 : Option Nat) (v1 : Option Nat) (v2 : Option Nat) : ∀ v m' k n, fJ4_compare (gE_ g) N m v0 v1 v2 = some (v, m', k, n) → Ct_ l g (⟨"java/util/TreeMap", "compare", "(Ljava/lang/Object;Ljava/lang/Object;)I"⟩ : MethodName) (ws_ (⟨"java/util/TreeMap", "compare", "(Ljava/lang/Object;Ljava/lang/Object;)I"⟩ : MethodName) cJ4_compare 3 (Option.some Jvm.ClassFile.FieldType.int)) 13 [vr_ v0, vr_ v1, vr_ v2] m (en_i v) m' k n :=
  Ct_of (by decide +kernel) rfl hst (Nat.le_of_ble_eq_true rfl) rfl (fun E C hret h0 hin => wJ4_compare C hret h0 hin N m v0 v1 v2 0 0)
