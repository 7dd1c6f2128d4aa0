set_option maxRecDepth 100000
abbrev cX0_valueAt : ByteArray := method_32_code
def yX0_valueAt : MethodName := ⟨RX0, "valueAt", "(LMasterTree;IIII[J)I"⟩
def dkwX0_valueAt_0 : List UInt8 := [25, 5, 3, 42, 27, 28, 29, 21, 4, 182, 0, 110, 133, 80, 167, 0, 7, 58, 6, 4, 172, 3, 172]
abbrev dktX0_valueAt_0 : List UInt8 := dkwX0_valueAt_0 ++ []
theorem dksX0_valueAt_0 : cX0_valueAt.data.toList.drop 0 = dktX0_valueAt_0 := by decide +kernel
theorem dX0_valueAt_0 : decode cX0_valueAt 0 = .ok (.aload 5, 2) := dk_25 5 (dk_at dksX0_valueAt_0 0 rfl rfl)
theorem dX0_valueAt_2 : decode cX0_valueAt 2 = .ok (.iconst 0, 1) := dk_3 (dk_at dksX0_valueAt_0 2 rfl rfl)
theorem dX0_valueAt_3 : decode cX0_valueAt 3 = .ok (.aload_n 0, 1) := dk_42 (dk_at dksX0_valueAt_0 3 rfl rfl)
theorem dX0_valueAt_4 : decode cX0_valueAt 4 = .ok (.iload_n 1, 1) := dk_27 (dk_at dksX0_valueAt_0 4 rfl rfl)
theorem dX0_valueAt_5 : decode cX0_valueAt 5 = .ok (.iload_n 2, 1) := dk_28 (dk_at dksX0_valueAt_0 5 rfl rfl)
theorem dX0_valueAt_6 : decode cX0_valueAt 6 = .ok (.iload_n 3, 1) := dk_29 (dk_at dksX0_valueAt_0 6 rfl rfl)
theorem dX0_valueAt_7 : decode cX0_valueAt 7 = .ok (.iload 4, 2) := dk_21 4 (dk_at dksX0_valueAt_0 7 rfl rfl)
theorem dX0_valueAt_9 : decode cX0_valueAt 9 = .ok (.invokevirtual 110, 3) := dk_182 0 110 (dk_at dksX0_valueAt_0 9 rfl rfl)
theorem dX0_valueAt_12 : decode cX0_valueAt 12 = .ok (.i2l, 1) := dk_133 (dk_at dksX0_valueAt_0 12 rfl rfl)
theorem dX0_valueAt_13 : decode cX0_valueAt 13 = .ok (.lastore, 1) := dk_80 (dk_at dksX0_valueAt_0 13 rfl rfl)
theorem dX0_valueAt_14 : decode cX0_valueAt 14 = .ok (.goto 7, 3) := dk_167 0 7 (dk_at dksX0_valueAt_0 14 rfl rfl)
theorem dX0_valueAt_17 : decode cX0_valueAt 17 = .ok (.astore 6, 2) := dk_58 6 (dk_at dksX0_valueAt_0 17 rfl rfl)
theorem dX0_valueAt_19 : decode cX0_valueAt 19 = .ok (.iconst 1, 1) := dk_4 (dk_at dksX0_valueAt_0 19 rfl rfl)
theorem dX0_valueAt_20 : decode cX0_valueAt 20 = .ok (.ireturn, 1) := dk_172 (dk_at dksX0_valueAt_0 20 rfl rfl)
theorem dX0_valueAt_21 : decode cX0_valueAt 21 = .ok (.iconst 0, 1) := dk_3 (dk_at dksX0_valueAt_0 21 rfl rfl)
theorem dX0_valueAt_22 : decode cX0_valueAt 22 = .ok (.ireturn, 1) := dk_172 (dk_at dksX0_valueAt_0 22 rfl rfl)
def fX0_valueAt (e : Nat → Nat) (N : Nat) (m : Mm) (v0 : Option Nat) (v1 : Int32) (v2 : Int32) (v3 : Int32) (v4 : Int32) (v5 : Option Nat) : Rs (Int32) := ck_ m v0 1 (bd_ (fX1_valueAt e N m v0 v1 v2 v3 v4) (ch_ (fun x1 m1 => bj_ m1 v5 203 0 ((x1 : Int32).toInt64) (fun m2 => rt_ 0 m2)) (fun i_ m0 => if i_ = 0 then rt_ 1 m0 else none)))
abbrev cX1_valuesAnew : ByteArray := prog_1_method_57_code
def yX1_valuesAnew : MethodName := ⟨RX1, "valuesAnew", "(III)I"⟩
def dkwX1_valuesAnew_1 : List UInt8 := [182, 1, 228, 180, 0, 128, 28, 50, 29, 182, 1, 26, 185, 1, 43, 1, 0, 172]
abbrev dktX1_valuesAnew_1 : List UInt8 := dkwX1_valuesAnew_1 ++ []
def dkwX1_valuesAnew_0 : List UInt8 := [42, 27, 182, 0, 183, 58, 4, 25, 4, 28, 184, 0, 133, 87, 42, 29, 182, 0, 191, 87, 42, 25, 4]
abbrev dktX1_valuesAnew_0 : List UInt8 := dkwX1_valuesAnew_0 ++ dktX1_valuesAnew_1
theorem dksX1_valuesAnew_0 : cX1_valuesAnew.data.toList.drop 0 = dktX1_valuesAnew_0 := by decide +kernel
theorem dksX1_valuesAnew_1 : cX1_valuesAnew.data.toList.drop 23 = dktX1_valuesAnew_1 := dk_seg dksX1_valuesAnew_0 23 rfl rfl
theorem dX1_valuesAnew_0 : decode cX1_valuesAnew 0 = .ok (.aload_n 0, 1) := dk_42 (dk_at dksX1_valuesAnew_0 0 rfl rfl)
theorem dX1_valuesAnew_1 : decode cX1_valuesAnew 1 = .ok (.iload_n 1, 1) := dk_27 (dk_at dksX1_valuesAnew_0 1 rfl rfl)
theorem dX1_valuesAnew_2 : decode cX1_valuesAnew 2 = .ok (.invokevirtual 183, 3) := dk_182 0 183 (dk_at dksX1_valuesAnew_0 2 rfl rfl)
theorem dX1_valuesAnew_5 : decode cX1_valuesAnew 5 = .ok (.astore 4, 2) := dk_58 4 (dk_at dksX1_valuesAnew_0 5 rfl rfl)
theorem dX1_valuesAnew_7 : decode cX1_valuesAnew 7 = .ok (.aload 4, 2) := dk_25 4 (dk_at dksX1_valuesAnew_0 7 rfl rfl)
theorem dX1_valuesAnew_9 : decode cX1_valuesAnew 9 = .ok (.iload_n 2, 1) := dk_28 (dk_at dksX1_valuesAnew_0 9 rfl rfl)
theorem dX1_valuesAnew_10 : decode cX1_valuesAnew 10 = .ok (.invokestatic 133, 3) := dk_184 0 133 (dk_at dksX1_valuesAnew_0 10 rfl rfl)
theorem dX1_valuesAnew_13 : decode cX1_valuesAnew 13 = .ok (.pop, 1) := dk_87 (dk_at dksX1_valuesAnew_0 13 rfl rfl)
theorem dX1_valuesAnew_14 : decode cX1_valuesAnew 14 = .ok (.aload_n 0, 1) := dk_42 (dk_at dksX1_valuesAnew_0 14 rfl rfl)
theorem dX1_valuesAnew_15 : decode cX1_valuesAnew 15 = .ok (.iload_n 3, 1) := dk_29 (dk_at dksX1_valuesAnew_0 15 rfl rfl)
theorem dX1_valuesAnew_16 : decode cX1_valuesAnew 16 = .ok (.invokevirtual 191, 3) := dk_182 0 191 (dk_at dksX1_valuesAnew_0 16 rfl rfl)
theorem dX1_valuesAnew_19 : decode cX1_valuesAnew 19 = .ok (.pop, 1) := dk_87 (dk_at dksX1_valuesAnew_0 19 rfl rfl)
theorem dX1_valuesAnew_20 : decode cX1_valuesAnew 20 = .ok (.aload_n 0, 1) := dk_42 (dk_at dksX1_valuesAnew_0 20 rfl rfl)
theorem dX1_valuesAnew_21 : decode cX1_valuesAnew 21 = .ok (.aload 4, 2) := dk_25 4 (dk_at dksX1_valuesAnew_0 21 rfl rfl)
theorem dX1_valuesAnew_23 : decode cX1_valuesAnew 23 = .ok (.invokevirtual 484, 3) := dk_182 1 228 (dk_at dksX1_valuesAnew_1 0 rfl rfl)
theorem dX1_valuesAnew_26 : decode cX1_valuesAnew 26 = .ok (.getfield 128, 3) := dk_180 0 128 (dk_at dksX1_valuesAnew_1 3 rfl rfl)
theorem dX1_valuesAnew_29 : decode cX1_valuesAnew 29 = .ok (.iload_n 2, 1) := dk_28 (dk_at dksX1_valuesAnew_1 6 rfl rfl)
theorem dX1_valuesAnew_30 : decode cX1_valuesAnew 30 = .ok (.aaload, 1) := dk_50 (dk_at dksX1_valuesAnew_1 7 rfl rfl)
theorem dX1_valuesAnew_31 : decode cX1_valuesAnew 31 = .ok (.iload_n 3, 1) := dk_29 (dk_at dksX1_valuesAnew_1 8 rfl rfl)
theorem dX1_valuesAnew_32 : decode cX1_valuesAnew 32 = .ok (.invokevirtual 282, 3) := dk_182 1 26 (dk_at dksX1_valuesAnew_1 9 rfl rfl)
theorem dX1_valuesAnew_35 : decode cX1_valuesAnew 35 = .ok (.invokeinterface 299 1, 5) := by decide +kernel
theorem dX1_valuesAnew_40 : decode cX1_valuesAnew 40 = .ok (.ireturn, 1) := dk_172 (dk_at dksX1_valuesAnew_1 17 rfl rfl)
def fX1_valuesAnew (e : Nat → Nat) (N : Nat) (m : Mm) (v0 : Option Nat) (v1 : Int32) (v2 : Int32) (v3 : Int32) : Rs (Int32 ⊕ Nat) := ck_ m v0 1 (bd_ (fX1_at e N m v0 v1) (xf_ (fun x1 m1 => bd_ (fX1_liveAt e N m1 x1 v2) (xf_ (fun x2 m2 => ck_ m2 v0 1 (bd_ (fX1_attributeAt e N m2 v0 v3) (xf_ (fun x3 m3 => ck_ m3 v0 1 (bd_ (fX1_anew e N m3 v0 x1) (fun x4 m4 => gr_ m4 x4 2 6 (fun x5 => ar_ m4 x5 205 v2 (fun x6 => ck_ m4 x6 3 (bd_ (fX3_valuesOf e N m4 x6 v3) (fun x7 m5 => ck_ m5 x7 21 (bd_ (fJ38_size_t21 e N m5 x7) (fun x8 m6 => rt_ (.inl x8) m6))))))))))))))))
abbrev cX0_valuesAnew : ByteArray := method_33_code
def yX0_valuesAnew : MethodName := ⟨RX0, "valuesAnew", "(LMasterTree;III[J)I"⟩
def dkwX0_valuesAnew_0 : List UInt8 := [25, 4, 3, 42, 27, 28, 29, 182, 0, 113, 133, 80, 167, 0, 7, 58, 5, 4, 172, 3, 172]
abbrev dktX0_valuesAnew_0 : List UInt8 := dkwX0_valuesAnew_0 ++ []
theorem dksX0_valuesAnew_0 : cX0_valuesAnew.data.toList.drop 0 = dktX0_valuesAnew_0 := by decide +kernel
theorem dX0_valuesAnew_0 : decode cX0_valuesAnew 0 = .ok (.aload 4, 2) := dk_25 4 (dk_at dksX0_valuesAnew_0 0 rfl rfl)
theorem dX0_valuesAnew_2 : decode cX0_valuesAnew 2 = .ok (.iconst 0, 1) := dk_3 (dk_at dksX0_valuesAnew_0 2 rfl rfl)
theorem dX0_valuesAnew_3 : decode cX0_valuesAnew 3 = .ok (.aload_n 0, 1) := dk_42 (dk_at dksX0_valuesAnew_0 3 rfl rfl)
theorem dX0_valuesAnew_4 : decode cX0_valuesAnew 4 = .ok (.iload_n 1, 1) := dk_27 (dk_at dksX0_valuesAnew_0 4 rfl rfl)
theorem dX0_valuesAnew_5 : decode cX0_valuesAnew 5 = .ok (.iload_n 2, 1) := dk_28 (dk_at dksX0_valuesAnew_0 5 rfl rfl)
theorem dX0_valuesAnew_6 : decode cX0_valuesAnew 6 = .ok (.iload_n 3, 1) := dk_29 (dk_at dksX0_valuesAnew_0 6 rfl rfl)
theorem dX0_valuesAnew_7 : decode cX0_valuesAnew 7 = .ok (.invokevirtual 113, 3) := dk_182 0 113 (dk_at dksX0_valuesAnew_0 7 rfl rfl)
theorem dX0_valuesAnew_10 : decode cX0_valuesAnew 10 = .ok (.i2l, 1) := dk_133 (dk_at dksX0_valuesAnew_0 10 rfl rfl)
theorem dX0_valuesAnew_11 : decode cX0_valuesAnew 11 = .ok (.lastore, 1) := dk_80 (dk_at dksX0_valuesAnew_0 11 rfl rfl)
theorem dX0_valuesAnew_12 : decode cX0_valuesAnew 12 = .ok (.goto 7, 3) := dk_167 0 7 (dk_at dksX0_valuesAnew_0 12 rfl rfl)
theorem dX0_valuesAnew_15 : decode cX0_valuesAnew 15 = .ok (.astore 5, 2) := dk_58 5 (dk_at dksX0_valuesAnew_0 15 rfl rfl)
theorem dX0_valuesAnew_17 : decode cX0_valuesAnew 17 = .ok (.iconst 1, 1) := dk_4 (dk_at dksX0_valuesAnew_0 17 rfl rfl)
theorem dX0_valuesAnew_18 : decode cX0_valuesAnew 18 = .ok (.ireturn, 1) := dk_172 (dk_at dksX0_valuesAnew_0 18 rfl rfl)
theorem dX0_valuesAnew_19 : decode cX0_valuesAnew 19 = .ok (.iconst 0, 1) := dk_3 (dk_at dksX0_valuesAnew_0 19 rfl rfl)
theorem dX0_valuesAnew_20 : decode cX0_valuesAnew 20 = .ok (.ireturn, 1) := dk_172 (dk_at dksX0_valuesAnew_0 20 rfl rfl)
def fX0_valuesAnew (e : Nat → Nat) (N : Nat) (m : Mm) (v0 : Option Nat) (v1 : Int32) (v2 : Int32) (v3 : Int32) (v4 : Option Nat) : Rs (Int32) := ck_ m v0 1 (bd_ (fX1_valuesAnew e N m v0 v1 v2 v3) (ch_ (fun x1 m1 => bj_ m1 v4 203 0 ((x1 : Int32).toInt64) (fun m2 => rt_ 0 m2)) (fun i_ m0 => if i_ = 0 then rt_ 1 m0 else none)))
abbrev cX1_linkOf : ByteArray := prog_1_method_58_code
def yX1_linkOf : MethodName := ⟨RX1, "linkOf", "(II)I"⟩
def dkwX1_linkOf_0 : List UInt8 := [42, 27, 182, 0, 183, 28, 184, 0, 133, 180, 1, 93, 172]
abbrev dktX1_linkOf_0 : List UInt8 := dkwX1_linkOf_0 ++ []
theorem dksX1_linkOf_0 : cX1_linkOf.data.toList.drop 0 = dktX1_linkOf_0 := by decide +kernel
theorem dX1_linkOf_0 : decode cX1_linkOf 0 = .ok (.aload_n 0, 1) := dk_42 (dk_at dksX1_linkOf_0 0 rfl rfl)
theorem dX1_linkOf_1 : decode cX1_linkOf 1 = .ok (.iload_n 1, 1) := dk_27 (dk_at dksX1_linkOf_0 1 rfl rfl)
theorem dX1_linkOf_2 : decode cX1_linkOf 2 = .ok (.invokevirtual 183, 3) := dk_182 0 183 (dk_at dksX1_linkOf_0 2 rfl rfl)
theorem dX1_linkOf_5 : decode cX1_linkOf 5 = .ok (.iload_n 2, 1) := dk_28 (dk_at dksX1_linkOf_0 5 rfl rfl)
theorem dX1_linkOf_6 : decode cX1_linkOf 6 = .ok (.invokestatic 133, 3) := dk_184 0 133 (dk_at dksX1_linkOf_0 6 rfl rfl)
theorem dX1_linkOf_9 : decode cX1_linkOf 9 = .ok (.getfield 349, 3) := dk_180 1 93 (dk_at dksX1_linkOf_0 9 rfl rfl)
theorem dX1_linkOf_12 : decode cX1_linkOf 12 = .ok (.ireturn, 1) := dk_172 (dk_at dksX1_linkOf_0 12 rfl rfl)
def fX1_linkOf (e : Nat → Nat) (N : Nat) (m : Mm) (v0 : Option Nat) (v1 : Int32) (v2 : Int32) : Rs (Int32 ⊕ Nat) := ck_ m v0 1 (bd_ (fX1_at e N m v0 v1) (xf_ (fun x1 m1 => bd_ (fX1_liveAt e N m1 x1 v2) (xf_ (fun x2 m2 => gi_ m2 x2 3 6 (fun x3 => rt_ (.inl x3) m2))))))
abbrev cX0_linkOf : ByteArray := method_34_code
def yX0_linkOf : MethodName := ⟨RX0, "linkOf", "(LMasterTree;II[J)I"⟩
def dkwX0_linkOf_0 : List UInt8 := [45, 3, 42, 27, 28, 182, 0, 116, 133, 80, 167, 0, 7, 58, 4, 4, 172, 3, 172]
abbrev dktX0_linkOf_0 : List UInt8 := dkwX0_linkOf_0 ++ []
theorem dksX0_linkOf_0 : cX0_linkOf.data.toList.drop 0 = dktX0_linkOf_0 := by decide +kernel
theorem dX0_linkOf_0 : decode cX0_linkOf 0 = .ok (.aload_n 3, 1) := dk_45 (dk_at dksX0_linkOf_0 0 rfl rfl)
theorem dX0_linkOf_1 : decode cX0_linkOf 1 = .ok (.iconst 0, 1) := dk_3 (dk_at dksX0_linkOf_0 1 rfl rfl)
theorem dX0_linkOf_2 : decode cX0_linkOf 2 = .ok (.aload_n 0, 1) := dk_42 (dk_at dksX0_linkOf_0 2 rfl rfl)
theorem dX0_linkOf_3 : decode cX0_linkOf 3 = .ok (.iload_n 1, 1) := dk_27 (dk_at dksX0_linkOf_0 3 rfl rfl)
theorem dX0_linkOf_4 : decode cX0_linkOf 4 = .ok (.iload_n 2, 1) := dk_28 (dk_at dksX0_linkOf_0 4 rfl rfl)
theorem dX0_linkOf_5 : decode cX0_linkOf 5 = .ok (.invokevirtual 116, 3) := dk_182 0 116 (dk_at dksX0_linkOf_0 5 rfl rfl)
theorem dX0_linkOf_8 : decode cX0_linkOf 8 = .ok (.i2l, 1) := dk_133 (dk_at dksX0_linkOf_0 8 rfl rfl)
theorem dX0_linkOf_9 : decode cX0_linkOf 9 = .ok (.lastore, 1) := dk_80 (dk_at dksX0_linkOf_0 9 rfl rfl)
theorem dX0_linkOf_10 : decode cX0_linkOf 10 = .ok (.goto 7, 3) := dk_167 0 7 (dk_at dksX0_linkOf_0 10 rfl rfl)
theorem dX0_linkOf_13 : decode cX0_linkOf 13 = .ok (.astore 4, 2) := dk_58 4 (dk_at dksX0_linkOf_0 13 rfl rfl)
theorem dX0_linkOf_15 : decode cX0_linkOf 15 = .ok (.iconst 1, 1) := dk_4 (dk_at dksX0_linkOf_0 15 rfl rfl)
theorem dX0_linkOf_16 : decode cX0_linkOf 16 = .ok (.ireturn, 1) := dk_172 (dk_at dksX0_linkOf_0 16 rfl rfl)
theorem dX0_linkOf_17 : decode cX0_linkOf 17 = .ok (.iconst 0, 1) := dk_3 (dk_at dksX0_linkOf_0 17 rfl rfl)
theorem dX0_linkOf_18 : decode cX0_linkOf 18 = .ok (.ireturn, 1) := dk_172 (dk_at dksX0_linkOf_0 18 rfl rfl)
def fX0_linkOf (e : Nat → Nat) (N : Nat) (m : Mm) (v0 : Option Nat) (v1 : Int32) (v2 : Int32) (v3 : Option Nat) : Rs (Int32) := ck_ m v0 1 (bd_ (fX1_linkOf e N m v0 v1 v2) (ch_ (fun x1 m1 => bj_ m1 v3 203 0 ((x1 : Int32).toInt64) (fun m2 => rt_ 0 m2)) (fun i_ m0 => if i_ = 0 then rt_ 1 m0 else none)))
abbrev cX1_may : ByteArray := prog_1_method_59_code
def yX1_may : MethodName := ⟨RX1, "may", "(IIII)Z"⟩
def dkwX1_may_1 : List UInt8 := [21, 4, 5, 19, 1, 103, 184, 0, 109, 87, 25, 5, 28, 29, 21, 4, 182, 0, 209, 172]
abbrev dktX1_may_1 : List UInt8 := dkwX1_may_1 ++ []
def dkwX1_may_0 : List UInt8 := [42, 27, 182, 0, 183, 58, 5, 28, 16, 6, 18, 187, 184, 0, 109, 87, 25, 5, 29, 184, 0, 133, 87]
abbrev dktX1_may_0 : List UInt8 := dkwX1_may_0 ++ dktX1_may_1
theorem dksX1_may_0 : cX1_may.data.toList.drop 0 = dktX1_may_0 := by decide +kernel
theorem dksX1_may_1 : cX1_may.data.toList.drop 23 = dktX1_may_1 := dk_seg dksX1_may_0 23 rfl rfl
theorem dX1_may_0 : decode cX1_may 0 = .ok (.aload_n 0, 1) := dk_42 (dk_at dksX1_may_0 0 rfl rfl)
theorem dX1_may_1 : decode cX1_may 1 = .ok (.iload_n 1, 1) := dk_27 (dk_at dksX1_may_0 1 rfl rfl)
theorem dX1_may_2 : decode cX1_may 2 = .ok (.invokevirtual 183, 3) := dk_182 0 183 (dk_at dksX1_may_0 2 rfl rfl)
theorem dX1_may_5 : decode cX1_may 5 = .ok (.astore 5, 2) := dk_58 5 (dk_at dksX1_may_0 5 rfl rfl)
theorem dX1_may_7 : decode cX1_may 7 = .ok (.iload_n 2, 1) := dk_28 (dk_at dksX1_may_0 7 rfl rfl)
theorem dX1_may_8 : decode cX1_may 8 = .ok (.bipush 6, 2) := dk_16 6 (dk_at dksX1_may_0 8 rfl rfl)
theorem dX1_may_10 : decode cX1_may 10 = .ok (.ldc 187, 2) := dk_18 187 (dk_at dksX1_may_0 10 rfl rfl)
theorem dX1_may_12 : decode cX1_may 12 = .ok (.invokestatic 109, 3) := dk_184 0 109 (dk_at dksX1_may_0 12 rfl rfl)
theorem dX1_may_15 : decode cX1_may 15 = .ok (.pop, 1) := dk_87 (dk_at dksX1_may_0 15 rfl rfl)
theorem dX1_may_16 : decode cX1_may 16 = .ok (.aload 5, 2) := dk_25 5 (dk_at dksX1_may_0 16 rfl rfl)
theorem dX1_may_18 : decode cX1_may 18 = .ok (.iload_n 3, 1) := dk_29 (dk_at dksX1_may_0 18 rfl rfl)
theorem dX1_may_19 : decode cX1_may 19 = .ok (.invokestatic 133, 3) := dk_184 0 133 (dk_at dksX1_may_0 19 rfl rfl)
theorem dX1_may_22 : decode cX1_may 22 = .ok (.pop, 1) := dk_87 (dk_at dksX1_may_0 22 rfl rfl)
theorem dX1_may_23 : decode cX1_may 23 = .ok (.iload 4, 2) := dk_21 4 (dk_at dksX1_may_1 0 rfl rfl)
theorem dX1_may_25 : decode cX1_may 25 = .ok (.iconst 2, 1) := dk_5 (dk_at dksX1_may_1 2 rfl rfl)
theorem dX1_may_26 : decode cX1_may 26 = .ok (.ldc_w 359, 3) := dk_19 1 103 (dk_at dksX1_may_1 3 rfl rfl)
theorem dX1_may_29 : decode cX1_may 29 = .ok (.invokestatic 109, 3) := dk_184 0 109 (dk_at dksX1_may_1 6 rfl rfl)
theorem dX1_may_32 : decode cX1_may 32 = .ok (.pop, 1) := dk_87 (dk_at dksX1_may_1 9 rfl rfl)
theorem dX1_may_33 : decode cX1_may 33 = .ok (.aload 5, 2) := dk_25 5 (dk_at dksX1_may_1 10 rfl rfl)
theorem dX1_may_35 : decode cX1_may 35 = .ok (.iload_n 2, 1) := dk_28 (dk_at dksX1_may_1 12 rfl rfl)
theorem dX1_may_36 : decode cX1_may 36 = .ok (.iload_n 3, 1) := dk_29 (dk_at dksX1_may_1 13 rfl rfl)
theorem dX1_may_37 : decode cX1_may 37 = .ok (.iload 4, 2) := dk_21 4 (dk_at dksX1_may_1 14 rfl rfl)
theorem dX1_may_39 : decode cX1_may 39 = .ok (.invokevirtual 209, 3) := dk_182 0 209 (dk_at dksX1_may_1 16 rfl rfl)
theorem dX1_may_42 : decode cX1_may 42 = .ok (.ireturn, 1) := dk_172 (dk_at dksX1_may_1 19 rfl rfl)
def fX1_may (e : Nat → Nat) (N : Nat) (m : Mm) (v0 : Option Nat) (v1 : Int32) (v2 : Int32) (v3 : Int32) (v4 : Int32) : Rs (Int32 ⊕ Nat) := ck_ m v0 1 (bd_ (fX1_at e N m v0 v1) (xf_ (fun x1 m1 => bd_ (fX1_place e N m1 v2 6 (some (e (100 + 8)))) (xf_ (fun x2 m2 => bd_ (fX1_liveAt e N m2 x1 v3) (xf_ (fun x3 m3 => bd_ (fX1_place e N m3 v4 2 (some (e (100 + 31)))) (xf_ (fun x4 m4 => ck_ m4 x1 2 (bd_ (fX2_may e N m4 x1 v2 v3 v4) (fun x5 m5 => rz_ x5 (.inl x5) m5)))))))))))
abbrev cX0_may : ByteArray := method_35_code
def yX0_may : MethodName := ⟨RX0, "may", "(LMasterTree;IIII[J)I"⟩
def dkwX0_may_1 : List UInt8 := [58, 6, 4, 172, 3, 172]
abbrev dktX0_may_1 : List UInt8 := dkwX0_may_1 ++ []
def dkwX0_may_0 : List UInt8 := [25, 5, 3, 42, 27, 28, 29, 21, 4, 182, 0, 119, 153, 0, 7, 10, 167, 0, 4, 9, 80, 167, 0, 7]
abbrev dktX0_may_0 : List UInt8 := dkwX0_may_0 ++ dktX0_may_1
theorem dksX0_may_0 : cX0_may.data.toList.drop 0 = dktX0_may_0 := by decide +kernel
theorem dksX0_may_1 : cX0_may.data.toList.drop 24 = dktX0_may_1 := dk_seg dksX0_may_0 24 rfl rfl
theorem dX0_may_0 : decode cX0_may 0 = .ok (.aload 5, 2) := dk_25 5 (dk_at dksX0_may_0 0 rfl rfl)
theorem dX0_may_2 : decode cX0_may 2 = .ok (.iconst 0, 1) := dk_3 (dk_at dksX0_may_0 2 rfl rfl)
theorem dX0_may_3 : decode cX0_may 3 = .ok (.aload_n 0, 1) := dk_42 (dk_at dksX0_may_0 3 rfl rfl)
theorem dX0_may_4 : decode cX0_may 4 = .ok (.iload_n 1, 1) := dk_27 (dk_at dksX0_may_0 4 rfl rfl)
theorem dX0_may_5 : decode cX0_may 5 = .ok (.iload_n 2, 1) := dk_28 (dk_at dksX0_may_0 5 rfl rfl)
theorem dX0_may_6 : decode cX0_may 6 = .ok (.iload_n 3, 1) := dk_29 (dk_at dksX0_may_0 6 rfl rfl)
theorem dX0_may_7 : decode cX0_may 7 = .ok (.iload 4, 2) := dk_21 4 (dk_at dksX0_may_0 7 rfl rfl)
theorem dX0_may_9 : decode cX0_may 9 = .ok (.invokevirtual 119, 3) := dk_182 0 119 (dk_at dksX0_may_0 9 rfl rfl)
theorem dX0_may_12 : decode cX0_may 12 = .ok (.ifCond .eq 7, 3) := dk_153 0 7 (dk_at dksX0_may_0 12 rfl rfl)
theorem dX0_may_15 : decode cX0_may 15 = .ok (.lconst 1, 1) := dk_10 (dk_at dksX0_may_0 15 rfl rfl)
theorem dX0_may_16 : decode cX0_may 16 = .ok (.goto 4, 3) := dk_167 0 4 (dk_at dksX0_may_0 16 rfl rfl)
theorem dX0_may_19 : decode cX0_may 19 = .ok (.lconst 0, 1) := dk_9 (dk_at dksX0_may_0 19 rfl rfl)
theorem dX0_may_20 : decode cX0_may 20 = .ok (.lastore, 1) := dk_80 (dk_at dksX0_may_0 20 rfl rfl)
theorem dX0_may_21 : decode cX0_may 21 = .ok (.goto 7, 3) := dk_167 0 7 (dk_at dksX0_may_0 21 rfl rfl)
theorem dX0_may_24 : decode cX0_may 24 = .ok (.astore 6, 2) := dk_58 6 (dk_at dksX0_may_1 0 rfl rfl)
theorem dX0_may_26 : decode cX0_may 26 = .ok (.iconst 1, 1) := dk_4 (dk_at dksX0_may_1 2 rfl rfl)
theorem dX0_may_27 : decode cX0_may 27 = .ok (.ireturn, 1) := dk_172 (dk_at dksX0_may_1 3 rfl rfl)
theorem dX0_may_28 : decode cX0_may 28 = .ok (.iconst 0, 1) := dk_3 (dk_at dksX0_may_1 4 rfl rfl)
theorem dX0_may_29 : decode cX0_may 29 = .ok (.ireturn, 1) := dk_172 (dk_at dksX0_may_1 5 rfl rfl)
def fX0_may_b20 (e : Nat → Nat) (N : Nat) (m : Mm) (s0 : Option Nat) (s1 : Int32) (s2 : Int64) : Rs (Int32) := bj_ m s0 203 s1 s2 (fun m1 => rt_ 0 m1)
def fX0_may (e : Nat → Nat) (N : Nat) (m : Mm) (v0 : Option Nat) (v1 : Int32) (v2 : Int32) (v3 : Int32) (v4 : Int32) (v5 : Option Nat) : Rs (Int32) := ck_ m v0 1 (bd_ (fX1_may e N m v0 v1 v2 v3 v4) (ch_ (fun x1 m1 => if x1 = 0 then (fX0_may_b20 e N m1 v5 0 0) else (fX0_may_b20 e N m1 v5 0 1)) (fun i_ m0 => if i_ = 0 then rt_ 1 m0 else none)))
abbrev cX1_childAt : ByteArray := prog_1_method_60_code
def yX1_childAt : MethodName := ⟨RX1, "childAt", "(III)I"⟩
def dkwX1_childAt_2 : List UInt8 := [25, 4, 28, 25, 4, 21, 5, 182, 1, 59, 182, 1, 73, 54, 5, 132, 6, 1, 167, 255, 226, 21, 5, 172]
abbrev dktX1_childAt_2 : List UInt8 := dkwX1_childAt_2 ++ []
def dkwX1_childAt_1 : List UInt8 := [25, 4, 28, 2, 182, 1, 73, 54, 5, 3, 54, 6, 21, 6, 29, 162, 0, 30, 21, 5, 2, 159, 0, 24]
abbrev dktX1_childAt_1 : List UInt8 := dkwX1_childAt_1 ++ dktX1_childAt_2
def dkwX1_childAt_0 : List UInt8 := [42, 27, 182, 0, 183, 58, 4, 28, 16, 254, 159, 0, 10, 25, 4, 28, 184, 0, 133, 87, 29, 184, 1, 232]
abbrev dktX1_childAt_0 : List UInt8 := dkwX1_childAt_0 ++ dktX1_childAt_1
theorem dksX1_childAt_0 : cX1_childAt.data.toList.drop 0 = dktX1_childAt_0 := by decide +kernel
theorem dksX1_childAt_1 : cX1_childAt.data.toList.drop 24 = dktX1_childAt_1 := dk_seg dksX1_childAt_0 24 rfl rfl
theorem dksX1_childAt_2 : cX1_childAt.data.toList.drop 48 = dktX1_childAt_2 := dk_seg dksX1_childAt_1 24 rfl rfl
theorem dX1_childAt_0 : decode cX1_childAt 0 = .ok (.aload_n 0, 1) := dk_42 (dk_at dksX1_childAt_0 0 rfl rfl)
theorem dX1_childAt_1 : decode cX1_childAt 1 = .ok (.iload_n 1, 1) := dk_27 (dk_at dksX1_childAt_0 1 rfl rfl)
theorem dX1_childAt_2 : decode cX1_childAt 2 = .ok (.invokevirtual 183, 3) := dk_182 0 183 (dk_at dksX1_childAt_0 2 rfl rfl)
theorem dX1_childAt_5 : decode cX1_childAt 5 = .ok (.astore 4, 2) := dk_58 4 (dk_at dksX1_childAt_0 5 rfl rfl)
theorem dX1_childAt_7 : decode cX1_childAt 7 = .ok (.iload_n 2, 1) := dk_28 (dk_at dksX1_childAt_0 7 rfl rfl)
theorem dX1_childAt_8 : decode cX1_childAt 8 = .ok (.bipush (-2), 2) := dk_16 254 (dk_at dksX1_childAt_0 8 rfl rfl)
theorem dX1_childAt_10 : decode cX1_childAt 10 = .ok (.if_icmp .eq 10, 3) := dk_159 0 10 (dk_at dksX1_childAt_0 10 rfl rfl)
theorem dX1_childAt_13 : decode cX1_childAt 13 = .ok (.aload 4, 2) := dk_25 4 (dk_at dksX1_childAt_0 13 rfl rfl)
theorem dX1_childAt_15 : decode cX1_childAt 15 = .ok (.iload_n 2, 1) := dk_28 (dk_at dksX1_childAt_0 15 rfl rfl)
theorem dX1_childAt_16 : decode cX1_childAt 16 = .ok (.invokestatic 133, 3) := dk_184 0 133 (dk_at dksX1_childAt_0 16 rfl rfl)
theorem dX1_childAt_19 : decode cX1_childAt 19 = .ok (.pop, 1) := dk_87 (dk_at dksX1_childAt_0 19 rfl rfl)
theorem dX1_childAt_20 : decode cX1_childAt 20 = .ok (.iload_n 3, 1) := dk_29 (dk_at dksX1_childAt_0 20 rfl rfl)
theorem dX1_childAt_21 : decode cX1_childAt 21 = .ok (.invokestatic 488, 3) := dk_184 1 232 (dk_at dksX1_childAt_0 21 rfl rfl)
theorem dX1_childAt_24 : decode cX1_childAt 24 = .ok (.aload 4, 2) := dk_25 4 (dk_at dksX1_childAt_1 0 rfl rfl)
theorem dX1_childAt_26 : decode cX1_childAt 26 = .ok (.iload_n 2, 1) := dk_28 (dk_at dksX1_childAt_1 2 rfl rfl)
theorem dX1_childAt_27 : decode cX1_childAt 27 = .ok (.iconst (-1), 1) := dk_2 (dk_at dksX1_childAt_1 3 rfl rfl)
theorem dX1_childAt_28 : decode cX1_childAt 28 = .ok (.invokevirtual 329, 3) := dk_182 1 73 (dk_at dksX1_childAt_1 4 rfl rfl)
theorem dX1_childAt_31 : decode cX1_childAt 31 = .ok (.istore 5, 2) := dk_54 5 (dk_at dksX1_childAt_1 7 rfl rfl)
theorem dX1_childAt_33 : decode cX1_childAt 33 = .ok (.iconst 0, 1) := dk_3 (dk_at dksX1_childAt_1 9 rfl rfl)
theorem dX1_childAt_34 : decode cX1_childAt 34 = .ok (.istore 6, 2) := dk_54 6 (dk_at dksX1_childAt_1 10 rfl rfl)
theorem dX1_childAt_36 : decode cX1_childAt 36 = .ok (.iload 6, 2) := dk_21 6 (dk_at dksX1_childAt_1 12 rfl rfl)
theorem dX1_childAt_38 : decode cX1_childAt 38 = .ok (.iload_n 3, 1) := dk_29 (dk_at dksX1_childAt_1 14 rfl rfl)
theorem dX1_childAt_39 : decode cX1_childAt 39 = .ok (.if_icmp .ge 30, 3) := dk_162 0 30 (dk_at dksX1_childAt_1 15 rfl rfl)
theorem dX1_childAt_42 : decode cX1_childAt 42 = .ok (.iload 5, 2) := dk_21 5 (dk_at dksX1_childAt_1 18 rfl rfl)
theorem dX1_childAt_44 : decode cX1_childAt 44 = .ok (.iconst (-1), 1) := dk_2 (dk_at dksX1_childAt_1 20 rfl rfl)
theorem dX1_childAt_45 : decode cX1_childAt 45 = .ok (.if_icmp .eq 24, 3) := dk_159 0 24 (dk_at dksX1_childAt_1 21 rfl rfl)
theorem dX1_childAt_48 : decode cX1_childAt 48 = .ok (.aload 4, 2) := dk_25 4 (dk_at dksX1_childAt_2 0 rfl rfl)
theorem dX1_childAt_50 : decode cX1_childAt 50 = .ok (.iload_n 2, 1) := dk_28 (dk_at dksX1_childAt_2 2 rfl rfl)
theorem dX1_childAt_51 : decode cX1_childAt 51 = .ok (.aload 4, 2) := dk_25 4 (dk_at dksX1_childAt_2 3 rfl rfl)
theorem dX1_childAt_53 : decode cX1_childAt 53 = .ok (.iload 5, 2) := dk_21 5 (dk_at dksX1_childAt_2 5 rfl rfl)
theorem dX1_childAt_55 : decode cX1_childAt 55 = .ok (.invokevirtual 315, 3) := dk_182 1 59 (dk_at dksX1_childAt_2 7 rfl rfl)
theorem dX1_childAt_58 : decode cX1_childAt 58 = .ok (.invokevirtual 329, 3) := dk_182 1 73 (dk_at dksX1_childAt_2 10 rfl rfl)
theorem dX1_childAt_61 : decode cX1_childAt 61 = .ok (.istore 5, 2) := dk_54 5 (dk_at dksX1_childAt_2 13 rfl rfl)
theorem dX1_childAt_63 : decode cX1_childAt 63 = .ok (.iinc 6 1, 3) := dk_132 6 1 (dk_at dksX1_childAt_2 15 rfl rfl)
theorem dX1_childAt_66 : decode cX1_childAt 66 = .ok (.goto (-30), 3) := dk_167 255 226 (dk_at dksX1_childAt_2 18 rfl rfl)
theorem dX1_childAt_69 : decode cX1_childAt 69 = .ok (.iload 5, 2) := dk_21 5 (dk_at dksX1_childAt_2 21 rfl rfl)
theorem dX1_childAt_71 : decode cX1_childAt 71 = .ok (.ireturn, 1) := dk_172 (dk_at dksX1_childAt_2 23 rfl rfl)
def fX1_childAt_b69 (e : Nat → Nat) (N : Nat) (m : Mm) (v5 : Int32) : Rs (Int32 ⊕ Nat) := rt_ (.inl v5) m
def fX1_childAt_b36 (e : Nat → Nat) (N : Nat) : Nat → Mm → Int32 → Int32 → Option Nat → Int32 → Int32 → Rs (Int32 ⊕ Nat)
  | 0, _, _, _, _, _, _ => none
  | F + 1, m, v2, v3, v4, v5, v6 => if v6 < v3 then (if v5 = (-1) then (fX1_childAt_b69 e N m v5) else (ck_ m v4 2 (bd_ (fX2_shownName e N m v4 v5) (fun x1 m1 => ck_ m1 v4 2 (bd_ (fX2_next e N m1 v4 v2 x1) (fun x2 m2 => fX1_childAt_b36 e N F m2 v2 v3 v4 x2 (v6 + 1))))))) else (fX1_childAt_b69 e N m v5)
def fX1_childAt_b20 (e : Nat → Nat) (N : Nat) (m : Mm) (v2 : Int32) (v3 : Int32) (v4 : Option Nat) : Rs (Int32 ⊕ Nat) := bd_ (fX1_isIndex e N m v3) (xf_ (fun _ m1 => ck_ m1 v4 2 (bd_ (fX2_next e N m1 v4 v2 (-1)) (fun x1 m2 => fX1_childAt_b36 e N N m2 v2 v3 v4 x1 0))))
def fX1_childAt (e : Nat → Nat) (N : Nat) (m : Mm) (v0 : Option Nat) (v1 : Int32) (v2 : Int32) (v3 : Int32) : Rs (Int32 ⊕ Nat) := ck_ m v0 1 (bd_ (fX1_at e N m v0 v1) (xf_ (fun x1 m1 => if v2 = (-2) then (fX1_childAt_b20 e N m1 v2 v3 x1) else (bd_ (fX1_liveAt e N m1 x1 v2) (xf_ (fun x2 m2 => fX1_childAt_b20 e N m2 v2 v3 x1))))))
abbrev cX0_childAt : ByteArray := method_36_code
def yX0_childAt : MethodName := ⟨RX0, "childAt", "(LMasterTree;III[J)I"⟩
def dkwX0_childAt_0 : List UInt8 := [25, 4, 3, 42, 27, 28, 29, 182, 0, 123, 133, 80, 167, 0, 7, 58, 5, 4, 172, 3, 172]
abbrev dktX0_childAt_0 : List UInt8 := dkwX0_childAt_0 ++ []
theorem dksX0_childAt_0 : cX0_childAt.data.toList.drop 0 = dktX0_childAt_0 := by decide +kernel
theorem dX0_childAt_0 : decode cX0_childAt 0 = .ok (.aload 4, 2) := dk_25 4 (dk_at dksX0_childAt_0 0 rfl rfl)
theorem dX0_childAt_2 : decode cX0_childAt 2 = .ok (.iconst 0, 1) := dk_3 (dk_at dksX0_childAt_0 2 rfl rfl)
theorem dX0_childAt_3 : decode cX0_childAt 3 = .ok (.aload_n 0, 1) := dk_42 (dk_at dksX0_childAt_0 3 rfl rfl)
theorem dX0_childAt_4 : decode cX0_childAt 4 = .ok (.iload_n 1, 1) := dk_27 (dk_at dksX0_childAt_0 4 rfl rfl)
theorem dX0_childAt_5 : decode cX0_childAt 5 = .ok (.iload_n 2, 1) := dk_28 (dk_at dksX0_childAt_0 5 rfl rfl)
theorem dX0_childAt_6 : decode cX0_childAt 6 = .ok (.iload_n 3, 1) := dk_29 (dk_at dksX0_childAt_0 6 rfl rfl)
theorem dX0_childAt_7 : decode cX0_childAt 7 = .ok (.invokevirtual 123, 3) := dk_182 0 123 (dk_at dksX0_childAt_0 7 rfl rfl)
theorem dX0_childAt_10 : decode cX0_childAt 10 = .ok (.i2l, 1) := dk_133 (dk_at dksX0_childAt_0 10 rfl rfl)
theorem dX0_childAt_11 : decode cX0_childAt 11 = .ok (.lastore, 1) := dk_80 (dk_at dksX0_childAt_0 11 rfl rfl)
theorem dX0_childAt_12 : decode cX0_childAt 12 = .ok (.goto 7, 3) := dk_167 0 7 (dk_at dksX0_childAt_0 12 rfl rfl)
theorem dX0_childAt_15 : decode cX0_childAt 15 = .ok (.astore 5, 2) := dk_58 5 (dk_at dksX0_childAt_0 15 rfl rfl)
theorem dX0_childAt_17 : decode cX0_childAt 17 = .ok (.iconst 1, 1) := dk_4 (dk_at dksX0_childAt_0 17 rfl rfl)
theorem dX0_childAt_18 : decode cX0_childAt 18 = .ok (.ireturn, 1) := dk_172 (dk_at dksX0_childAt_0 18 rfl rfl)
theorem dX0_childAt_19 : decode cX0_childAt 19 = .ok (.iconst 0, 1) := dk_3 (dk_at dksX0_childAt_0 19 rfl rfl)
theorem dX0_childAt_20 : decode cX0_childAt 20 = .ok (.ireturn, 1) := dk_172 (dk_at dksX0_childAt_0 20 rfl rfl)
def fX0_childAt (e : Nat → Nat) (N : Nat) (m : Mm) (v0 : Option Nat) (v1 : Int32) (v2 : Int32) (v3 : Int32) (v4 : Option Nat) : Rs (Int32) := ck_ m v0 1 (bd_ (fX1_childAt e N m v0 v1 v2 v3) (ch_ (fun x1 m1 => bj_ m1 v4 203 0 ((x1 : Int32).toInt64) (fun m2 => rt_ 0 m2)) (fun i_ m0 => if i_ = 0 then rt_ 1 m0 else none)))
abbrev cX2_isIncomplete : ByteArray := prog_21_method_12_code
def yX2_isIncomplete : MethodName := ⟨RX2, "isIncomplete", "(I)Z"⟩
def dkwX2_isIncomplete_4 : List UInt8 := [167, 0, 4, 3, 61, 132, 3, 1, 167, 255, 161, 28, 172]
abbrev dktX2_isIncomplete_4 : List UInt8 := dkwX2_isIncomplete_4 ++ []
def dkwX2_isIncomplete_3 : List UInt8 := [153, 0, 25, 42, 180, 0, 20, 27, 50, 29, 182, 0, 205, 185, 0, 209, 1, 0, 153, 0, 7, 4]
abbrev dktX2_isIncomplete_3 : List UInt8 := dkwX2_isIncomplete_3 ++ dktX2_isIncomplete_4
def dkwX2_isIncomplete_2 : List UInt8 := [180, 0, 202, 29, 122, 4, 126, 4, 160, 0, 7, 4, 167, 0, 4, 3, 54, 4, 28, 154, 0, 26, 21, 4]
abbrev dktX2_isIncomplete_2 : List UInt8 := dkwX2_isIncomplete_2 ++ dktX2_isIncomplete_3
def dkwX2_isIncomplete_1 : List UInt8 := [180, 0, 51, 42, 180, 0, 20, 27, 50, 180, 0, 116, 180, 0, 120, 185, 0, 197, 2, 0, 192, 0, 200]
abbrev dktX2_isIncomplete_1 : List UInt8 := dkwX2_isIncomplete_1 ++ dktX2_isIncomplete_2
def dkwX2_isIncomplete_0 : List UInt8 := [3, 61, 3, 62, 29, 42, 180, 0, 48, 185, 0, 192, 1, 0, 162, 0, 88, 27, 153, 0, 84, 42]
abbrev dktX2_isIncomplete_0 : List UInt8 := dkwX2_isIncomplete_0 ++ dktX2_isIncomplete_1
theorem dksX2_isIncomplete_0 : cX2_isIncomplete.data.toList.drop 0 = dktX2_isIncomplete_0 := by decide +kernel
theorem dksX2_isIncomplete_1 : cX2_isIncomplete.data.toList.drop 22 = dktX2_isIncomplete_1 := dk_seg dksX2_isIncomplete_0 22 rfl rfl
theorem dksX2_isIncomplete_2 : cX2_isIncomplete.data.toList.drop 45 = dktX2_isIncomplete_2 := dk_seg dksX2_isIncomplete_1 23 rfl rfl
theorem dksX2_isIncomplete_3 : cX2_isIncomplete.data.toList.drop 69 = dktX2_isIncomplete_3 := dk_seg dksX2_isIncomplete_2 24 rfl rfl
theorem dksX2_isIncomplete_4 : cX2_isIncomplete.data.toList.drop 91 = dktX2_isIncomplete_4 := dk_seg dksX2_isIncomplete_3 22 rfl rfl
theorem dX2_isIncomplete_0 : decode cX2_isIncomplete 0 = .ok (.iconst 0, 1) := dk_3 (dk_at dksX2_isIncomplete_0 0 rfl rfl)
theorem dX2_isIncomplete_1 : decode cX2_isIncomplete 1 = .ok (.istore_n 2, 1) := dk_61 (dk_at dksX2_isIncomplete_0 1 rfl rfl)
theorem dX2_isIncomplete_2 : decode cX2_isIncomplete 2 = .ok (.iconst 0, 1) := dk_3 (dk_at dksX2_isIncomplete_0 2 rfl rfl)
theorem dX2_isIncomplete_3 : decode cX2_isIncomplete 3 = .ok (.istore_n 3, 1) := dk_62 (dk_at dksX2_isIncomplete_0 3 rfl rfl)
theorem dX2_isIncomplete_4 : decode cX2_isIncomplete 4 = .ok (.iload_n 3, 1) := dk_29 (dk_at dksX2_isIncomplete_0 4 rfl rfl)
theorem dX2_isIncomplete_5 : decode cX2_isIncomplete 5 = .ok (.aload_n 0, 1) := dk_42 (dk_at dksX2_isIncomplete_0 5 rfl rfl)
theorem dX2_isIncomplete_6 : decode cX2_isIncomplete 6 = .ok (.getfield 48, 3) := dk_180 0 48 (dk_at dksX2_isIncomplete_0 6 rfl rfl)
theorem dX2_isIncomplete_9 : decode cX2_isIncomplete 9 = .ok (.invokeinterface 192 1, 5) := by decide +kernel
theorem dX2_isIncomplete_14 : decode cX2_isIncomplete 14 = .ok (.if_icmp .ge 88, 3) := dk_162 0 88 (dk_at dksX2_isIncomplete_0 14 rfl rfl)
theorem dX2_isIncomplete_17 : decode cX2_isIncomplete 17 = .ok (.iload_n 1, 1) := dk_27 (dk_at dksX2_isIncomplete_0 17 rfl rfl)
theorem dX2_isIncomplete_18 : decode cX2_isIncomplete 18 = .ok (.ifCond .eq 84, 3) := dk_153 0 84 (dk_at dksX2_isIncomplete_0 18 rfl rfl)
theorem dX2_isIncomplete_21 : decode cX2_isIncomplete 21 = .ok (.aload_n 0, 1) := dk_42 (dk_at dksX2_isIncomplete_0 21 rfl rfl)
theorem dX2_isIncomplete_22 : decode cX2_isIncomplete 22 = .ok (.getfield 51, 3) := dk_180 0 51 (dk_at dksX2_isIncomplete_1 0 rfl rfl)
theorem dX2_isIncomplete_25 : decode cX2_isIncomplete 25 = .ok (.aload_n 0, 1) := dk_42 (dk_at dksX2_isIncomplete_1 3 rfl rfl)
theorem dX2_isIncomplete_26 : decode cX2_isIncomplete 26 = .ok (.getfield 20, 3) := dk_180 0 20 (dk_at dksX2_isIncomplete_1 4 rfl rfl)
theorem dX2_isIncomplete_29 : decode cX2_isIncomplete 29 = .ok (.iload_n 1, 1) := dk_27 (dk_at dksX2_isIncomplete_1 7 rfl rfl)
theorem dX2_isIncomplete_30 : decode cX2_isIncomplete 30 = .ok (.aaload, 1) := dk_50 (dk_at dksX2_isIncomplete_1 8 rfl rfl)
theorem dX2_isIncomplete_31 : decode cX2_isIncomplete 31 = .ok (.getfield 116, 3) := dk_180 0 116 (dk_at dksX2_isIncomplete_1 9 rfl rfl)
theorem dX2_isIncomplete_34 : decode cX2_isIncomplete 34 = .ok (.getfield 120, 3) := dk_180 0 120 (dk_at dksX2_isIncomplete_1 12 rfl rfl)
theorem dX2_isIncomplete_37 : decode cX2_isIncomplete 37 = .ok (.invokeinterface 197 2, 5) := by decide +kernel
theorem dX2_isIncomplete_42 : decode cX2_isIncomplete 42 = .ok (.checkcast 200, 3) := dk_192 0 200 (dk_at dksX2_isIncomplete_1 20 rfl rfl)
theorem dX2_isIncomplete_45 : decode cX2_isIncomplete 45 = .ok (.getfield 202, 3) := dk_180 0 202 (dk_at dksX2_isIncomplete_2 0 rfl rfl)
theorem dX2_isIncomplete_48 : decode cX2_isIncomplete 48 = .ok (.iload_n 3, 1) := dk_29 (dk_at dksX2_isIncomplete_2 3 rfl rfl)
theorem dX2_isIncomplete_49 : decode cX2_isIncomplete 49 = .ok (.ishr, 1) := dk_122 (dk_at dksX2_isIncomplete_2 4 rfl rfl)
theorem dX2_isIncomplete_50 : decode cX2_isIncomplete 50 = .ok (.iconst 1, 1) := dk_4 (dk_at dksX2_isIncomplete_2 5 rfl rfl)
theorem dX2_isIncomplete_51 : decode cX2_isIncomplete 51 = .ok (.iand, 1) := dk_126 (dk_at dksX2_isIncomplete_2 6 rfl rfl)
theorem dX2_isIncomplete_52 : decode cX2_isIncomplete 52 = .ok (.iconst 1, 1) := dk_4 (dk_at dksX2_isIncomplete_2 7 rfl rfl)
theorem dX2_isIncomplete_53 : decode cX2_isIncomplete 53 = .ok (.if_icmp .ne 7, 3) := dk_160 0 7 (dk_at dksX2_isIncomplete_2 8 rfl rfl)
theorem dX2_isIncomplete_56 : decode cX2_isIncomplete 56 = .ok (.iconst 1, 1) := dk_4 (dk_at dksX2_isIncomplete_2 11 rfl rfl)
theorem dX2_isIncomplete_57 : decode cX2_isIncomplete 57 = .ok (.goto 4, 3) := dk_167 0 4 (dk_at dksX2_isIncomplete_2 12 rfl rfl)
theorem dX2_isIncomplete_60 : decode cX2_isIncomplete 60 = .ok (.iconst 0, 1) := dk_3 (dk_at dksX2_isIncomplete_2 15 rfl rfl)
theorem dX2_isIncomplete_61 : decode cX2_isIncomplete 61 = .ok (.istore 4, 2) := dk_54 4 (dk_at dksX2_isIncomplete_2 16 rfl rfl)
theorem dX2_isIncomplete_63 : decode cX2_isIncomplete 63 = .ok (.iload_n 2, 1) := dk_28 (dk_at dksX2_isIncomplete_2 18 rfl rfl)
theorem dX2_isIncomplete_64 : decode cX2_isIncomplete 64 = .ok (.ifCond .ne 26, 3) := dk_154 0 26 (dk_at dksX2_isIncomplete_2 19 rfl rfl)
theorem dX2_isIncomplete_67 : decode cX2_isIncomplete 67 = .ok (.iload 4, 2) := dk_21 4 (dk_at dksX2_isIncomplete_2 22 rfl rfl)
theorem dX2_isIncomplete_69 : decode cX2_isIncomplete 69 = .ok (.ifCond .eq 25, 3) := dk_153 0 25 (dk_at dksX2_isIncomplete_3 0 rfl rfl)
theorem dX2_isIncomplete_72 : decode cX2_isIncomplete 72 = .ok (.aload_n 0, 1) := dk_42 (dk_at dksX2_isIncomplete_3 3 rfl rfl)
theorem dX2_isIncomplete_73 : decode cX2_isIncomplete 73 = .ok (.getfield 20, 3) := dk_180 0 20 (dk_at dksX2_isIncomplete_3 4 rfl rfl)
theorem dX2_isIncomplete_76 : decode cX2_isIncomplete 76 = .ok (.iload_n 1, 1) := dk_27 (dk_at dksX2_isIncomplete_3 7 rfl rfl)
theorem dX2_isIncomplete_77 : decode cX2_isIncomplete 77 = .ok (.aaload, 1) := dk_50 (dk_at dksX2_isIncomplete_3 8 rfl rfl)
theorem dX2_isIncomplete_78 : decode cX2_isIncomplete 78 = .ok (.iload_n 3, 1) := dk_29 (dk_at dksX2_isIncomplete_3 9 rfl rfl)
theorem dX2_isIncomplete_79 : decode cX2_isIncomplete 79 = .ok (.invokevirtual 205, 3) := dk_182 0 205 (dk_at dksX2_isIncomplete_3 10 rfl rfl)
theorem dX2_isIncomplete_82 : decode cX2_isIncomplete 82 = .ok (.invokeinterface 209 1, 5) := by decide +kernel
theorem dX2_isIncomplete_87 : decode cX2_isIncomplete 87 = .ok (.ifCond .eq 7, 3) := dk_153 0 7 (dk_at dksX2_isIncomplete_3 18 rfl rfl)
theorem dX2_isIncomplete_90 : decode cX2_isIncomplete 90 = .ok (.iconst 1, 1) := dk_4 (dk_at dksX2_isIncomplete_3 21 rfl rfl)
theorem dX2_isIncomplete_91 : decode cX2_isIncomplete 91 = .ok (.goto 4, 3) := dk_167 0 4 (dk_at dksX2_isIncomplete_4 0 rfl rfl)
theorem dX2_isIncomplete_94 : decode cX2_isIncomplete 94 = .ok (.iconst 0, 1) := dk_3 (dk_at dksX2_isIncomplete_4 3 rfl rfl)
theorem dX2_isIncomplete_95 : decode cX2_isIncomplete 95 = .ok (.istore_n 2, 1) := dk_61 (dk_at dksX2_isIncomplete_4 4 rfl rfl)
theorem dX2_isIncomplete_96 : decode cX2_isIncomplete 96 = .ok (.iinc 3 1, 3) := dk_132 3 1 (dk_at dksX2_isIncomplete_4 5 rfl rfl)
theorem dX2_isIncomplete_99 : decode cX2_isIncomplete 99 = .ok (.goto (-95), 3) := dk_167 255 161 (dk_at dksX2_isIncomplete_4 8 rfl rfl)
theorem dX2_isIncomplete_102 : decode cX2_isIncomplete 102 = .ok (.iload_n 2, 1) := dk_28 (dk_at dksX2_isIncomplete_4 11 rfl rfl)
theorem dX2_isIncomplete_103 : decode cX2_isIncomplete 103 = .ok (.ireturn, 1) := dk_172 (dk_at dksX2_isIncomplete_4 12 rfl rfl)
def fX2_isIncomplete_b95 (e : Nat → Nat) (N : Nat) (k4 : Mm → Option Nat → Int32 → Int32 → Int32 → Rs (Int32)) (m : Mm) (v0 : Option Nat) (v1 : Int32) (v3 : Int32) (s0 : Int32) : Rs (Int32) := k4 m v0 v1 s0 (v3 + 1)
def fX2_isIncomplete_b90 (e : Nat → Nat) (N : Nat) (k4 : Mm → Option Nat → Int32 → Int32 → Int32 → Rs (Int32)) (m : Mm) (v0 : Option Nat) (v1 : Int32) (v3 : Int32) : Rs (Int32) := fX2_isIncomplete_b95 e N k4 m v0 v1 v3 1
def fX2_isIncomplete_b94 (e : Nat → Nat) (N : Nat) (k4 : Mm → Option Nat → Int32 → Int32 → Int32 → Rs (Int32)) (m : Mm) (v0 : Option Nat) (v1 : Int32) (v3 : Int32) : Rs (Int32) := fX2_isIncomplete_b95 e N k4 m v0 v1 v3 0
def fX2_isIncomplete_b61 (e : Nat → Nat) (N : Nat) (k4 : Mm → Option Nat → Int32 → Int32 → Int32 → Rs (Int32)) (m : Mm) (v0 : Option Nat) (v1 : Int32) (v2 : Int32) (v3 : Int32) (s0 : Int32) : Rs (Int32) := if v2 = 0 then (if s0 = 0 then (fX2_isIncomplete_b94 e N k4 m v0 v1 v3) else (gr_ m v0 2 6 (fun x1 => ar_ m x1 205 v1 (fun x2 => ck_ m x2 3 (bd_ (fX3_valuesOf e N m x2 v3) (fun x3 m1 => ck_ m1 x3 21 (bd_ (fJ38_isEmpty_t21 e N m1 x3) (fun x4 m2 => if x4 = 0 then (fX2_isIncomplete_b94 e N k4 m2 v0 v1 v3) else (fX2_isIncomplete_b90 e N k4 m2 v0 v1 v3))))))))) else (fX2_isIncomplete_b90 e N k4 m v0 v1 v3)
def fX2_isIncomplete_b102 (e : Nat → Nat) (N : Nat) (m : Mm) (v2 : Int32) : Rs (Int32) := rz_ v2 v2 m
def fX2_isIncomplete_b4 (e : Nat → Nat) (N : Nat) : Nat → Mm → Option Nat → Int32 → Int32 → Int32 → Rs (Int32)
  | 0, _, _, _, _, _ => none
  | F + 1, m, v0, v1, v2, v3 => gr_ m v0 2 1 (fun x1 => ck_ m x1 13 (bd_ (fJ2_size e N m x1) (fun x2 m1 => if v3 < x2 then (if v1 = 0 then (fX2_isIncomplete_b102 e N m1 v2) else (gr_ m1 v0 2 2 (fun x3 => gr_ m1 v0 2 6 (fun x4 => ar_ m1 x4 205 v1 (fun x5 => gr_ m1 x5 3 3 (fun x6 => gi_ m1 x6 7 7 (fun x7 => ck_ m1 x3 13 (bd_ (fJ2_get e N m1 x3 x7) (fun x8 m2 => cc_ m2 x8 [6] (gi_ m2 x8 6 1 (fun x9 => if ((x9 >>> (v3 &&& 31)) &&& 1) = 1 then (fX2_isIncomplete_b61 e N (fX2_isIncomplete_b4 e N F) m2 v0 v1 v2 v3 1) else (fX2_isIncomplete_b61 e N (fX2_isIncomplete_b4 e N F) m2 v0 v1 v2 v3 0)))))))))))) else (fX2_isIncomplete_b102 e N m1 v2))))
def fX2_isIncomplete (e : Nat → Nat) (N : Nat) (m : Mm) (v0 : Option Nat) (v1 : Int32) : Rs (Int32) := fX2_isIncomplete_b4 e N N m v0 v1 0 0
abbrev cX1_conflicts : ByteArray := prog_1_method_61_code
def yX1_conflicts : MethodName := ⟨RX1, "conflicts", "(II)I"⟩
def dkwX1_conflicts_4 : List UInt8 := [153, 0, 7, 4, 167, 0, 4, 3, 96, 54, 4, 132, 5, 1, 167, 255, 171, 21, 4, 172]
abbrev dktX1_conflicts_4 : List UInt8 := dkwX1_conflicts_4 ++ []
def dkwX1_conflicts_3 : List UInt8 := [167, 0, 12, 45, 21, 5, 182, 1, 248, 153, 0, 7, 4, 167, 0, 4, 3, 54, 6, 21, 4, 21, 6]
abbrev dktX1_conflicts_3 : List UInt8 := dkwX1_conflicts_3 ++ dktX1_conflicts_4
def dkwX1_conflicts_2 : List UInt8 := [153, 0, 38, 167, 0, 31, 28, 4, 160, 0, 17, 45, 21, 5, 182, 1, 54, 16, 254, 160, 0, 19]
abbrev dktX1_conflicts_2 : List UInt8 := dkwX1_conflicts_2 ++ dktX1_conflicts_3
def dkwX1_conflicts_1 : List UInt8 := [16, 48, 162, 0, 84, 45, 21, 5, 182, 0, 117, 153, 0, 51, 28, 154, 0, 15, 45, 21, 5, 182, 1, 245]
abbrev dktX1_conflicts_1 : List UInt8 := dkwX1_conflicts_1 ++ dktX1_conflicts_2
def dkwX1_conflicts_0 : List UInt8 := [42, 27, 182, 0, 183, 78, 28, 6, 19, 1, 243, 184, 0, 109, 87, 3, 54, 4, 4, 54, 5, 21, 5]
abbrev dktX1_conflicts_0 : List UInt8 := dkwX1_conflicts_0 ++ dktX1_conflicts_1
theorem dksX1_conflicts_0 : cX1_conflicts.data.toList.drop 0 = dktX1_conflicts_0 := by decide +kernel
theorem dksX1_conflicts_1 : cX1_conflicts.data.toList.drop 23 = dktX1_conflicts_1 := dk_seg dksX1_conflicts_0 23 rfl rfl
theorem dksX1_conflicts_2 : cX1_conflicts.data.toList.drop 47 = dktX1_conflicts_2 := dk_seg dksX1_conflicts_1 24 rfl rfl
theorem dksX1_conflicts_3 : cX1_conflicts.data.toList.drop 69 = dktX1_conflicts_3 := dk_seg dksX1_conflicts_2 22 rfl rfl
theorem dksX1_conflicts_4 : cX1_conflicts.data.toList.drop 92 = dktX1_conflicts_4 := dk_seg dksX1_conflicts_3 23 rfl rfl
theorem dX1_conflicts_0 : decode cX1_conflicts 0 = .ok (.aload_n 0, 1) := dk_42 (dk_at dksX1_conflicts_0 0 rfl rfl)
theorem dX1_conflicts_1 : decode cX1_conflicts 1 = .ok (.iload_n 1, 1) := dk_27 (dk_at dksX1_conflicts_0 1 rfl rfl)
theorem dX1_conflicts_2 : decode cX1_conflicts 2 = .ok (.invokevirtual 183, 3) := dk_182 0 183 (dk_at dksX1_conflicts_0 2 rfl rfl)
theorem dX1_conflicts_5 : decode cX1_conflicts 5 = .ok (.astore_n 3, 1) := dk_78 (dk_at dksX1_conflicts_0 5 rfl rfl)
theorem dX1_conflicts_6 : decode cX1_conflicts 6 = .ok (.iload_n 2, 1) := dk_28 (dk_at dksX1_conflicts_0 6 rfl rfl)
theorem dX1_conflicts_7 : decode cX1_conflicts 7 = .ok (.iconst 3, 1) := dk_6 (dk_at dksX1_conflicts_0 7 rfl rfl)
theorem dX1_conflicts_8 : decode cX1_conflicts 8 = .ok (.ldc_w 499, 3) := dk_19 1 243 (dk_at dksX1_conflicts_0 8 rfl rfl)
theorem dX1_conflicts_11 : decode cX1_conflicts 11 = .ok (.invokestatic 109, 3) := dk_184 0 109 (dk_at dksX1_conflicts_0 11 rfl rfl)
theorem dX1_conflicts_14 : decode cX1_conflicts 14 = .ok (.pop, 1) := dk_87 (dk_at dksX1_conflicts_0 14 rfl rfl)
theorem dX1_conflicts_15 : decode cX1_conflicts 15 = .ok (.iconst 0, 1) := dk_3 (dk_at dksX1_conflicts_0 15 rfl rfl)
theorem dX1_conflicts_16 : decode cX1_conflicts 16 = .ok (.istore 4, 2) := dk_54 4 (dk_at dksX1_conflicts_0 16 rfl rfl)
theorem dX1_conflicts_18 : decode cX1_conflicts 18 = .ok (.iconst 1, 1) := dk_4 (dk_at dksX1_conflicts_0 18 rfl rfl)
theorem dX1_conflicts_19 : decode cX1_conflicts 19 = .ok (.istore 5, 2) := dk_54 5 (dk_at dksX1_conflicts_0 19 rfl rfl)
theorem dX1_conflicts_21 : decode cX1_conflicts 21 = .ok (.iload 5, 2) := dk_21 5 (dk_at dksX1_conflicts_0 21 rfl rfl)
theorem dX1_conflicts_23 : decode cX1_conflicts 23 = .ok (.bipush 48, 2) := dk_16 48 (dk_at dksX1_conflicts_1 0 rfl rfl)
theorem dX1_conflicts_25 : decode cX1_conflicts 25 = .ok (.if_icmp .ge 84, 3) := dk_162 0 84 (dk_at dksX1_conflicts_1 2 rfl rfl)
theorem dX1_conflicts_28 : decode cX1_conflicts 28 = .ok (.aload_n 3, 1) := dk_45 (dk_at dksX1_conflicts_1 5 rfl rfl)
theorem dX1_conflicts_29 : decode cX1_conflicts 29 = .ok (.iload 5, 2) := dk_21 5 (dk_at dksX1_conflicts_1 6 rfl rfl)
theorem dX1_conflicts_31 : decode cX1_conflicts 31 = .ok (.invokevirtual 117, 3) := dk_182 0 117 (dk_at dksX1_conflicts_1 8 rfl rfl)
theorem dX1_conflicts_34 : decode cX1_conflicts 34 = .ok (.ifCond .eq 51, 3) := dk_153 0 51 (dk_at dksX1_conflicts_1 11 rfl rfl)
theorem dX1_conflicts_37 : decode cX1_conflicts 37 = .ok (.iload_n 2, 1) := dk_28 (dk_at dksX1_conflicts_1 14 rfl rfl)
theorem dX1_conflicts_38 : decode cX1_conflicts 38 = .ok (.ifCond .ne 15, 3) := dk_154 0 15 (dk_at dksX1_conflicts_1 15 rfl rfl)
theorem dX1_conflicts_41 : decode cX1_conflicts 41 = .ok (.aload_n 3, 1) := dk_45 (dk_at dksX1_conflicts_1 18 rfl rfl)
theorem dX1_conflicts_42 : decode cX1_conflicts 42 = .ok (.iload 5, 2) := dk_21 5 (dk_at dksX1_conflicts_1 19 rfl rfl)
theorem dX1_conflicts_44 : decode cX1_conflicts 44 = .ok (.invokevirtual 501, 3) := dk_182 1 245 (dk_at dksX1_conflicts_1 21 rfl rfl)
theorem dX1_conflicts_47 : decode cX1_conflicts 47 = .ok (.ifCond .eq 38, 3) := dk_153 0 38 (dk_at dksX1_conflicts_2 0 rfl rfl)
theorem dX1_conflicts_50 : decode cX1_conflicts 50 = .ok (.goto 31, 3) := dk_167 0 31 (dk_at dksX1_conflicts_2 3 rfl rfl)
theorem dX1_conflicts_53 : decode cX1_conflicts 53 = .ok (.iload_n 2, 1) := dk_28 (dk_at dksX1_conflicts_2 6 rfl rfl)
theorem dX1_conflicts_54 : decode cX1_conflicts 54 = .ok (.iconst 1, 1) := dk_4 (dk_at dksX1_conflicts_2 7 rfl rfl)
theorem dX1_conflicts_55 : decode cX1_conflicts 55 = .ok (.if_icmp .ne 17, 3) := dk_160 0 17 (dk_at dksX1_conflicts_2 8 rfl rfl)
theorem dX1_conflicts_58 : decode cX1_conflicts 58 = .ok (.aload_n 3, 1) := dk_45 (dk_at dksX1_conflicts_2 11 rfl rfl)
theorem dX1_conflicts_59 : decode cX1_conflicts 59 = .ok (.iload 5, 2) := dk_21 5 (dk_at dksX1_conflicts_2 12 rfl rfl)
theorem dX1_conflicts_61 : decode cX1_conflicts 61 = .ok (.invokevirtual 310, 3) := dk_182 1 54 (dk_at dksX1_conflicts_2 14 rfl rfl)
theorem dX1_conflicts_64 : decode cX1_conflicts 64 = .ok (.bipush (-2), 2) := dk_16 254 (dk_at dksX1_conflicts_2 17 rfl rfl)
theorem dX1_conflicts_66 : decode cX1_conflicts 66 = .ok (.if_icmp .ne 19, 3) := dk_160 0 19 (dk_at dksX1_conflicts_2 19 rfl rfl)
theorem dX1_conflicts_69 : decode cX1_conflicts 69 = .ok (.goto 12, 3) := dk_167 0 12 (dk_at dksX1_conflicts_3 0 rfl rfl)
theorem dX1_conflicts_72 : decode cX1_conflicts 72 = .ok (.aload_n 3, 1) := dk_45 (dk_at dksX1_conflicts_3 3 rfl rfl)
theorem dX1_conflicts_73 : decode cX1_conflicts 73 = .ok (.iload 5, 2) := dk_21 5 (dk_at dksX1_conflicts_3 4 rfl rfl)
theorem dX1_conflicts_75 : decode cX1_conflicts 75 = .ok (.invokevirtual 504, 3) := dk_182 1 248 (dk_at dksX1_conflicts_3 6 rfl rfl)
theorem dX1_conflicts_78 : decode cX1_conflicts 78 = .ok (.ifCond .eq 7, 3) := dk_153 0 7 (dk_at dksX1_conflicts_3 9 rfl rfl)
theorem dX1_conflicts_81 : decode cX1_conflicts 81 = .ok (.iconst 1, 1) := dk_4 (dk_at dksX1_conflicts_3 12 rfl rfl)
theorem dX1_conflicts_82 : decode cX1_conflicts 82 = .ok (.goto 4, 3) := dk_167 0 4 (dk_at dksX1_conflicts_3 13 rfl rfl)
theorem dX1_conflicts_85 : decode cX1_conflicts 85 = .ok (.iconst 0, 1) := dk_3 (dk_at dksX1_conflicts_3 16 rfl rfl)
theorem dX1_conflicts_86 : decode cX1_conflicts 86 = .ok (.istore 6, 2) := dk_54 6 (dk_at dksX1_conflicts_3 17 rfl rfl)
theorem dX1_conflicts_88 : decode cX1_conflicts 88 = .ok (.iload 4, 2) := dk_21 4 (dk_at dksX1_conflicts_3 19 rfl rfl)
theorem dX1_conflicts_90 : decode cX1_conflicts 90 = .ok (.iload 6, 2) := dk_21 6 (dk_at dksX1_conflicts_3 21 rfl rfl)
theorem dX1_conflicts_92 : decode cX1_conflicts 92 = .ok (.ifCond .eq 7, 3) := dk_153 0 7 (dk_at dksX1_conflicts_4 0 rfl rfl)
theorem dX1_conflicts_95 : decode cX1_conflicts 95 = .ok (.iconst 1, 1) := dk_4 (dk_at dksX1_conflicts_4 3 rfl rfl)
theorem dX1_conflicts_96 : decode cX1_conflicts 96 = .ok (.goto 4, 3) := dk_167 0 4 (dk_at dksX1_conflicts_4 4 rfl rfl)
theorem dX1_conflicts_99 : decode cX1_conflicts 99 = .ok (.iconst 0, 1) := dk_3 (dk_at dksX1_conflicts_4 7 rfl rfl)
theorem dX1_conflicts_100 : decode cX1_conflicts 100 = .ok (.iadd, 1) := dk_96 (dk_at dksX1_conflicts_4 8 rfl rfl)
theorem dX1_conflicts_101 : decode cX1_conflicts 101 = .ok (.istore 4, 2) := dk_54 4 (dk_at dksX1_conflicts_4 9 rfl rfl)
theorem dX1_conflicts_103 : decode cX1_conflicts 103 = .ok (.iinc 5 1, 3) := dk_132 5 1 (dk_at dksX1_conflicts_4 11 rfl rfl)
theorem dX1_conflicts_106 : decode cX1_conflicts 106 = .ok (.goto (-85), 3) := dk_167 255 171 (dk_at dksX1_conflicts_4 14 rfl rfl)
theorem dX1_conflicts_109 : decode cX1_conflicts 109 = .ok (.iload 4, 2) := dk_21 4 (dk_at dksX1_conflicts_4 17 rfl rfl)
theorem dX1_conflicts_111 : decode cX1_conflicts 111 = .ok (.ireturn, 1) := dk_172 (dk_at dksX1_conflicts_4 19 rfl rfl)
def fX1_conflicts_b100 (e : Nat → Nat) (N : Nat) (k21 : Mm → Int32 → Option Nat → Int32 → Int32 → Rs (Int32 ⊕ Nat)) (m : Mm) (v2 : Int32) (v3 : Option Nat) (v5 : Int32) (s0 : Int32) (s1 : Int32) : Rs (Int32 ⊕ Nat) := k21 m v2 v3 (s0 + s1) (v5 + 1)
def fX1_conflicts_b86 (e : Nat → Nat) (N : Nat) (k21 : Mm → Int32 → Option Nat → Int32 → Int32 → Rs (Int32 ⊕ Nat)) (m : Mm) (v2 : Int32) (v3 : Option Nat) (v4 : Int32) (v5 : Int32) (s0 : Int32) : Rs (Int32 ⊕ Nat) := if s0 = 0 then (fX1_conflicts_b100 e N k21 m v2 v3 v5 v4 0) else (fX1_conflicts_b100 e N k21 m v2 v3 v5 v4 1)
def fX1_conflicts_b81 (e : Nat → Nat) (N : Nat) (k21 : Mm → Int32 → Option Nat → Int32 → Int32 → Rs (Int32 ⊕ Nat)) (m : Mm) (v2 : Int32) (v3 : Option Nat) (v4 : Int32) (v5 : Int32) : Rs (Int32 ⊕ Nat) := fX1_conflicts_b86 e N k21 m v2 v3 v4 v5 1
def fX1_conflicts_b85 (e : Nat → Nat) (N : Nat) (k21 : Mm → Int32 → Option Nat → Int32 → Int32 → Rs (Int32 ⊕ Nat)) (m : Mm) (v2 : Int32) (v3 : Option Nat) (v4 : Int32) (v5 : Int32) : Rs (Int32 ⊕ Nat) := fX1_conflicts_b86 e N k21 m v2 v3 v4 v5 0
def fX1_conflicts_b21 (e : Nat → Nat) (N : Nat) : Nat → Mm → Int32 → Option Nat → Int32 → Int32 → Rs (Int32 ⊕ Nat)
  | 0, _, _, _, _, _ => none
  | F + 1, m, v2, v3, v4, v5 => if v5 < 48 then (ck_ m v3 2 (bd_ (fX2_isLive e N m v3 v5) (fun x1 m1 => if x1 = 0 then (fX1_conflicts_b85 e N (fX1_conflicts_b21 e N F) m1 v2 v3 v4 v5) else (if v2 = 0 then (ck_ m1 v3 2 (bd_ (fX2_clashes e N m1 v3 v5) (fun x2 m2 => if x2 = 0 then (fX1_conflicts_b85 e N (fX1_conflicts_b21 e N F) m2 v2 v3 v4 v5) else (fX1_conflicts_b81 e N (fX1_conflicts_b21 e N F) m2 v2 v3 v4 v5)))) else (if v2 = 1 then (ck_ m1 v3 2 (bd_ (fX2_shownAt e N m1 v3 v5) (fun x3 m3 => if x3 = (-2) then (fX1_conflicts_b81 e N (fX1_conflicts_b21 e N F) m3 v2 v3 v4 v5) else (fX1_conflicts_b85 e N (fX1_conflicts_b21 e N F) m3 v2 v3 v4 v5)))) else (ck_ m1 v3 2 (bd_ (fX2_isIncomplete e N m1 v3 v5) (fun x4 m4 => if x4 = 0 then (fX1_conflicts_b85 e N (fX1_conflicts_b21 e N F) m4 v2 v3 v4 v5) else (fX1_conflicts_b81 e N (fX1_conflicts_b21 e N F) m4 v2 v3 v4 v5))))))))) else (rt_ (.inl v4) m)
def fX1_conflicts (e : Nat → Nat) (N : Nat) (m : Mm) (v0 : Option Nat) (v1 : Int32) (v2 : Int32) : Rs (Int32 ⊕ Nat) := ck_ m v0 1 (bd_ (fX1_at e N m v0 v1) (xf_ (fun x1 m1 => bd_ (fX1_place e N m1 v2 3 (some (e (100 + 40)))) (xf_ (fun x2 m2 => fX1_conflicts_b21 e N N m2 v2 x1 0 1)))))
abbrev cX0_conflicts : ByteArray := method_37_code
def yX0_conflicts : MethodName := ⟨RX0, "conflicts", "(LMasterTree;II[J)I"⟩
def dkwX0_conflicts_0 : List UInt8 := [45, 3, 42, 27, 28, 182, 0, 126, 133, 80, 167, 0, 7, 58, 4, 4, 172, 3, 172]
abbrev dktX0_conflicts_0 : List UInt8 := dkwX0_conflicts_0 ++ []
theorem dksX0_conflicts_0 : cX0_conflicts.data.toList.drop 0 = dktX0_conflicts_0 := by decide +kernel
theorem dX0_conflicts_0 : decode cX0_conflicts 0 = .ok (.aload_n 3, 1) := dk_45 (dk_at dksX0_conflicts_0 0 rfl rfl)
theorem dX0_conflicts_1 : decode cX0_conflicts 1 = .ok (.iconst 0, 1) := dk_3 (dk_at dksX0_conflicts_0 1 rfl rfl)
theorem dX0_conflicts_2 : decode cX0_conflicts 2 = .ok (.aload_n 0, 1) := dk_42 (dk_at dksX0_conflicts_0 2 rfl rfl)
theorem dX0_conflicts_3 : decode cX0_conflicts 3 = .ok (.iload_n 1, 1) := dk_27 (dk_at dksX0_conflicts_0 3 rfl rfl)
theorem dX0_conflicts_4 : decode cX0_conflicts 4 = .ok (.iload_n 2, 1) := dk_28 (dk_at dksX0_conflicts_0 4 rfl rfl)
theorem dX0_conflicts_5 : decode cX0_conflicts 5 = .ok (.invokevirtual 126, 3) := dk_182 0 126 (dk_at dksX0_conflicts_0 5 rfl rfl)
theorem dX0_conflicts_8 : decode cX0_conflicts 8 = .ok (.i2l, 1) := dk_133 (dk_at dksX0_conflicts_0 8 rfl rfl)
theorem dX0_conflicts_9 : decode cX0_conflicts 9 = .ok (.lastore, 1) := dk_80 (dk_at dksX0_conflicts_0 9 rfl rfl)
theorem dX0_conflicts_10 : decode cX0_conflicts 10 = .ok (.goto 7, 3) := dk_167 0 7 (dk_at dksX0_conflicts_0 10 rfl rfl)
theorem dX0_conflicts_13 : decode cX0_conflicts 13 = .ok (.astore 4, 2) := dk_58 4 (dk_at dksX0_conflicts_0 13 rfl rfl)
theorem dX0_conflicts_15 : decode cX0_conflicts 15 = .ok (.iconst 1, 1) := dk_4 (dk_at dksX0_conflicts_0 15 rfl rfl)
theorem dX0_conflicts_16 : decode cX0_conflicts 16 = .ok (.ireturn, 1) := dk_172 (dk_at dksX0_conflicts_0 16 rfl rfl)
theorem dX0_conflicts_17 : decode cX0_conflicts 17 = .ok (.iconst 0, 1) := dk_3 (dk_at dksX0_conflicts_0 17 rfl rfl)
theorem dX0_conflicts_18 : decode cX0_conflicts 18 = .ok (.ireturn, 1) := dk_172 (dk_at dksX0_conflicts_0 18 rfl rfl)
def fX0_conflicts (e : Nat → Nat) (N : Nat) (m : Mm) (v0 : Option Nat) (v1 : Int32) (v2 : Int32) (v3 : Option Nat) : Rs (Int32) := ck_ m v0 1 (bd_ (fX1_conflicts e N m v0 v1 v2) (ch_ (fun x1 m1 => bj_ m1 v3 203 0 ((x1 : Int32).toInt64) (fun m2 => rt_ 0 m2)) (fun i_ m0 => if i_ = 0 then rt_ 1 m0 else none)))
abbrev cX1_knows : ByteArray := prog_1_method_62_code
def yX1_knows : MethodName := ⟨RX1, "knows", "(II)I"⟩
def dkwX1_knows_0 : List UInt8 := [42, 27, 182, 0, 183, 78, 42, 28, 182, 0, 183, 87, 45, 180, 0, 218, 27, 50, 28, 46, 172]
abbrev dktX1_knows_0 : List UInt8 := dkwX1_knows_0 ++ []
theorem dksX1_knows_0 : cX1_knows.data.toList.drop 0 = dktX1_knows_0 := by decide +kernel
theorem dX1_knows_0 : decode cX1_knows 0 = .ok (.aload_n 0, 1) := dk_42 (dk_at dksX1_knows_0 0 rfl rfl)
theorem dX1_knows_1 : decode cX1_knows 1 = .ok (.iload_n 1, 1) := dk_27 (dk_at dksX1_knows_0 1 rfl rfl)
theorem dX1_knows_2 : decode cX1_knows 2 = .ok (.invokevirtual 183, 3) := dk_182 0 183 (dk_at dksX1_knows_0 2 rfl rfl)
theorem dX1_knows_5 : decode cX1_knows 5 = .ok (.astore_n 3, 1) := dk_78 (dk_at dksX1_knows_0 5 rfl rfl)
theorem dX1_knows_6 : decode cX1_knows 6 = .ok (.aload_n 0, 1) := dk_42 (dk_at dksX1_knows_0 6 rfl rfl)
theorem dX1_knows_7 : decode cX1_knows 7 = .ok (.iload_n 2, 1) := dk_28 (dk_at dksX1_knows_0 7 rfl rfl)
theorem dX1_knows_8 : decode cX1_knows 8 = .ok (.invokevirtual 183, 3) := dk_182 0 183 (dk_at dksX1_knows_0 8 rfl rfl)
theorem dX1_knows_11 : decode cX1_knows 11 = .ok (.pop, 1) := dk_87 (dk_at dksX1_knows_0 11 rfl rfl)
theorem dX1_knows_12 : decode cX1_knows 12 = .ok (.aload_n 3, 1) := dk_45 (dk_at dksX1_knows_0 12 rfl rfl)
theorem dX1_knows_13 : decode cX1_knows 13 = .ok (.getfield 218, 3) := dk_180 0 218 (dk_at dksX1_knows_0 13 rfl rfl)
theorem dX1_knows_16 : decode cX1_knows 16 = .ok (.iload_n 1, 1) := dk_27 (dk_at dksX1_knows_0 16 rfl rfl)
theorem dX1_knows_17 : decode cX1_knows 17 = .ok (.aaload, 1) := dk_50 (dk_at dksX1_knows_0 17 rfl rfl)
theorem dX1_knows_18 : decode cX1_knows 18 = .ok (.iload_n 2, 1) := dk_28 (dk_at dksX1_knows_0 18 rfl rfl)
theorem dX1_knows_19 : decode cX1_knows 19 = .ok (.iaload, 1) := dk_46 (dk_at dksX1_knows_0 19 rfl rfl)
theorem dX1_knows_20 : decode cX1_knows 20 = .ok (.ireturn, 1) := dk_172 (dk_at dksX1_knows_0 20 rfl rfl)
def fX1_knows (e : Nat → Nat) (N : Nat) (m : Mm) (v0 : Option Nat) (v1 : Int32) (v2 : Int32) : Rs (Int32 ⊕ Nat) := ck_ m v0 1 (bd_ (fX1_at e N m v0 v1) (xf_ (fun x1 m1 => ck_ m1 v0 1 (bd_ (fX1_at e N m1 v0 v2) (xf_ (fun x2 m2 => gr_ m2 x1 2 8 (fun x3 => ar_ m2 x3 206 v1 (fun x4 => ai_ m2 x4 200 v2 (fun x5 => rt_ (.inl x5) m2)))))))))
abbrev cX0_knows : ByteArray := method_38_code
def yX0_knows : MethodName := ⟨RX0, "knows", "(LMasterTree;II[J)I"⟩
def dkwX0_knows_0 : List UInt8 := [45, 3, 42, 27, 28, 182, 0, 129, 133, 80, 167, 0, 7, 58, 4, 4, 172, 3, 172]
abbrev dktX0_knows_0 : List UInt8 := dkwX0_knows_0 ++ []
theorem dksX0_knows_0 : cX0_knows.data.toList.drop 0 = dktX0_knows_0 := by decide +kernel
theorem dX0_knows_0 : decode cX0_knows 0 = .ok (.aload_n 3, 1) := dk_45 (dk_at dksX0_knows_0 0 rfl rfl)
theorem dX0_knows_1 : decode cX0_knows 1 = .ok (.iconst 0, 1) := dk_3 (dk_at dksX0_knows_0 1 rfl rfl)
theorem dX0_knows_2 : decode cX0_knows 2 = .ok (.aload_n 0, 1) := dk_42 (dk_at dksX0_knows_0 2 rfl rfl)
theorem dX0_knows_3 : decode cX0_knows 3 = .ok (.iload_n 1, 1) := dk_27 (dk_at dksX0_knows_0 3 rfl rfl)
theorem dX0_knows_4 : decode cX0_knows 4 = .ok (.iload_n 2, 1) := dk_28 (dk_at dksX0_knows_0 4 rfl rfl)
theorem dX0_knows_5 : decode cX0_knows 5 = .ok (.invokevirtual 129, 3) := dk_182 0 129 (dk_at dksX0_knows_0 5 rfl rfl)
theorem dX0_knows_8 : decode cX0_knows 8 = .ok (.i2l, 1) := dk_133 (dk_at dksX0_knows_0 8 rfl rfl)
theorem dX0_knows_9 : decode cX0_knows 9 = .ok (.lastore, 1) := dk_80 (dk_at dksX0_knows_0 9 rfl rfl)
theorem dX0_knows_10 : decode cX0_knows 10 = .ok (.goto 7, 3) := dk_167 0 7 (dk_at dksX0_knows_0 10 rfl rfl)
theorem dX0_knows_13 : decode cX0_knows 13 = .ok (.astore 4, 2) := dk_58 4 (dk_at dksX0_knows_0 13 rfl rfl)
theorem dX0_knows_15 : decode cX0_knows 15 = .ok (.iconst 1, 1) := dk_4 (dk_at dksX0_knows_0 15 rfl rfl)
theorem dX0_knows_16 : decode cX0_knows 16 = .ok (.ireturn, 1) := dk_172 (dk_at dksX0_knows_0 16 rfl rfl)
theorem dX0_knows_17 : decode cX0_knows 17 = .ok (.iconst 0, 1) := dk_3 (dk_at dksX0_knows_0 17 rfl rfl)
theorem dX0_knows_18 : decode cX0_knows 18 = .ok (.ireturn, 1) := dk_172 (dk_at dksX0_knows_0 18 rfl rfl)
def fX0_knows (e : Nat → Nat) (N : Nat) (m : Mm) (v0 : Option Nat) (v1 : Int32) (v2 : Int32) (v3 : Option Nat) : Rs (Int32) := ck_ m v0 1 (bd_ (fX1_knows e N m v0 v1 v2) (ch_ (fun x1 m1 => bj_ m1 v3 203 0 ((x1 : Int32).toInt64) (fun m2 => rt_ 0 m2)) (fun i_ m0 => if i_ = 0 then rt_ 1 m0 else none)))
abbrev cX1_marks : ByteArray := prog_1_method_63_code
def yX1_marks : MethodName := ⟨RX1, "marks", "(I)I"⟩
def dkwX1_marks_0 : List UInt8 := [42, 27, 182, 0, 183, 3, 182, 1, 81, 184, 1, 85, 172]
abbrev dktX1_marks_0 : List UInt8 := dkwX1_marks_0 ++ []
theorem dksX1_marks_0 : cX1_marks.data.toList.drop 0 = dktX1_marks_0 := by decide +kernel
theorem dX1_marks_0 : decode cX1_marks 0 = .ok (.aload_n 0, 1) := dk_42 (dk_at dksX1_marks_0 0 rfl rfl)
theorem dX1_marks_1 : decode cX1_marks 1 = .ok (.iload_n 1, 1) := dk_27 (dk_at dksX1_marks_0 1 rfl rfl)
theorem dX1_marks_2 : decode cX1_marks 2 = .ok (.invokevirtual 183, 3) := dk_182 0 183 (dk_at dksX1_marks_0 2 rfl rfl)
theorem dX1_marks_5 : decode cX1_marks 5 = .ok (.iconst 0, 1) := dk_3 (dk_at dksX1_marks_0 5 rfl rfl)
theorem dX1_marks_6 : decode cX1_marks 6 = .ok (.invokevirtual 337, 3) := dk_182 1 81 (dk_at dksX1_marks_0 6 rfl rfl)
theorem dX1_marks_9 : decode cX1_marks 9 = .ok (.invokestatic 341, 3) := dk_184 1 85 (dk_at dksX1_marks_0 9 rfl rfl)
theorem dX1_marks_12 : decode cX1_marks 12 = .ok (.ireturn, 1) := dk_172 (dk_at dksX1_marks_0 12 rfl rfl)
def fX1_marks (e : Nat → Nat) (N : Nat) (m : Mm) (v0 : Option Nat) (v1 : Int32) : Rs (Int32 ⊕ Nat) := ck_ m v0 1 (bd_ (fX1_at e N m v0 v1) (xf_ (fun x1 m1 => ck_ m1 x1 2 (bd_ (fX2_marks e N m1 x1 0) (fun x2 m2 => bd_ (fJ28_bitCount e N m2 x2) (fun x3 m3 => rt_ (.inl x3) m3))))))
abbrev cX0_marks : ByteArray := method_39_code
def yX0_marks : MethodName := ⟨RX0, "marks", "(LMasterTree;I[J)I"⟩
def dkwX0_marks_0 : List UInt8 := [44, 3, 42, 27, 182, 0, 132, 133, 80, 167, 0, 6, 78, 4, 172, 3, 172]
abbrev dktX0_marks_0 : List UInt8 := dkwX0_marks_0 ++ []
theorem dksX0_marks_0 : cX0_marks.data.toList.drop 0 = dktX0_marks_0 := by decide +kernel
theorem dX0_marks_0 : decode cX0_marks 0 = .ok (.aload_n 2, 1) := dk_44 (dk_at dksX0_marks_0 0 rfl rfl)
theorem dX0_marks_1 : decode cX0_marks 1 = .ok (.iconst 0, 1) := dk_3 (dk_at dksX0_marks_0 1 rfl rfl)
theorem dX0_marks_2 : decode cX0_marks 2 = .ok (.aload_n 0, 1) := dk_42 (dk_at dksX0_marks_0 2 rfl rfl)
theorem dX0_marks_3 : decode cX0_marks 3 = .ok (.iload_n 1, 1) := dk_27 (dk_at dksX0_marks_0 3 rfl rfl)
theorem dX0_marks_4 : decode cX0_marks 4 = .ok (.invokevirtual 132, 3) := dk_182 0 132 (dk_at dksX0_marks_0 4 rfl rfl)
theorem dX0_marks_7 : decode cX0_marks 7 = .ok (.i2l, 1) := dk_133 (dk_at dksX0_marks_0 7 rfl rfl)
theorem dX0_marks_8 : decode cX0_marks 8 = .ok (.lastore, 1) := dk_80 (dk_at dksX0_marks_0 8 rfl rfl)
theorem dX0_marks_9 : decode cX0_marks 9 = .ok (.goto 6, 3) := dk_167 0 6 (dk_at dksX0_marks_0 9 rfl rfl)
theorem dX0_marks_12 : decode cX0_marks 12 = .ok (.astore_n 3, 1) := dk_78 (dk_at dksX0_marks_0 12 rfl rfl)
theorem dX0_marks_13 : decode cX0_marks 13 = .ok (.iconst 1, 1) := dk_4 (dk_at dksX0_marks_0 13 rfl rfl)
theorem dX0_marks_14 : decode cX0_marks 14 = .ok (.ireturn, 1) := dk_172 (dk_at dksX0_marks_0 14 rfl rfl)
theorem dX0_marks_15 : decode cX0_marks 15 = .ok (.iconst 0, 1) := dk_3 (dk_at dksX0_marks_0 15 rfl rfl)
theorem dX0_marks_16 : decode cX0_marks 16 = .ok (.ireturn, 1) := dk_172 (dk_at dksX0_marks_0 16 rfl rfl)
def fX0_marks (e : Nat → Nat) (N : Nat) (m : Mm) (v0 : Option Nat) (v1 : Int32) (v2 : Option Nat) : Rs (Int32) := ck_ m v0 1 (bd_ (fX1_marks e N m v0 v1) (ch_ (fun x1 m1 => bj_ m1 v2 203 0 ((x1 : Int32).toInt64) (fun m2 => rt_ 0 m2)) (fun i_ m0 => if i_ = 0 then rt_ 1 m0 else none)))
abbrev cJ21_equals : ByteArray := prog_37_method_34_code
def yJ21_equals : MethodName := ⟨RJ21, "equals", "(Ljava/lang/Object;)Z"⟩
def dkwJ21_equals_1 : List UInt8 := [167, 0, 4, 3, 172, 3, 172]
abbrev dktJ21_equals_1 : List UInt8 := dkwJ21_equals_1 ++ []
def dkwJ21_equals_0 : List UInt8 := [43, 193, 0, 1, 153, 0, 23, 42, 180, 0, 205, 43, 192, 0, 1, 182, 0, 211, 160, 0, 7, 4]
abbrev dktJ21_equals_0 : List UInt8 := dkwJ21_equals_0 ++ dktJ21_equals_1
theorem dksJ21_equals_0 : cJ21_equals.data.toList.drop 0 = dktJ21_equals_0 := by decide +kernel
theorem dksJ21_equals_1 : cJ21_equals.data.toList.drop 22 = dktJ21_equals_1 := dk_seg dksJ21_equals_0 22 rfl rfl
theorem dJ21_equals_0 : decode cJ21_equals 0 = .ok (.aload_n 1, 1) := dk_43 (dk_at dksJ21_equals_0 0 rfl rfl)
theorem dJ21_equals_1 : decode cJ21_equals 1 = .ok (.instanceof 1, 3) := dk_193 0 1 (dk_at dksJ21_equals_0 1 rfl rfl)
theorem dJ21_equals_4 : decode cJ21_equals 4 = .ok (.ifCond .eq 23, 3) := dk_153 0 23 (dk_at dksJ21_equals_0 4 rfl rfl)
theorem dJ21_equals_7 : decode cJ21_equals 7 = .ok (.aload_n 0, 1) := dk_42 (dk_at dksJ21_equals_0 7 rfl rfl)
theorem dJ21_equals_8 : decode cJ21_equals 8 = .ok (.getfield 205, 3) := dk_180 0 205 (dk_at dksJ21_equals_0 8 rfl rfl)
theorem dJ21_equals_11 : decode cJ21_equals 11 = .ok (.aload_n 1, 1) := dk_43 (dk_at dksJ21_equals_0 11 rfl rfl)
theorem dJ21_equals_12 : decode cJ21_equals 12 = .ok (.checkcast 1, 3) := dk_192 0 1 (dk_at dksJ21_equals_0 12 rfl rfl)
theorem dJ21_equals_15 : decode cJ21_equals 15 = .ok (.invokevirtual 211, 3) := dk_182 0 211 (dk_at dksJ21_equals_0 15 rfl rfl)
theorem dJ21_equals_18 : decode cJ21_equals 18 = .ok (.if_icmp .ne 7, 3) := dk_160 0 7 (dk_at dksJ21_equals_0 18 rfl rfl)
theorem dJ21_equals_21 : decode cJ21_equals 21 = .ok (.iconst 1, 1) := dk_4 (dk_at dksJ21_equals_0 21 rfl rfl)
theorem dJ21_equals_22 : decode cJ21_equals 22 = .ok (.goto 4, 3) := dk_167 0 4 (dk_at dksJ21_equals_1 0 rfl rfl)
theorem dJ21_equals_25 : decode cJ21_equals 25 = .ok (.iconst 0, 1) := dk_3 (dk_at dksJ21_equals_1 3 rfl rfl)
theorem dJ21_equals_26 : decode cJ21_equals 26 = .ok (.ireturn, 1) := dk_172 (dk_at dksJ21_equals_1 4 rfl rfl)
theorem dJ21_equals_27 : decode cJ21_equals 27 = .ok (.iconst 0, 1) := dk_3 (dk_at dksJ21_equals_1 5 rfl rfl)
theorem dJ21_equals_28 : decode cJ21_equals 28 = .ok (.ireturn, 1) := dk_172 (dk_at dksJ21_equals_1 6 rfl rfl)
def fJ21_equals_b26 (e : Nat → Nat) (N : Nat) (m : Mm) (s0 : Int32) : Rs (Int32) := rz_ s0 s0 m
def fJ21_equals (e : Nat → Nat) (N : Nat) (m : Mm) (v0 : Option Nat) (v1 : Option Nat) : Rs (Int32) := io_ m v1 [27] (fun x1 => if x1 = 0 then (rt_ 0 m) else (gi_ m v0 27 0 (fun x2 => cc_ m v1 [27] (ck_ m v1 27 (bd_ (fJ21_intValue e N m v1) (fun x3 m1 => if x2 = x3 then (fJ21_equals_b26 e N m1 1) else (fJ21_equals_b26 e N m1 0)))))))
abbrev cJ3_equals : ByteArray := prog_55_method_14_code
def yJ3_equals : MethodName := ⟨RJ3, "equals", "(Ljava/lang/Object;)Z"⟩
def dkwJ3_equals_6 : List UInt8 := [4, 172]
abbrev dktJ3_equals_6 : List UInt8 := dkwJ3_equals_6 ++ []
def dkwJ3_equals_5 : List UInt8 := [25, 5, 185, 0, 79, 2, 0, 182, 0, 39, 154, 0, 5, 3, 172, 167, 255, 171, 167, 0, 6, 78, 3, 172]
abbrev dktJ3_equals_5 : List UInt8 := dkwJ3_equals_5 ++ dktJ3_equals_6
def dkwJ3_equals_4 : List UInt8 := [185, 0, 79, 2, 0, 199, 0, 14, 44, 25, 5, 185, 0, 83, 2, 0, 154, 0, 23, 3, 172, 25, 6, 44]
abbrev dktJ3_equals_4 : List UInt8 := dkwJ3_equals_4 ++ dktJ3_equals_5
def dkwJ3_equals_3 : List UInt8 := [185, 0, 43, 1, 0, 58, 5, 25, 4, 185, 0, 36, 1, 0, 58, 6, 25, 6, 199, 0, 27, 44, 25, 5]
abbrev dktJ3_equals_3 : List UInt8 := dkwJ3_equals_3 ++ dktJ3_equals_4
def dkwJ3_equals_2 : List UInt8 := [78, 45, 185, 0, 24, 1, 0, 153, 0, 82, 45, 185, 0, 30, 1, 0, 192, 0, 34, 58, 4, 25, 4]
abbrev dktJ3_equals_2 : List UInt8 := dkwJ3_equals_2 ++ dktJ3_equals_3
def dkwJ3_equals_1 : List UInt8 := [44, 185, 0, 78, 1, 0, 42, 182, 0, 19, 159, 0, 5, 3, 172, 42, 182, 0, 7, 185, 0, 20, 1, 0]
abbrev dktJ3_equals_1 : List UInt8 := dkwJ3_equals_1 ++ dktJ3_equals_2
def dkwJ3_equals_0 : List UInt8 := [43, 42, 166, 0, 5, 4, 172, 43, 193, 0, 53, 153, 0, 11, 43, 192, 0, 53, 77, 167, 0, 5, 3, 172]
abbrev dktJ3_equals_0 : List UInt8 := dkwJ3_equals_0 ++ dktJ3_equals_1
theorem dksJ3_equals_0 : cJ3_equals.data.toList.drop 0 = dktJ3_equals_0 := by decide +kernel
theorem dksJ3_equals_1 : cJ3_equals.data.toList.drop 24 = dktJ3_equals_1 := dk_seg dksJ3_equals_0 24 rfl rfl
theorem dksJ3_equals_2 : cJ3_equals.data.toList.drop 48 = dktJ3_equals_2 := dk_seg dksJ3_equals_1 24 rfl rfl
theorem dksJ3_equals_3 : cJ3_equals.data.toList.drop 71 = dktJ3_equals_3 := dk_seg dksJ3_equals_2 23 rfl rfl
theorem dksJ3_equals_4 : cJ3_equals.data.toList.drop 95 = dktJ3_equals_4 := dk_seg dksJ3_equals_3 24 rfl rfl
theorem dksJ3_equals_5 : cJ3_equals.data.toList.drop 119 = dktJ3_equals_5 := dk_seg dksJ3_equals_4 24 rfl rfl
theorem dksJ3_equals_6 : cJ3_equals.data.toList.drop 143 = dktJ3_equals_6 := dk_seg dksJ3_equals_5 24 rfl rfl
theorem dJ3_equals_0 : decode cJ3_equals 0 = .ok (.aload_n 1, 1) := dk_43 (dk_at dksJ3_equals_0 0 rfl rfl)
theorem dJ3_equals_1 : decode cJ3_equals 1 = .ok (.aload_n 0, 1) := dk_42 (dk_at dksJ3_equals_0 1 rfl rfl)
theorem dJ3_equals_2 : decode cJ3_equals 2 = .ok (.if_acmp .ne 5, 3) := dk_166 0 5 (dk_at dksJ3_equals_0 2 rfl rfl)
theorem dJ3_equals_5 : decode cJ3_equals 5 = .ok (.iconst 1, 1) := dk_4 (dk_at dksJ3_equals_0 5 rfl rfl)
theorem dJ3_equals_6 : decode cJ3_equals 6 = .ok (.ireturn, 1) := dk_172 (dk_at dksJ3_equals_0 6 rfl rfl)
theorem dJ3_equals_7 : decode cJ3_equals 7 = .ok (.aload_n 1, 1) := dk_43 (dk_at dksJ3_equals_0 7 rfl rfl)
theorem dJ3_equals_8 : decode cJ3_equals 8 = .ok (.instanceof 53, 3) := dk_193 0 53 (dk_at dksJ3_equals_0 8 rfl rfl)
theorem dJ3_equals_11 : decode cJ3_equals 11 = .ok (.ifCond .eq 11, 3) := dk_153 0 11 (dk_at dksJ3_equals_0 11 rfl rfl)
theorem dJ3_equals_14 : decode cJ3_equals 14 = .ok (.aload_n 1, 1) := dk_43 (dk_at dksJ3_equals_0 14 rfl rfl)
theorem dJ3_equals_15 : decode cJ3_equals 15 = .ok (.checkcast 53, 3) := dk_192 0 53 (dk_at dksJ3_equals_0 15 rfl rfl)
theorem dJ3_equals_18 : decode cJ3_equals 18 = .ok (.astore_n 2, 1) := dk_77 (dk_at dksJ3_equals_0 18 rfl rfl)
theorem dJ3_equals_19 : decode cJ3_equals 19 = .ok (.goto 5, 3) := dk_167 0 5 (dk_at dksJ3_equals_0 19 rfl rfl)
theorem dJ3_equals_22 : decode cJ3_equals 22 = .ok (.iconst 0, 1) := dk_3 (dk_at dksJ3_equals_0 22 rfl rfl)
theorem dJ3_equals_23 : decode cJ3_equals 23 = .ok (.ireturn, 1) := dk_172 (dk_at dksJ3_equals_0 23 rfl rfl)
theorem dJ3_equals_24 : decode cJ3_equals 24 = .ok (.aload_n 2, 1) := dk_44 (dk_at dksJ3_equals_1 0 rfl rfl)
theorem dJ3_equals_25 : decode cJ3_equals 25 = .ok (.invokeinterface 78 1, 5) := by decide +kernel
theorem dJ3_equals_30 : decode cJ3_equals 30 = .ok (.aload_n 0, 1) := dk_42 (dk_at dksJ3_equals_1 6 rfl rfl)
theorem dJ3_equals_31 : decode cJ3_equals 31 = .ok (.invokevirtual 19, 3) := dk_182 0 19 (dk_at dksJ3_equals_1 7 rfl rfl)
theorem dJ3_equals_34 : decode cJ3_equals 34 = .ok (.if_icmp .eq 5, 3) := dk_159 0 5 (dk_at dksJ3_equals_1 10 rfl rfl)
theorem dJ3_equals_37 : decode cJ3_equals 37 = .ok (.iconst 0, 1) := dk_3 (dk_at dksJ3_equals_1 13 rfl rfl)
theorem dJ3_equals_38 : decode cJ3_equals 38 = .ok (.ireturn, 1) := dk_172 (dk_at dksJ3_equals_1 14 rfl rfl)
theorem dJ3_equals_39 : decode cJ3_equals 39 = .ok (.aload_n 0, 1) := dk_42 (dk_at dksJ3_equals_1 15 rfl rfl)
theorem dJ3_equals_40 : decode cJ3_equals 40 = .ok (.invokevirtual 7, 3) := dk_182 0 7 (dk_at dksJ3_equals_1 16 rfl rfl)
theorem dJ3_equals_43 : decode cJ3_equals 43 = .ok (.invokeinterface 20 1, 5) := by decide +kernel
theorem dJ3_equals_48 : decode cJ3_equals 48 = .ok (.astore_n 3, 1) := dk_78 (dk_at dksJ3_equals_2 0 rfl rfl)
theorem dJ3_equals_49 : decode cJ3_equals 49 = .ok (.aload_n 3, 1) := dk_45 (dk_at dksJ3_equals_2 1 rfl rfl)
theorem dJ3_equals_50 : decode cJ3_equals 50 = .ok (.invokeinterface 24 1, 5) := by decide +kernel
theorem dJ3_equals_55 : decode cJ3_equals 55 = .ok (.ifCond .eq 82, 3) := dk_153 0 82 (dk_at dksJ3_equals_2 7 rfl rfl)
theorem dJ3_equals_58 : decode cJ3_equals 58 = .ok (.aload_n 3, 1) := dk_45 (dk_at dksJ3_equals_2 10 rfl rfl)
theorem dJ3_equals_59 : decode cJ3_equals 59 = .ok (.invokeinterface 30 1, 5) := by decide +kernel
theorem dJ3_equals_64 : decode cJ3_equals 64 = .ok (.checkcast 34, 3) := dk_192 0 34 (dk_at dksJ3_equals_2 16 rfl rfl)
theorem dJ3_equals_67 : decode cJ3_equals 67 = .ok (.astore 4, 2) := dk_58 4 (dk_at dksJ3_equals_2 19 rfl rfl)
theorem dJ3_equals_69 : decode cJ3_equals 69 = .ok (.aload 4, 2) := dk_25 4 (dk_at dksJ3_equals_2 21 rfl rfl)
theorem dJ3_equals_71 : decode cJ3_equals 71 = .ok (.invokeinterface 43 1, 5) := by decide +kernel
theorem dJ3_equals_76 : decode cJ3_equals 76 = .ok (.astore 5, 2) := dk_58 5 (dk_at dksJ3_equals_3 5 rfl rfl)
theorem dJ3_equals_78 : decode cJ3_equals 78 = .ok (.aload 4, 2) := dk_25 4 (dk_at dksJ3_equals_3 7 rfl rfl)
theorem dJ3_equals_80 : decode cJ3_equals 80 = .ok (.invokeinterface 36 1, 5) := by decide +kernel
theorem dJ3_equals_85 : decode cJ3_equals 85 = .ok (.astore 6, 2) := dk_58 6 (dk_at dksJ3_equals_3 14 rfl rfl)
theorem dJ3_equals_87 : decode cJ3_equals 87 = .ok (.aload 6, 2) := dk_25 6 (dk_at dksJ3_equals_3 16 rfl rfl)
theorem dJ3_equals_89 : decode cJ3_equals 89 = .ok (.ifnonnull 27, 3) := dk_199 0 27 (dk_at dksJ3_equals_3 18 rfl rfl)
theorem dJ3_equals_92 : decode cJ3_equals 92 = .ok (.aload_n 2, 1) := dk_44 (dk_at dksJ3_equals_3 21 rfl rfl)
theorem dJ3_equals_93 : decode cJ3_equals 93 = .ok (.aload 5, 2) := dk_25 5 (dk_at dksJ3_equals_3 22 rfl rfl)
theorem dJ3_equals_95 : decode cJ3_equals 95 = .ok (.invokeinterface 79 2, 5) := by decide +kernel
theorem dJ3_equals_100 : decode cJ3_equals 100 = .ok (.ifnonnull 14, 3) := dk_199 0 14 (dk_at dksJ3_equals_4 5 rfl rfl)
theorem dJ3_equals_103 : decode cJ3_equals 103 = .ok (.aload_n 2, 1) := dk_44 (dk_at dksJ3_equals_4 8 rfl rfl)
theorem dJ3_equals_104 : decode cJ3_equals 104 = .ok (.aload 5, 2) := dk_25 5 (dk_at dksJ3_equals_4 9 rfl rfl)
theorem dJ3_equals_106 : decode cJ3_equals 106 = .ok (.invokeinterface 83 2, 5) := by decide +kernel
theorem dJ3_equals_111 : decode cJ3_equals 111 = .ok (.ifCond .ne 23, 3) := dk_154 0 23 (dk_at dksJ3_equals_4 16 rfl rfl)
theorem dJ3_equals_114 : decode cJ3_equals 114 = .ok (.iconst 0, 1) := dk_3 (dk_at dksJ3_equals_4 19 rfl rfl)
theorem dJ3_equals_115 : decode cJ3_equals 115 = .ok (.ireturn, 1) := dk_172 (dk_at dksJ3_equals_4 20 rfl rfl)
theorem dJ3_equals_116 : decode cJ3_equals 116 = .ok (.aload 6, 2) := dk_25 6 (dk_at dksJ3_equals_4 21 rfl rfl)
theorem dJ3_equals_118 : decode cJ3_equals 118 = .ok (.aload_n 2, 1) := dk_44 (dk_at dksJ3_equals_4 23 rfl rfl)
theorem dJ3_equals_119 : decode cJ3_equals 119 = .ok (.aload 5, 2) := dk_25 5 (dk_at dksJ3_equals_5 0 rfl rfl)
theorem dJ3_equals_121 : decode cJ3_equals 121 = .ok (.invokeinterface 79 2, 5) := by decide +kernel
theorem dJ3_equals_126 : decode cJ3_equals 126 = .ok (.invokevirtual 39, 3) := dk_182 0 39 (dk_at dksJ3_equals_5 7 rfl rfl)
theorem dJ3_equals_129 : decode cJ3_equals 129 = .ok (.ifCond .ne 5, 3) := dk_154 0 5 (dk_at dksJ3_equals_5 10 rfl rfl)
theorem dJ3_equals_132 : decode cJ3_equals 132 = .ok (.iconst 0, 1) := dk_3 (dk_at dksJ3_equals_5 13 rfl rfl)
theorem dJ3_equals_133 : decode cJ3_equals 133 = .ok (.ireturn, 1) := dk_172 (dk_at dksJ3_equals_5 14 rfl rfl)
theorem dJ3_equals_134 : decode cJ3_equals 134 = .ok (.goto (-85), 3) := dk_167 255 171 (dk_at dksJ3_equals_5 15 rfl rfl)
theorem dJ3_equals_137 : decode cJ3_equals 137 = .ok (.goto 6, 3) := dk_167 0 6 (dk_at dksJ3_equals_5 18 rfl rfl)
theorem dJ3_equals_140 : decode cJ3_equals 140 = .ok (.astore_n 3, 1) := dk_78 (dk_at dksJ3_equals_5 21 rfl rfl)
theorem dJ3_equals_141 : decode cJ3_equals 141 = .ok (.iconst 0, 1) := dk_3 (dk_at dksJ3_equals_5 22 rfl rfl)
theorem dJ3_equals_142 : decode cJ3_equals 142 = .ok (.ireturn, 1) := dk_172 (dk_at dksJ3_equals_5 23 rfl rfl)
theorem dJ3_equals_143 : decode cJ3_equals 143 = .ok (.iconst 1, 1) := dk_4 (dk_at dksJ3_equals_6 0 rfl rfl)
theorem dJ3_equals_144 : decode cJ3_equals 144 = .ok (.ireturn, 1) := dk_172 (dk_at dksJ3_equals_6 1 rfl rfl)
def fJ3_equals_t15_b114 (e : Nat → Nat) (N : Nat) (m : Mm) : Rs (Int32) := rt_ 0 m
def fJ3_equals_t15_b134 (e : Nat → Nat) (N : Nat) (k49 : Mm → Option Nat → Option Nat → Rs (Int32)) (m : Mm) (v2 : Option Nat) (v3 : Option Nat) : Rs (Int32) := k49 m v2 v3
def fJ3_equals_t15_b49 (e : Nat → Nat) (N : Nat) : Nat → Mm → Option Nat → Option Nat → Rs (Int32)
  | 0, _, _, _ => none
  | F + 1, m, v2, v3 => ck_ m v3 20 (bd_ (fJ30_hasNext_t20 e N m v3) (fun x1 m1 => if x1 = 0 then (rt_ 1 m1) else (ck_ m1 v3 20 (bd_ (fJ31_next e N m1 v3) (fun x2 m2 => cc_ m2 x2 [16] (ck_ m2 x2 16 (bd_ (fJ37_getKey e N m2 x2) (fun x3 m3 => ck_ m3 x2 16 (bd_ (fJ37_getValue e N m3 x2) (fun x4 m4 => if x4 = none then (ck_ m4 v2 15 (bd_ (fJ4_get e N m4 v2 x3) (fun x5 m5 => if x5 = none then (ck_ m5 v2 15 (bd_ (fJ4_containsKey e N m5 v2 x3) (fun x6 m6 => if x6 = 0 then (fJ3_equals_t15_b114 e N m6) else (fJ3_equals_t15_b134 e N (fJ3_equals_t15_b49 e N F) m6 v2 v3)))) else (fJ3_equals_t15_b114 e N m5)))) else (ck_ m4 v2 15 (bd_ (fJ4_get e N m4 v2 x3) (fun x7 m7 => ck_ m7 x4 27 (bd_ (fJ21_equals e N m7 x4 x7) (fun x8 m8 => if x8 = 0 then (rt_ 0 m8) else (fJ3_equals_t15_b134 e N (fJ3_equals_t15_b49 e N F) m8 v2 v3))))))))))))))))
def fJ3_equals_t15 (e : Nat → Nat) (N : Nat) (m : Mm) (v0 : Option Nat) (v1 : Option Nat) : Rs (Int32) := if v1 = v0 then (rt_ 1 m) else (io_ m v1 [15] (fun x1 => if x1 = 0 then (rt_ 0 m) else (cc_ m v1 [15] (ck_ m v1 15 (bd_ (fJ4_size e N m v1) (fun x2 m1 => ck_ m1 v0 15 (bd_ (fJ4_size e N m1 v0) (fun x3 m2 => if x2 = x3 then (ck_ m2 v0 15 (bd_ (fJ4_entrySet e N m2 v0) (fun x4 m3 => ck_ m3 x4 19 (bd_ (fJ25_iterator e N m3 x4) (fun x5 m4 => fJ3_equals_t15_b49 e N N m4 v1 x5))))) else (rt_ 0 m2)))))))))
abbrev cX1_haveSameRules : ByteArray := prog_1_method_64_code
def yX1_haveSameRules : MethodName := ⟨RX1, "haveSameRules", "(LMasterTree$Entry;LMasterTree$Entry;)Z"⟩
def dkwX1_haveSameRules_2 : List UInt8 := [43, 21, 4, 182, 1, 109, 160, 0, 7, 4, 167, 0, 4, 3, 61, 167, 255, 208, 28, 172]
abbrev dktX1_haveSameRules_2 : List UInt8 := dkwX1_haveSameRules_2 ++ []
def dkwX1_haveSameRules_1 : List UInt8 := [45, 185, 0, 15, 1, 0, 192, 1, 194, 182, 1, 199, 54, 4, 28, 153, 0, 22, 42, 21, 4, 182, 1, 109]
abbrev dktX1_haveSameRules_1 : List UInt8 := dkwX1_haveSameRules_1 ++ dktX1_haveSameRules_2
def dkwX1_haveSameRules_0 : List UInt8 := [4, 61, 42, 180, 1, 251, 182, 1, 255, 185, 2, 5, 1, 0, 78, 45, 185, 0, 9, 1, 0, 153, 0, 45]
abbrev dktX1_haveSameRules_0 : List UInt8 := dkwX1_haveSameRules_0 ++ dktX1_haveSameRules_1
theorem dksX1_haveSameRules_0 : cX1_haveSameRules.data.toList.drop 0 = dktX1_haveSameRules_0 := by decide +kernel
theorem dksX1_haveSameRules_1 : cX1_haveSameRules.data.toList.drop 24 = dktX1_haveSameRules_1 := dk_seg dksX1_haveSameRules_0 24 rfl rfl
theorem dksX1_haveSameRules_2 : cX1_haveSameRules.data.toList.drop 48 = dktX1_haveSameRules_2 := dk_seg dksX1_haveSameRules_1 24 rfl rfl
theorem dX1_haveSameRules_0 : decode cX1_haveSameRules 0 = .ok (.iconst 1, 1) := dk_4 (dk_at dksX1_haveSameRules_0 0 rfl rfl)
theorem dX1_haveSameRules_1 : decode cX1_haveSameRules 1 = .ok (.istore_n 2, 1) := dk_61 (dk_at dksX1_haveSameRules_0 1 rfl rfl)
theorem dX1_haveSameRules_2 : decode cX1_haveSameRules 2 = .ok (.aload_n 0, 1) := dk_42 (dk_at dksX1_haveSameRules_0 2 rfl rfl)
theorem dX1_haveSameRules_3 : decode cX1_haveSameRules 3 = .ok (.getfield 507, 3) := dk_180 1 251 (dk_at dksX1_haveSameRules_0 3 rfl rfl)
theorem dX1_haveSameRules_6 : decode cX1_haveSameRules 6 = .ok (.invokevirtual 511, 3) := dk_182 1 255 (dk_at dksX1_haveSameRules_0 6 rfl rfl)
theorem dX1_haveSameRules_9 : decode cX1_haveSameRules 9 = .ok (.invokeinterface 517 1, 5) := by decide +kernel
theorem dX1_haveSameRules_14 : decode cX1_haveSameRules 14 = .ok (.astore_n 3, 1) := dk_78 (dk_at dksX1_haveSameRules_0 14 rfl rfl)
theorem dX1_haveSameRules_15 : decode cX1_haveSameRules 15 = .ok (.aload_n 3, 1) := dk_45 (dk_at dksX1_haveSameRules_0 15 rfl rfl)
theorem dX1_haveSameRules_16 : decode cX1_haveSameRules 16 = .ok (.invokeinterface 9 1, 5) := by decide +kernel
theorem dX1_haveSameRules_21 : decode cX1_haveSameRules 21 = .ok (.ifCond .eq 45, 3) := dk_153 0 45 (dk_at dksX1_haveSameRules_0 21 rfl rfl)
theorem dX1_haveSameRules_24 : decode cX1_haveSameRules 24 = .ok (.aload_n 3, 1) := dk_45 (dk_at dksX1_haveSameRules_1 0 rfl rfl)
theorem dX1_haveSameRules_25 : decode cX1_haveSameRules 25 = .ok (.invokeinterface 15 1, 5) := by decide +kernel
theorem dX1_haveSameRules_30 : decode cX1_haveSameRules 30 = .ok (.checkcast 450, 3) := dk_192 1 194 (dk_at dksX1_haveSameRules_1 6 rfl rfl)
theorem dX1_haveSameRules_33 : decode cX1_haveSameRules 33 = .ok (.invokevirtual 455, 3) := dk_182 1 199 (dk_at dksX1_haveSameRules_1 9 rfl rfl)
theorem dX1_haveSameRules_36 : decode cX1_haveSameRules 36 = .ok (.istore 4, 2) := dk_54 4 (dk_at dksX1_haveSameRules_1 12 rfl rfl)
theorem dX1_haveSameRules_38 : decode cX1_haveSameRules 38 = .ok (.iload_n 2, 1) := dk_28 (dk_at dksX1_haveSameRules_1 14 rfl rfl)
theorem dX1_haveSameRules_39 : decode cX1_haveSameRules 39 = .ok (.ifCond .eq 22, 3) := dk_153 0 22 (dk_at dksX1_haveSameRules_1 15 rfl rfl)
theorem dX1_haveSameRules_42 : decode cX1_haveSameRules 42 = .ok (.aload_n 0, 1) := dk_42 (dk_at dksX1_haveSameRules_1 18 rfl rfl)
theorem dX1_haveSameRules_43 : decode cX1_haveSameRules 43 = .ok (.iload 4, 2) := dk_21 4 (dk_at dksX1_haveSameRules_1 19 rfl rfl)
theorem dX1_haveSameRules_45 : decode cX1_haveSameRules 45 = .ok (.invokevirtual 365, 3) := dk_182 1 109 (dk_at dksX1_haveSameRules_1 21 rfl rfl)
theorem dX1_haveSameRules_48 : decode cX1_haveSameRules 48 = .ok (.aload_n 1, 1) := dk_43 (dk_at dksX1_haveSameRules_2 0 rfl rfl)
theorem dX1_haveSameRules_49 : decode cX1_haveSameRules 49 = .ok (.iload 4, 2) := dk_21 4 (dk_at dksX1_haveSameRules_2 1 rfl rfl)
theorem dX1_haveSameRules_51 : decode cX1_haveSameRules 51 = .ok (.invokevirtual 365, 3) := dk_182 1 109 (dk_at dksX1_haveSameRules_2 3 rfl rfl)
theorem dX1_haveSameRules_54 : decode cX1_haveSameRules 54 = .ok (.if_icmp .ne 7, 3) := dk_160 0 7 (dk_at dksX1_haveSameRules_2 6 rfl rfl)
theorem dX1_haveSameRules_57 : decode cX1_haveSameRules 57 = .ok (.iconst 1, 1) := dk_4 (dk_at dksX1_haveSameRules_2 9 rfl rfl)
theorem dX1_haveSameRules_58 : decode cX1_haveSameRules 58 = .ok (.goto 4, 3) := dk_167 0 4 (dk_at dksX1_haveSameRules_2 10 rfl rfl)
theorem dX1_haveSameRules_61 : decode cX1_haveSameRules 61 = .ok (.iconst 0, 1) := dk_3 (dk_at dksX1_haveSameRules_2 13 rfl rfl)
theorem dX1_haveSameRules_62 : decode cX1_haveSameRules 62 = .ok (.istore_n 2, 1) := dk_61 (dk_at dksX1_haveSameRules_2 14 rfl rfl)
theorem dX1_haveSameRules_63 : decode cX1_haveSameRules 63 = .ok (.goto (-48), 3) := dk_167 255 208 (dk_at dksX1_haveSameRules_2 15 rfl rfl)
theorem dX1_haveSameRules_66 : decode cX1_haveSameRules 66 = .ok (.iload_n 2, 1) := dk_28 (dk_at dksX1_haveSameRules_2 18 rfl rfl)
theorem dX1_haveSameRules_67 : decode cX1_haveSameRules 67 = .ok (.ireturn, 1) := dk_172 (dk_at dksX1_haveSameRules_2 19 rfl rfl)
def fX1_haveSameRules_b62 (e : Nat → Nat) (N : Nat) (k15 : Mm → Option Nat → Option Nat → Int32 → Option Nat → Rs (Int32)) (m : Mm) (v0 : Option Nat) (v1 : Option Nat) (v3 : Option Nat) (s0 : Int32) : Rs (Int32) := k15 m v0 v1 s0 v3
def fX1_haveSameRules_b61 (e : Nat → Nat) (N : Nat) (k15 : Mm → Option Nat → Option Nat → Int32 → Option Nat → Rs (Int32)) (m : Mm) (v0 : Option Nat) (v1 : Option Nat) (v3 : Option Nat) : Rs (Int32) := fX1_haveSameRules_b62 e N k15 m v0 v1 v3 0
def fX1_haveSameRules_b15 (e : Nat → Nat) (N : Nat) : Nat → Mm → Option Nat → Option Nat → Int32 → Option Nat → Rs (Int32)
  | 0, _, _, _, _, _ => none
  | F + 1, m, v0, v1, v2, v3 => ck_ m v3 18 (bd_ (fJ30_hasNext_t18 e N m v3) (fun x1 m1 => if x1 = 0 then (rz_ v2 v2 m1) else (ck_ m1 v3 18 (bd_ (fJ32_next e N m1 v3) (fun x2 m2 => cc_ m2 x2 [27] (ck_ m2 x2 27 (bd_ (fJ21_intValue e N m2 x2) (fun x3 m3 => if v2 = 0 then (fX1_haveSameRules_b61 e N (fX1_haveSameRules_b15 e N F) m3 v0 v1 v3) else (ck_ m3 v0 3 (bd_ (fX3_says e N m3 v0 x3) (fun x4 m4 => ck_ m4 v1 3 (bd_ (fX3_says e N m4 v1 x3) (fun x5 m5 => if x4 = x5 then (fX1_haveSameRules_b62 e N (fX1_haveSameRules_b15 e N F) m5 v0 v1 v3 1) else (fX1_haveSameRules_b61 e N (fX1_haveSameRules_b15 e N F) m5 v0 v1 v3))))))))))))))
def fX1_haveSameRules (e : Nat → Nat) (N : Nat) (m : Mm) (v0 : Option Nat) (v1 : Option Nat) : Rs (Int32) := gr_ m v0 3 8 (fun x1 => ck_ m x1 15 (bd_ (fJ4_keySet e N m x1) (fun x2 m1 => ck_ m1 x2 17 (bd_ (fJ36_iterator e N m1 x2) (fun x3 m2 => fX1_haveSameRules_b15 e N N m2 v0 v1 1 x3)))))
abbrev cX1_areAlikeIn : ByteArray := prog_1_method_65_code
def yX1_areAlikeIn : MethodName := ⟨RX1, "areAlikeIn", "(LMasterTree$Master;LMasterTree$Master;I)Z"⟩
def dkwX1_areAlikeIn_4 : List UInt8 := [184, 2, 13, 153, 0, 7, 4, 167, 0, 4, 3, 172]
abbrev dktX1_areAlikeIn_4 : List UInt8 := dkwX1_areAlikeIn_4 ++ []
def dkwX1_areAlikeIn_3 : List UInt8 := [25, 4, 180, 2, 8, 182, 2, 10, 153, 0, 25, 45, 25, 4, 184, 2, 13, 153, 0, 16, 25, 4, 45]
abbrev dktX1_areAlikeIn_3 : List UInt8 := dkwX1_areAlikeIn_3 ++ dktX1_areAlikeIn_4
def dkwX1_areAlikeIn_2 : List UInt8 := [25, 4, 180, 1, 93, 160, 0, 7, 4, 167, 0, 4, 3, 54, 5, 21, 5, 153, 0, 40, 45, 180, 2, 8]
abbrev dktX1_areAlikeIn_2 : List UInt8 := dkwX1_areAlikeIn_2 ++ dktX1_areAlikeIn_3
def dkwX1_areAlikeIn_1 : List UInt8 := [182, 1, 54, 160, 0, 32, 42, 28, 182, 1, 59, 43, 28, 182, 1, 59, 160, 0, 19, 45, 180, 1, 93]
abbrev dktX1_areAlikeIn_1 : List UInt8 := dkwX1_areAlikeIn_1 ++ dktX1_areAlikeIn_2
def dkwX1_areAlikeIn_0 : List UInt8 := [42, 180, 0, 128, 28, 50, 78, 43, 180, 0, 128, 28, 50, 58, 4, 42, 28, 182, 1, 54, 43, 28]
abbrev dktX1_areAlikeIn_0 : List UInt8 := dkwX1_areAlikeIn_0 ++ dktX1_areAlikeIn_1
theorem dksX1_areAlikeIn_0 : cX1_areAlikeIn.data.toList.drop 0 = dktX1_areAlikeIn_0 := by decide +kernel
theorem dksX1_areAlikeIn_1 : cX1_areAlikeIn.data.toList.drop 22 = dktX1_areAlikeIn_1 := dk_seg dksX1_areAlikeIn_0 22 rfl rfl
theorem dksX1_areAlikeIn_2 : cX1_areAlikeIn.data.toList.drop 45 = dktX1_areAlikeIn_2 := dk_seg dksX1_areAlikeIn_1 23 rfl rfl
theorem dksX1_areAlikeIn_3 : cX1_areAlikeIn.data.toList.drop 69 = dktX1_areAlikeIn_3 := dk_seg dksX1_areAlikeIn_2 24 rfl rfl
theorem dksX1_areAlikeIn_4 : cX1_areAlikeIn.data.toList.drop 92 = dktX1_areAlikeIn_4 := dk_seg dksX1_areAlikeIn_3 23 rfl rfl
theorem dX1_areAlikeIn_0 : decode cX1_areAlikeIn 0 = .ok (.aload_n 0, 1) := dk_42 (dk_at dksX1_areAlikeIn_0 0 rfl rfl)
theorem dX1_areAlikeIn_1 : decode cX1_areAlikeIn 1 = .ok (.getfield 128, 3) := dk_180 0 128 (dk_at dksX1_areAlikeIn_0 1 rfl rfl)
theorem dX1_areAlikeIn_4 : decode cX1_areAlikeIn 4 = .ok (.iload_n 2, 1) := dk_28 (dk_at dksX1_areAlikeIn_0 4 rfl rfl)
theorem dX1_areAlikeIn_5 : decode cX1_areAlikeIn 5 = .ok (.aaload, 1) := dk_50 (dk_at dksX1_areAlikeIn_0 5 rfl rfl)
theorem dX1_areAlikeIn_6 : decode cX1_areAlikeIn 6 = .ok (.astore_n 3, 1) := dk_78 (dk_at dksX1_areAlikeIn_0 6 rfl rfl)
theorem dX1_areAlikeIn_7 : decode cX1_areAlikeIn 7 = .ok (.aload_n 1, 1) := dk_43 (dk_at dksX1_areAlikeIn_0 7 rfl rfl)
theorem dX1_areAlikeIn_8 : decode cX1_areAlikeIn 8 = .ok (.getfield 128, 3) := dk_180 0 128 (dk_at dksX1_areAlikeIn_0 8 rfl rfl)
theorem dX1_areAlikeIn_11 : decode cX1_areAlikeIn 11 = .ok (.iload_n 2, 1) := dk_28 (dk_at dksX1_areAlikeIn_0 11 rfl rfl)
theorem dX1_areAlikeIn_12 : decode cX1_areAlikeIn 12 = .ok (.aaload, 1) := dk_50 (dk_at dksX1_areAlikeIn_0 12 rfl rfl)
theorem dX1_areAlikeIn_13 : decode cX1_areAlikeIn 13 = .ok (.astore 4, 2) := dk_58 4 (dk_at dksX1_areAlikeIn_0 13 rfl rfl)
theorem dX1_areAlikeIn_15 : decode cX1_areAlikeIn 15 = .ok (.aload_n 0, 1) := dk_42 (dk_at dksX1_areAlikeIn_0 15 rfl rfl)
theorem dX1_areAlikeIn_16 : decode cX1_areAlikeIn 16 = .ok (.iload_n 2, 1) := dk_28 (dk_at dksX1_areAlikeIn_0 16 rfl rfl)
theorem dX1_areAlikeIn_17 : decode cX1_areAlikeIn 17 = .ok (.invokevirtual 310, 3) := dk_182 1 54 (dk_at dksX1_areAlikeIn_0 17 rfl rfl)
theorem dX1_areAlikeIn_20 : decode cX1_areAlikeIn 20 = .ok (.aload_n 1, 1) := dk_43 (dk_at dksX1_areAlikeIn_0 20 rfl rfl)
theorem dX1_areAlikeIn_21 : decode cX1_areAlikeIn 21 = .ok (.iload_n 2, 1) := dk_28 (dk_at dksX1_areAlikeIn_0 21 rfl rfl)
theorem dX1_areAlikeIn_22 : decode cX1_areAlikeIn 22 = .ok (.invokevirtual 310, 3) := dk_182 1 54 (dk_at dksX1_areAlikeIn_1 0 rfl rfl)
theorem dX1_areAlikeIn_25 : decode cX1_areAlikeIn 25 = .ok (.if_icmp .ne 32, 3) := dk_160 0 32 (dk_at dksX1_areAlikeIn_1 3 rfl rfl)
theorem dX1_areAlikeIn_28 : decode cX1_areAlikeIn 28 = .ok (.aload_n 0, 1) := dk_42 (dk_at dksX1_areAlikeIn_1 6 rfl rfl)
theorem dX1_areAlikeIn_29 : decode cX1_areAlikeIn 29 = .ok (.iload_n 2, 1) := dk_28 (dk_at dksX1_areAlikeIn_1 7 rfl rfl)
theorem dX1_areAlikeIn_30 : decode cX1_areAlikeIn 30 = .ok (.invokevirtual 315, 3) := dk_182 1 59 (dk_at dksX1_areAlikeIn_1 8 rfl rfl)
theorem dX1_areAlikeIn_33 : decode cX1_areAlikeIn 33 = .ok (.aload_n 1, 1) := dk_43 (dk_at dksX1_areAlikeIn_1 11 rfl rfl)
theorem dX1_areAlikeIn_34 : decode cX1_areAlikeIn 34 = .ok (.iload_n 2, 1) := dk_28 (dk_at dksX1_areAlikeIn_1 12 rfl rfl)
theorem dX1_areAlikeIn_35 : decode cX1_areAlikeIn 35 = .ok (.invokevirtual 315, 3) := dk_182 1 59 (dk_at dksX1_areAlikeIn_1 13 rfl rfl)
theorem dX1_areAlikeIn_38 : decode cX1_areAlikeIn 38 = .ok (.if_icmp .ne 19, 3) := dk_160 0 19 (dk_at dksX1_areAlikeIn_1 16 rfl rfl)
theorem dX1_areAlikeIn_41 : decode cX1_areAlikeIn 41 = .ok (.aload_n 3, 1) := dk_45 (dk_at dksX1_areAlikeIn_1 19 rfl rfl)
theorem dX1_areAlikeIn_42 : decode cX1_areAlikeIn 42 = .ok (.getfield 349, 3) := dk_180 1 93 (dk_at dksX1_areAlikeIn_1 20 rfl rfl)
theorem dX1_areAlikeIn_45 : decode cX1_areAlikeIn 45 = .ok (.aload 4, 2) := dk_25 4 (dk_at dksX1_areAlikeIn_2 0 rfl rfl)
theorem dX1_areAlikeIn_47 : decode cX1_areAlikeIn 47 = .ok (.getfield 349, 3) := dk_180 1 93 (dk_at dksX1_areAlikeIn_2 2 rfl rfl)
theorem dX1_areAlikeIn_50 : decode cX1_areAlikeIn 50 = .ok (.if_icmp .ne 7, 3) := dk_160 0 7 (dk_at dksX1_areAlikeIn_2 5 rfl rfl)
theorem dX1_areAlikeIn_53 : decode cX1_areAlikeIn 53 = .ok (.iconst 1, 1) := dk_4 (dk_at dksX1_areAlikeIn_2 8 rfl rfl)
theorem dX1_areAlikeIn_54 : decode cX1_areAlikeIn 54 = .ok (.goto 4, 3) := dk_167 0 4 (dk_at dksX1_areAlikeIn_2 9 rfl rfl)
theorem dX1_areAlikeIn_57 : decode cX1_areAlikeIn 57 = .ok (.iconst 0, 1) := dk_3 (dk_at dksX1_areAlikeIn_2 12 rfl rfl)
theorem dX1_areAlikeIn_58 : decode cX1_areAlikeIn 58 = .ok (.istore 5, 2) := dk_54 5 (dk_at dksX1_areAlikeIn_2 13 rfl rfl)
theorem dX1_areAlikeIn_60 : decode cX1_areAlikeIn 60 = .ok (.iload 5, 2) := dk_21 5 (dk_at dksX1_areAlikeIn_2 15 rfl rfl)
theorem dX1_areAlikeIn_62 : decode cX1_areAlikeIn 62 = .ok (.ifCond .eq 40, 3) := dk_153 0 40 (dk_at dksX1_areAlikeIn_2 17 rfl rfl)
theorem dX1_areAlikeIn_65 : decode cX1_areAlikeIn 65 = .ok (.aload_n 3, 1) := dk_45 (dk_at dksX1_areAlikeIn_2 20 rfl rfl)
theorem dX1_areAlikeIn_66 : decode cX1_areAlikeIn 66 = .ok (.getfield 520, 3) := dk_180 2 8 (dk_at dksX1_areAlikeIn_2 21 rfl rfl)
theorem dX1_areAlikeIn_69 : decode cX1_areAlikeIn 69 = .ok (.aload 4, 2) := dk_25 4 (dk_at dksX1_areAlikeIn_3 0 rfl rfl)
theorem dX1_areAlikeIn_71 : decode cX1_areAlikeIn 71 = .ok (.getfield 520, 3) := dk_180 2 8 (dk_at dksX1_areAlikeIn_3 2 rfl rfl)
theorem dX1_areAlikeIn_74 : decode cX1_areAlikeIn 74 = .ok (.invokevirtual 522, 3) := dk_182 2 10 (dk_at dksX1_areAlikeIn_3 5 rfl rfl)
theorem dX1_areAlikeIn_77 : decode cX1_areAlikeIn 77 = .ok (.ifCond .eq 25, 3) := dk_153 0 25 (dk_at dksX1_areAlikeIn_3 8 rfl rfl)
theorem dX1_areAlikeIn_80 : decode cX1_areAlikeIn 80 = .ok (.aload_n 3, 1) := dk_45 (dk_at dksX1_areAlikeIn_3 11 rfl rfl)
theorem dX1_areAlikeIn_81 : decode cX1_areAlikeIn 81 = .ok (.aload 4, 2) := dk_25 4 (dk_at dksX1_areAlikeIn_3 12 rfl rfl)
theorem dX1_areAlikeIn_83 : decode cX1_areAlikeIn 83 = .ok (.invokestatic 525, 3) := dk_184 2 13 (dk_at dksX1_areAlikeIn_3 14 rfl rfl)
theorem dX1_areAlikeIn_86 : decode cX1_areAlikeIn 86 = .ok (.ifCond .eq 16, 3) := dk_153 0 16 (dk_at dksX1_areAlikeIn_3 17 rfl rfl)
theorem dX1_areAlikeIn_89 : decode cX1_areAlikeIn 89 = .ok (.aload 4, 2) := dk_25 4 (dk_at dksX1_areAlikeIn_3 20 rfl rfl)
theorem dX1_areAlikeIn_91 : decode cX1_areAlikeIn 91 = .ok (.aload_n 3, 1) := dk_45 (dk_at dksX1_areAlikeIn_3 22 rfl rfl)
theorem dX1_areAlikeIn_92 : decode cX1_areAlikeIn 92 = .ok (.invokestatic 525, 3) := dk_184 2 13 (dk_at dksX1_areAlikeIn_4 0 rfl rfl)
theorem dX1_areAlikeIn_95 : decode cX1_areAlikeIn 95 = .ok (.ifCond .eq 7, 3) := dk_153 0 7 (dk_at dksX1_areAlikeIn_4 3 rfl rfl)
theorem dX1_areAlikeIn_98 : decode cX1_areAlikeIn 98 = .ok (.iconst 1, 1) := dk_4 (dk_at dksX1_areAlikeIn_4 6 rfl rfl)
theorem dX1_areAlikeIn_99 : decode cX1_areAlikeIn 99 = .ok (.goto 4, 3) := dk_167 0 4 (dk_at dksX1_areAlikeIn_4 7 rfl rfl)
theorem dX1_areAlikeIn_102 : decode cX1_areAlikeIn 102 = .ok (.iconst 0, 1) := dk_3 (dk_at dksX1_areAlikeIn_4 10 rfl rfl)
theorem dX1_areAlikeIn_103 : decode cX1_areAlikeIn 103 = .ok (.ireturn, 1) := dk_172 (dk_at dksX1_areAlikeIn_4 11 rfl rfl)
def fX1_areAlikeIn_b103 (e : Nat → Nat) (N : Nat) (m : Mm) (s0 : Int32) : Rs (Int32) := rz_ s0 s0 m
def fX1_areAlikeIn_b102 (e : Nat → Nat) (N : Nat) (m : Mm) : Rs (Int32) := fX1_areAlikeIn_b103 e N m 0
def fX1_areAlikeIn_b58 (e : Nat → Nat) (N : Nat) (m : Mm) (v3 : Option Nat) (v4 : Option Nat) (s0 : Int32) : Rs (Int32) := if s0 = 0 then (fX1_areAlikeIn_b102 e N m) else (gr_ m v3 3 7 (fun x1 => gr_ m v4 3 7 (fun x2 => ck_ m x1 15 (bd_ (fJ3_equals_t15 e N m x1 x2) (fun x3 m1 => if x3 = 0 then (fX1_areAlikeIn_b102 e N m1) else (bd_ (fX1_haveSameRules e N m1 v3 v4) (fun x4 m2 => if x4 = 0 then (fX1_areAlikeIn_b102 e N m2) else (bd_ (fX1_haveSameRules e N m2 v4 v3) (fun x5 m3 => if x5 = 0 then (fX1_areAlikeIn_b102 e N m3) else (fX1_areAlikeIn_b103 e N m3 1))))))))))
def fX1_areAlikeIn_b57 (e : Nat → Nat) (N : Nat) (m : Mm) (v3 : Option Nat) (v4 : Option Nat) : Rs (Int32) := fX1_areAlikeIn_b58 e N m v3 v4 0
def fX1_areAlikeIn (e : Nat → Nat) (N : Nat) (m : Mm) (v0 : Option Nat) (v1 : Option Nat) (v2 : Int32) : Rs (Int32) := gr_ m v0 2 6 (fun x1 => ar_ m x1 205 v2 (fun x2 => gr_ m v1 2 6 (fun x3 => ar_ m x3 205 v2 (fun x4 => ck_ m v0 2 (bd_ (fX2_shownAt e N m v0 v2) (fun x5 m1 => ck_ m1 v1 2 (bd_ (fX2_shownAt e N m1 v1 v2) (fun x6 m2 => if x5 = x6 then (ck_ m2 v0 2 (bd_ (fX2_shownName e N m2 v0 v2) (fun x7 m3 => ck_ m3 v1 2 (bd_ (fX2_shownName e N m3 v1 v2) (fun x8 m4 => if x7 = x8 then (gi_ m4 x2 3 6 (fun x9 => gi_ m4 x4 3 6 (fun x10 => if x9 = x10 then (fX1_areAlikeIn_b58 e N m4 x2 x4 1) else (fX1_areAlikeIn_b57 e N m4 x2 x4)))) else (fX1_areAlikeIn_b57 e N m4 x2 x4)))))) else (fX1_areAlikeIn_b57 e N m2 x2 x4)))))))))
abbrev cX1_areAlike : ByteArray := prog_1_method_66_code
def yX1_areAlike : MethodName := ⟨RX1, "areAlike", "(II)Z"⟩
def dkwX1_areAlike_3 : List UInt8 := [167, 0, 4, 3, 54, 5, 132, 6, 1, 167, 255, 214, 21, 5, 172]
abbrev dktX1_areAlike_3 : List UInt8 := dkwX1_areAlike_3 ++ []
def dkwX1_areAlike_2 : List UInt8 := [153, 0, 36, 45, 21, 6, 182, 0, 117, 153, 0, 14, 45, 25, 4, 21, 6, 184, 2, 17, 153, 0, 7, 4]
abbrev dktX1_areAlike_2 : List UInt8 := dkwX1_areAlike_2 ++ dktX1_areAlike_3
def dkwX1_areAlike_1 : List UInt8 := [154, 0, 7, 4, 167, 0, 4, 3, 54, 5, 3, 54, 6, 21, 6, 16, 48, 162, 0, 41, 21, 5]
abbrev dktX1_areAlike_1 : List UInt8 := dkwX1_areAlike_1 ++ dktX1_areAlike_2
def dkwX1_areAlike_0 : List UInt8 := [42, 27, 182, 0, 183, 78, 42, 28, 182, 0, 183, 58, 4, 45, 182, 1, 213, 25, 4, 182, 1, 213, 148]
abbrev dktX1_areAlike_0 : List UInt8 := dkwX1_areAlike_0 ++ dktX1_areAlike_1
theorem dksX1_areAlike_0 : cX1_areAlike.data.toList.drop 0 = dktX1_areAlike_0 := by decide +kernel
theorem dksX1_areAlike_1 : cX1_areAlike.data.toList.drop 23 = dktX1_areAlike_1 := dk_seg dksX1_areAlike_0 23 rfl rfl
theorem dksX1_areAlike_2 : cX1_areAlike.data.toList.drop 45 = dktX1_areAlike_2 := dk_seg dksX1_areAlike_1 22 rfl rfl
theorem dksX1_areAlike_3 : cX1_areAlike.data.toList.drop 69 = dktX1_areAlike_3 := dk_seg dksX1_areAlike_2 24 rfl rfl
theorem dX1_areAlike_0 : decode cX1_areAlike 0 = .ok (.aload_n 0, 1) := dk_42 (dk_at dksX1_areAlike_0 0 rfl rfl)
theorem dX1_areAlike_1 : decode cX1_areAlike 1 = .ok (.iload_n 1, 1) := dk_27 (dk_at dksX1_areAlike_0 1 rfl rfl)
theorem dX1_areAlike_2 : decode cX1_areAlike 2 = .ok (.invokevirtual 183, 3) := dk_182 0 183 (dk_at dksX1_areAlike_0 2 rfl rfl)
theorem dX1_areAlike_5 : decode cX1_areAlike 5 = .ok (.astore_n 3, 1) := dk_78 (dk_at dksX1_areAlike_0 5 rfl rfl)
theorem dX1_areAlike_6 : decode cX1_areAlike 6 = .ok (.aload_n 0, 1) := dk_42 (dk_at dksX1_areAlike_0 6 rfl rfl)
theorem dX1_areAlike_7 : decode cX1_areAlike 7 = .ok (.iload_n 2, 1) := dk_28 (dk_at dksX1_areAlike_0 7 rfl rfl)
theorem dX1_areAlike_8 : decode cX1_areAlike 8 = .ok (.invokevirtual 183, 3) := dk_182 0 183 (dk_at dksX1_areAlike_0 8 rfl rfl)
theorem dX1_areAlike_11 : decode cX1_areAlike 11 = .ok (.astore 4, 2) := dk_58 4 (dk_at dksX1_areAlike_0 11 rfl rfl)
theorem dX1_areAlike_13 : decode cX1_areAlike 13 = .ok (.aload_n 3, 1) := dk_45 (dk_at dksX1_areAlike_0 13 rfl rfl)
theorem dX1_areAlike_14 : decode cX1_areAlike 14 = .ok (.invokevirtual 469, 3) := dk_182 1 213 (dk_at dksX1_areAlike_0 14 rfl rfl)
theorem dX1_areAlike_17 : decode cX1_areAlike 17 = .ok (.aload 4, 2) := dk_25 4 (dk_at dksX1_areAlike_0 17 rfl rfl)
theorem dX1_areAlike_19 : decode cX1_areAlike 19 = .ok (.invokevirtual 469, 3) := dk_182 1 213 (dk_at dksX1_areAlike_0 19 rfl rfl)
theorem dX1_areAlike_22 : decode cX1_areAlike 22 = .ok (.lcmp, 1) := dk_148 (dk_at dksX1_areAlike_0 22 rfl rfl)
theorem dX1_areAlike_23 : decode cX1_areAlike 23 = .ok (.ifCond .ne 7, 3) := dk_154 0 7 (dk_at dksX1_areAlike_1 0 rfl rfl)
theorem dX1_areAlike_26 : decode cX1_areAlike 26 = .ok (.iconst 1, 1) := dk_4 (dk_at dksX1_areAlike_1 3 rfl rfl)
theorem dX1_areAlike_27 : decode cX1_areAlike 27 = .ok (.goto 4, 3) := dk_167 0 4 (dk_at dksX1_areAlike_1 4 rfl rfl)
theorem dX1_areAlike_30 : decode cX1_areAlike 30 = .ok (.iconst 0, 1) := dk_3 (dk_at dksX1_areAlike_1 7 rfl rfl)
theorem dX1_areAlike_31 : decode cX1_areAlike 31 = .ok (.istore 5, 2) := dk_54 5 (dk_at dksX1_areAlike_1 8 rfl rfl)
theorem dX1_areAlike_33 : decode cX1_areAlike 33 = .ok (.iconst 0, 1) := dk_3 (dk_at dksX1_areAlike_1 10 rfl rfl)
theorem dX1_areAlike_34 : decode cX1_areAlike 34 = .ok (.istore 6, 2) := dk_54 6 (dk_at dksX1_areAlike_1 11 rfl rfl)
theorem dX1_areAlike_36 : decode cX1_areAlike 36 = .ok (.iload 6, 2) := dk_21 6 (dk_at dksX1_areAlike_1 13 rfl rfl)
theorem dX1_areAlike_38 : decode cX1_areAlike 38 = .ok (.bipush 48, 2) := dk_16 48 (dk_at dksX1_areAlike_1 15 rfl rfl)
theorem dX1_areAlike_40 : decode cX1_areAlike 40 = .ok (.if_icmp .ge 41, 3) := dk_162 0 41 (dk_at dksX1_areAlike_1 17 rfl rfl)
theorem dX1_areAlike_43 : decode cX1_areAlike 43 = .ok (.iload 5, 2) := dk_21 5 (dk_at dksX1_areAlike_1 20 rfl rfl)
theorem dX1_areAlike_45 : decode cX1_areAlike 45 = .ok (.ifCond .eq 36, 3) := dk_153 0 36 (dk_at dksX1_areAlike_2 0 rfl rfl)
theorem dX1_areAlike_48 : decode cX1_areAlike 48 = .ok (.aload_n 3, 1) := dk_45 (dk_at dksX1_areAlike_2 3 rfl rfl)
theorem dX1_areAlike_49 : decode cX1_areAlike 49 = .ok (.iload 6, 2) := dk_21 6 (dk_at dksX1_areAlike_2 4 rfl rfl)
theorem dX1_areAlike_51 : decode cX1_areAlike 51 = .ok (.invokevirtual 117, 3) := dk_182 0 117 (dk_at dksX1_areAlike_2 6 rfl rfl)
theorem dX1_areAlike_54 : decode cX1_areAlike 54 = .ok (.ifCond .eq 14, 3) := dk_153 0 14 (dk_at dksX1_areAlike_2 9 rfl rfl)
theorem dX1_areAlike_57 : decode cX1_areAlike 57 = .ok (.aload_n 3, 1) := dk_45 (dk_at dksX1_areAlike_2 12 rfl rfl)
theorem dX1_areAlike_58 : decode cX1_areAlike 58 = .ok (.aload 4, 2) := dk_25 4 (dk_at dksX1_areAlike_2 13 rfl rfl)
theorem dX1_areAlike_60 : decode cX1_areAlike 60 = .ok (.iload 6, 2) := dk_21 6 (dk_at dksX1_areAlike_2 15 rfl rfl)
theorem dX1_areAlike_62 : decode cX1_areAlike 62 = .ok (.invokestatic 529, 3) := dk_184 2 17 (dk_at dksX1_areAlike_2 17 rfl rfl)
theorem dX1_areAlike_65 : decode cX1_areAlike 65 = .ok (.ifCond .eq 7, 3) := dk_153 0 7 (dk_at dksX1_areAlike_2 20 rfl rfl)
theorem dX1_areAlike_68 : decode cX1_areAlike 68 = .ok (.iconst 1, 1) := dk_4 (dk_at dksX1_areAlike_2 23 rfl rfl)
theorem dX1_areAlike_69 : decode cX1_areAlike 69 = .ok (.goto 4, 3) := dk_167 0 4 (dk_at dksX1_areAlike_3 0 rfl rfl)
theorem dX1_areAlike_72 : decode cX1_areAlike 72 = .ok (.iconst 0, 1) := dk_3 (dk_at dksX1_areAlike_3 3 rfl rfl)
theorem dX1_areAlike_73 : decode cX1_areAlike 73 = .ok (.istore 5, 2) := dk_54 5 (dk_at dksX1_areAlike_3 4 rfl rfl)
theorem dX1_areAlike_75 : decode cX1_areAlike 75 = .ok (.iinc 6 1, 3) := dk_132 6 1 (dk_at dksX1_areAlike_3 6 rfl rfl)
theorem dX1_areAlike_78 : decode cX1_areAlike 78 = .ok (.goto (-42), 3) := dk_167 255 214 (dk_at dksX1_areAlike_3 9 rfl rfl)
theorem dX1_areAlike_81 : decode cX1_areAlike 81 = .ok (.iload 5, 2) := dk_21 5 (dk_at dksX1_areAlike_3 12 rfl rfl)
theorem dX1_areAlike_83 : decode cX1_areAlike 83 = .ok (.ireturn, 1) := dk_172 (dk_at dksX1_areAlike_3 14 rfl rfl)
def fX1_areAlike_b73 (e : Nat → Nat) (N : Nat) (k36 : Mm → Option Nat → Option Nat → Int32 → Int32 → Rs (Int32 ⊕ Nat)) (m : Mm) (v3 : Option Nat) (v4 : Option Nat) (v6 : Int32) (s0 : Int32) : Rs (Int32 ⊕ Nat) := k36 m v3 v4 s0 (v6 + 1)
def fX1_areAlike_b68 (e : Nat → Nat) (N : Nat) (k36 : Mm → Option Nat → Option Nat → Int32 → Int32 → Rs (Int32 ⊕ Nat)) (m : Mm) (v3 : Option Nat) (v4 : Option Nat) (v6 : Int32) : Rs (Int32 ⊕ Nat) := fX1_areAlike_b73 e N k36 m v3 v4 v6 1
def fX1_areAlike_b81 (e : Nat → Nat) (N : Nat) (m : Mm) (v5 : Int32) : Rs (Int32 ⊕ Nat) := rz_ v5 (.inl v5) m
def fX1_areAlike_b36 (e : Nat → Nat) (N : Nat) : Nat → Mm → Option Nat → Option Nat → Int32 → Int32 → Rs (Int32 ⊕ Nat)
  | 0, _, _, _, _, _ => none
  | F + 1, m, v3, v4, v5, v6 => if v6 < 48 then (if v5 = 0 then (fX1_areAlike_b81 e N m v5) else (ck_ m v3 2 (bd_ (fX2_isLive e N m v3 v6) (fun x1 m1 => if x1 = 0 then (fX1_areAlike_b68 e N (fX1_areAlike_b36 e N F) m1 v3 v4 v6) else (bd_ (fX1_areAlikeIn e N m1 v3 v4 v6) (fun x2 m2 => if x2 = 0 then (fX1_areAlike_b73 e N (fX1_areAlike_b36 e N F) m2 v3 v4 v6 0) else (fX1_areAlike_b68 e N (fX1_areAlike_b36 e N F) m2 v3 v4 v6))))))) else (fX1_areAlike_b81 e N m v5)
def fX1_areAlike_b31 (e : Nat → Nat) (N : Nat) (m : Mm) (v3 : Option Nat) (v4 : Option Nat) (s0 : Int32) : Rs (Int32 ⊕ Nat) := fX1_areAlike_b36 e N N m v3 v4 s0 0
def fX1_areAlike (e : Nat → Nat) (N : Nat) (m : Mm) (v0 : Option Nat) (v1 : Int32) (v2 : Int32) : Rs (Int32 ⊕ Nat) := ck_ m v0 1 (bd_ (fX1_at e N m v0 v1) (xf_ (fun x1 m1 => ck_ m1 v0 1 (bd_ (fX1_at e N m1 v0 v2) (xf_ (fun x2 m2 => ck_ m2 x1 2 (bd_ (fX2_liveOnes e N m2 x1) (fun x3 m3 => ck_ m3 x2 2 (bd_ (fX2_liveOnes e N m3 x2) (fun x4 m4 => if (lg_cmp x3 x4) = 0 then (fX1_areAlike_b31 e N m4 x1 x2 1) else (fX1_areAlike_b31 e N m4 x1 x2 0)))))))))))
abbrev cX0_areAlike : ByteArray := method_40_code
def yX0_areAlike : MethodName := ⟨RX0, "areAlike", "(LMasterTree;II[J)I"⟩
def dkwX0_areAlike_1 : List UInt8 := [3, 172]
abbrev dktX0_areAlike_1 : List UInt8 := dkwX0_areAlike_1 ++ []
def dkwX0_areAlike_0 : List UInt8 := [45, 3, 42, 27, 28, 182, 0, 135, 153, 0, 7, 10, 167, 0, 4, 9, 80, 167, 0, 7, 58, 4, 4, 172]
abbrev dktX0_areAlike_0 : List UInt8 := dkwX0_areAlike_0 ++ dktX0_areAlike_1
theorem dksX0_areAlike_0 : cX0_areAlike.data.toList.drop 0 = dktX0_areAlike_0 := by decide +kernel
theorem dksX0_areAlike_1 : cX0_areAlike.data.toList.drop 24 = dktX0_areAlike_1 := dk_seg dksX0_areAlike_0 24 rfl rfl
theorem dX0_areAlike_0 : decode cX0_areAlike 0 = .ok (.aload_n 3, 1) := dk_45 (dk_at dksX0_areAlike_0 0 rfl rfl)
theorem dX0_areAlike_1 : decode cX0_areAlike 1 = .ok (.iconst 0, 1) := dk_3 (dk_at dksX0_areAlike_0 1 rfl rfl)
theorem dX0_areAlike_2 : decode cX0_areAlike 2 = .ok (.aload_n 0, 1) := dk_42 (dk_at dksX0_areAlike_0 2 rfl rfl)
theorem dX0_areAlike_3 : decode cX0_areAlike 3 = .ok (.iload_n 1, 1) := dk_27 (dk_at dksX0_areAlike_0 3 rfl rfl)
theorem dX0_areAlike_4 : decode cX0_areAlike 4 = .ok (.iload_n 2, 1) := dk_28 (dk_at dksX0_areAlike_0 4 rfl rfl)
theorem dX0_areAlike_5 : decode cX0_areAlike 5 = .ok (.invokevirtual 135, 3) := dk_182 0 135 (dk_at dksX0_areAlike_0 5 rfl rfl)
theorem dX0_areAlike_8 : decode cX0_areAlike 8 = .ok (.ifCond .eq 7, 3) := dk_153 0 7 (dk_at dksX0_areAlike_0 8 rfl rfl)
theorem dX0_areAlike_11 : decode cX0_areAlike 11 = .ok (.lconst 1, 1) := dk_10 (dk_at dksX0_areAlike_0 11 rfl rfl)
theorem dX0_areAlike_12 : decode cX0_areAlike 12 = .ok (.goto 4, 3) := dk_167 0 4 (dk_at dksX0_areAlike_0 12 rfl rfl)
theorem dX0_areAlike_15 : decode cX0_areAlike 15 = .ok (.lconst 0, 1) := dk_9 (dk_at dksX0_areAlike_0 15 rfl rfl)
theorem dX0_areAlike_16 : decode cX0_areAlike 16 = .ok (.lastore, 1) := dk_80 (dk_at dksX0_areAlike_0 16 rfl rfl)
theorem dX0_areAlike_17 : decode cX0_areAlike 17 = .ok (.goto 7, 3) := dk_167 0 7 (dk_at dksX0_areAlike_0 17 rfl rfl)
theorem dX0_areAlike_20 : decode cX0_areAlike 20 = .ok (.astore 4, 2) := dk_58 4 (dk_at dksX0_areAlike_0 20 rfl rfl)
theorem dX0_areAlike_22 : decode cX0_areAlike 22 = .ok (.iconst 1, 1) := dk_4 (dk_at dksX0_areAlike_0 22 rfl rfl)
theorem dX0_areAlike_23 : decode cX0_areAlike 23 = .ok (.ireturn, 1) := dk_172 (dk_at dksX0_areAlike_0 23 rfl rfl)
theorem dX0_areAlike_24 : decode cX0_areAlike 24 = .ok (.iconst 0, 1) := dk_3 (dk_at dksX0_areAlike_1 0 rfl rfl)
theorem dX0_areAlike_25 : decode cX0_areAlike 25 = .ok (.ireturn, 1) := dk_172 (dk_at dksX0_areAlike_1 1 rfl rfl)
def fX0_areAlike_b16 (e : Nat → Nat) (N : Nat) (m : Mm) (s0 : Option Nat) (s1 : Int32) (s2 : Int64) : Rs (Int32) := bj_ m s0 203 s1 s2 (fun m1 => rt_ 0 m1)
def fX0_areAlike (e : Nat → Nat) (N : Nat) (m : Mm) (v0 : Option Nat) (v1 : Int32) (v2 : Int32) (v3 : Option Nat) : Rs (Int32) := ck_ m v0 1 (bd_ (fX1_areAlike e N m v0 v1 v2) (ch_ (fun x1 m1 => if x1 = 0 then (fX0_areAlike_b16 e N m1 v3 0 0) else (fX0_areAlike_b16 e N m1 v3 0 1)) (fun i_ m0 => if i_ = 0 then rt_ 1 m0 else none)))
abbrev cX4_init : ByteArray := prog_24_method_1_code
def yX4_init : MethodName := ⟨RX4, "<init>", "()V"⟩
def dkwX4_init_19 : List UInt8 := [17, 3, 132, 188, 10, 181, 0, 171, 42, 17, 61, 224, 188, 10, 181, 0, 174, 177]
abbrev dktX4_init_19 : List UInt8 := dkwX4_init_19 ++ []
def dkwX4_init_18 : List UInt8 := [188, 10, 181, 0, 162, 42, 17, 3, 132, 188, 10, 181, 0, 165, 42, 17, 3, 132, 188, 10, 181, 0, 168, 42]
abbrev dktX4_init_18 : List UInt8 := dkwX4_init_18 ++ dktX4_init_19
def dkwX4_init_17 : List UInt8 := [188, 10, 181, 0, 153, 42, 16, 48, 188, 10, 181, 0, 156, 42, 16, 48, 188, 10, 181, 0, 159, 42, 16, 48]
abbrev dktX4_init_17 : List UInt8 := dkwX4_init_17 ++ dktX4_init_18
def dkwX4_init_16 : List UInt8 := [181, 0, 144, 42, 17, 0, 192, 188, 4, 181, 0, 147, 42, 16, 48, 188, 4, 181, 0, 150, 42, 16, 48]
abbrev dktX4_init_16 : List UInt8 := dkwX4_init_16 ++ dktX4_init_17
def dkwX4_init_15 : List UInt8 := [17, 61, 224, 188, 10, 181, 0, 138, 42, 17, 0, 192, 188, 10, 181, 0, 141, 42, 17, 1, 144, 188, 10]
abbrev dktX4_init_15 : List UInt8 := dkwX4_init_15 ++ dktX4_init_16
def dkwX4_init_14 : List UInt8 := [188, 10, 181, 0, 129, 42, 17, 3, 132, 188, 10, 181, 0, 132, 42, 17, 3, 132, 188, 10, 181, 0, 135, 42]
abbrev dktX4_init_14 : List UInt8 := dkwX4_init_14 ++ dktX4_init_15
def dkwX4_init_13 : List UInt8 := [181, 0, 120, 42, 16, 48, 188, 10, 181, 0, 123, 42, 16, 48, 188, 10, 181, 0, 126, 42, 17, 3, 132]
abbrev dktX4_init_13 : List UInt8 := dkwX4_init_13 ++ dktX4_init_14
def dkwX4_init_12 : List UInt8 := [181, 0, 111, 42, 16, 48, 188, 10, 181, 0, 114, 42, 16, 48, 188, 10, 181, 0, 117, 42, 16, 48, 188, 10]
abbrev dktX4_init_12 : List UInt8 := dkwX4_init_12 ++ dktX4_init_13
def dkwX4_init_11 : List UInt8 := [181, 0, 102, 42, 16, 48, 188, 4, 181, 0, 105, 42, 16, 48, 188, 10, 181, 0, 108, 42, 16, 48, 188, 10]
abbrev dktX4_init_11 : List UInt8 := dkwX4_init_11 ++ dktX4_init_12
def dkwX4_init_10 : List UInt8 := [181, 0, 93, 42, 17, 0, 250, 188, 10, 181, 0, 96, 42, 2, 181, 0, 99, 42, 16, 48, 188, 4]
abbrev dktX4_init_10 : List UInt8 := dkwX4_init_10 ++ dktX4_init_11
def dkwX4_init_9 : List UInt8 := [17, 0, 250, 188, 10, 181, 0, 87, 42, 17, 2, 88, 188, 10, 181, 0, 90, 42, 17, 2, 88, 188, 10]
abbrev dktX4_init_9 : List UInt8 := dkwX4_init_9 ++ dktX4_init_10
def dkwX4_init_8 : List UInt8 := [181, 0, 78, 42, 17, 0, 250, 188, 10, 181, 0, 81, 42, 17, 0, 250, 188, 10, 181, 0, 84, 42]
abbrev dktX4_init_8 : List UInt8 := dkwX4_init_8 ++ dktX4_init_9
def dkwX4_init_7 : List UInt8 := [17, 0, 250, 188, 10, 181, 0, 72, 42, 17, 0, 250, 188, 10, 181, 0, 75, 42, 17, 0, 250, 188, 10]
abbrev dktX4_init_7 : List UInt8 := dkwX4_init_7 ++ dktX4_init_8
def dkwX4_init_6 : List UInt8 := [188, 10, 181, 0, 63, 42, 17, 0, 250, 188, 10, 181, 0, 66, 42, 17, 0, 250, 188, 10, 181, 0, 69, 42]
abbrev dktX4_init_6 : List UInt8 := dkwX4_init_6 ++ dktX4_init_7
def dkwX4_init_5 : List UInt8 := [188, 4, 181, 0, 53, 42, 4, 181, 0, 56, 42, 17, 0, 250, 188, 10, 181, 0, 60, 42, 17, 0, 250]
abbrev dktX4_init_5 : List UInt8 := dkwX4_init_5 ++ dktX4_init_6
def dkwX4_init_4 : List UInt8 := [188, 10, 181, 0, 44, 42, 7, 188, 10, 181, 0, 47, 42, 16, 64, 188, 10, 181, 0, 50, 42, 17, 0, 192]
abbrev dktX4_init_4 : List UInt8 := dkwX4_init_4 ++ dktX4_init_5
def dkwX4_init_3 : List UInt8 := [188, 10, 181, 0, 35, 42, 16, 15, 188, 10, 181, 0, 38, 42, 16, 15, 188, 4, 181, 0, 41, 42, 16, 8]
abbrev dktX4_init_3 : List UInt8 := dkwX4_init_3 ++ dktX4_init_4
def dkwX4_init_2 : List UInt8 := [188, 10, 181, 0, 26, 42, 16, 12, 188, 10, 181, 0, 29, 42, 16, 15, 188, 10, 181, 0, 32, 42, 16, 15]
abbrev dktX4_init_2 : List UInt8 := dkwX4_init_2 ++ dktX4_init_3
def dkwX4_init_1 : List UInt8 := [188, 10, 181, 0, 16, 42, 16, 8, 188, 10, 181, 0, 20, 42, 16, 8, 188, 10, 181, 0, 23, 42, 16, 12]
abbrev dktX4_init_1 : List UInt8 := dkwX4_init_1 ++ dktX4_init_2
def dkwX4_init_0 : List UInt8 := [42, 183, 0, 1, 42, 16, 10, 188, 4, 181, 0, 7, 42, 16, 10, 188, 4, 181, 0, 13, 42, 16, 8]
abbrev dktX4_init_0 : List UInt8 := dkwX4_init_0 ++ dktX4_init_1
theorem dksX4_init_0 : cX4_init.data.toList.drop 0 = dktX4_init_0 := by decide +kernel
theorem dksX4_init_1 : cX4_init.data.toList.drop 23 = dktX4_init_1 := dk_seg dksX4_init_0 23 rfl rfl
theorem dksX4_init_2 : cX4_init.data.toList.drop 47 = dktX4_init_2 := dk_seg dksX4_init_1 24 rfl rfl
theorem dksX4_init_3 : cX4_init.data.toList.drop 71 = dktX4_init_3 := dk_seg dksX4_init_2 24 rfl rfl
theorem dksX4_init_4 : cX4_init.data.toList.drop 95 = dktX4_init_4 := dk_seg dksX4_init_3 24 rfl rfl
theorem dksX4_init_5 : cX4_init.data.toList.drop 119 = dktX4_init_5 := dk_seg dksX4_init_4 24 rfl rfl
theorem dksX4_init_6 : cX4_init.data.toList.drop 142 = dktX4_init_6 := dk_seg dksX4_init_5 23 rfl rfl
theorem dksX4_init_7 : cX4_init.data.toList.drop 166 = dktX4_init_7 := dk_seg dksX4_init_6 24 rfl rfl
theorem dksX4_init_8 : cX4_init.data.toList.drop 189 = dktX4_init_8 := dk_seg dksX4_init_7 23 rfl rfl
theorem dksX4_init_9 : cX4_init.data.toList.drop 211 = dktX4_init_9 := dk_seg dksX4_init_8 22 rfl rfl
theorem dksX4_init_10 : cX4_init.data.toList.drop 234 = dktX4_init_10 := dk_seg dksX4_init_9 23 rfl rfl
theorem dksX4_init_11 : cX4_init.data.toList.drop 256 = dktX4_init_11 := dk_seg dksX4_init_10 22 rfl rfl
theorem dksX4_init_12 : cX4_init.data.toList.drop 280 = dktX4_init_12 := dk_seg dksX4_init_11 24 rfl rfl
theorem dksX4_init_13 : cX4_init.data.toList.drop 304 = dktX4_init_13 := dk_seg dksX4_init_12 24 rfl rfl
theorem dksX4_init_14 : cX4_init.data.toList.drop 327 = dktX4_init_14 := dk_seg dksX4_init_13 23 rfl rfl
theorem dksX4_init_15 : cX4_init.data.toList.drop 351 = dktX4_init_15 := dk_seg dksX4_init_14 24 rfl rfl
theorem dksX4_init_16 : cX4_init.data.toList.drop 374 = dktX4_init_16 := dk_seg dksX4_init_15 23 rfl rfl
theorem dksX4_init_17 : cX4_init.data.toList.drop 397 = dktX4_init_17 := dk_seg dksX4_init_16 23 rfl rfl
theorem dksX4_init_18 : cX4_init.data.toList.drop 421 = dktX4_init_18 := dk_seg dksX4_init_17 24 rfl rfl
theorem dksX4_init_19 : cX4_init.data.toList.drop 445 = dktX4_init_19 := dk_seg dksX4_init_18 24 rfl rfl
theorem dX4_init_0 : decode cX4_init 0 = .ok (.aload_n 0, 1) := dk_42 (dk_at dksX4_init_0 0 rfl rfl)
theorem dX4_init_1 : decode cX4_init 1 = .ok (.invokespecial 1, 3) := dk_183 0 1 (dk_at dksX4_init_0 1 rfl rfl)
theorem dX4_init_4 : decode cX4_init 4 = .ok (.aload_n 0, 1) := dk_42 (dk_at dksX4_init_0 4 rfl rfl)
theorem dX4_init_5 : decode cX4_init 5 = .ok (.bipush 10, 2) := dk_16 10 (dk_at dksX4_init_0 5 rfl rfl)
theorem dX4_init_7 : decode cX4_init 7 = .ok (.newarray .boolean, 2) := dk_188_4 (dk_at dksX4_init_0 7 rfl rfl)
theorem dX4_init_9 : decode cX4_init 9 = .ok (.putfield 7, 3) := dk_181 0 7 (dk_at dksX4_init_0 9 rfl rfl)
theorem dX4_init_12 : decode cX4_init 12 = .ok (.aload_n 0, 1) := dk_42 (dk_at dksX4_init_0 12 rfl rfl)
theorem dX4_init_13 : decode cX4_init 13 = .ok (.bipush 10, 2) := dk_16 10 (dk_at dksX4_init_0 13 rfl rfl)
theorem dX4_init_15 : decode cX4_init 15 = .ok (.newarray .boolean, 2) := dk_188_4 (dk_at dksX4_init_0 15 rfl rfl)
theorem dX4_init_17 : decode cX4_init 17 = .ok (.putfield 13, 3) := dk_181 0 13 (dk_at dksX4_init_0 17 rfl rfl)
theorem dX4_init_20 : decode cX4_init 20 = .ok (.aload_n 0, 1) := dk_42 (dk_at dksX4_init_0 20 rfl rfl)
theorem dX4_init_21 : decode cX4_init 21 = .ok (.bipush 8, 2) := dk_16 8 (dk_at dksX4_init_0 21 rfl rfl)
theorem dX4_init_23 : decode cX4_init 23 = .ok (.newarray .int, 2) := dk_188_10 (dk_at dksX4_init_1 0 rfl rfl)
theorem dX4_init_25 : decode cX4_init 25 = .ok (.putfield 16, 3) := dk_181 0 16 (dk_at dksX4_init_1 2 rfl rfl)
theorem dX4_init_28 : decode cX4_init 28 = .ok (.aload_n 0, 1) := dk_42 (dk_at dksX4_init_1 5 rfl rfl)
theorem dX4_init_29 : decode cX4_init 29 = .ok (.bipush 8, 2) := dk_16 8 (dk_at dksX4_init_1 6 rfl rfl)
theorem dX4_init_31 : decode cX4_init 31 = .ok (.newarray .int, 2) := dk_188_10 (dk_at dksX4_init_1 8 rfl rfl)
theorem dX4_init_33 : decode cX4_init 33 = .ok (.putfield 20, 3) := dk_181 0 20 (dk_at dksX4_init_1 10 rfl rfl)
theorem dX4_init_36 : decode cX4_init 36 = .ok (.aload_n 0, 1) := dk_42 (dk_at dksX4_init_1 13 rfl rfl)
theorem dX4_init_37 : decode cX4_init 37 = .ok (.bipush 8, 2) := dk_16 8 (dk_at dksX4_init_1 14 rfl rfl)
theorem dX4_init_39 : decode cX4_init 39 = .ok (.newarray .int, 2) := dk_188_10 (dk_at dksX4_init_1 16 rfl rfl)
theorem dX4_init_41 : decode cX4_init 41 = .ok (.putfield 23, 3) := dk_181 0 23 (dk_at dksX4_init_1 18 rfl rfl)
theorem dX4_init_44 : decode cX4_init 44 = .ok (.aload_n 0, 1) := dk_42 (dk_at dksX4_init_1 21 rfl rfl)
theorem dX4_init_45 : decode cX4_init 45 = .ok (.bipush 12, 2) := dk_16 12 (dk_at dksX4_init_1 22 rfl rfl)
theorem dX4_init_47 : decode cX4_init 47 = .ok (.newarray .int, 2) := dk_188_10 (dk_at dksX4_init_2 0 rfl rfl)
theorem dX4_init_49 : decode cX4_init 49 = .ok (.putfield 26, 3) := dk_181 0 26 (dk_at dksX4_init_2 2 rfl rfl)
theorem dX4_init_52 : decode cX4_init 52 = .ok (.aload_n 0, 1) := dk_42 (dk_at dksX4_init_2 5 rfl rfl)
theorem dX4_init_53 : decode cX4_init 53 = .ok (.bipush 12, 2) := dk_16 12 (dk_at dksX4_init_2 6 rfl rfl)
theorem dX4_init_55 : decode cX4_init 55 = .ok (.newarray .int, 2) := dk_188_10 (dk_at dksX4_init_2 8 rfl rfl)
theorem dX4_init_57 : decode cX4_init 57 = .ok (.putfield 29, 3) := dk_181 0 29 (dk_at dksX4_init_2 10 rfl rfl)
theorem dX4_init_60 : decode cX4_init 60 = .ok (.aload_n 0, 1) := dk_42 (dk_at dksX4_init_2 13 rfl rfl)
theorem dX4_init_61 : decode cX4_init 61 = .ok (.bipush 15, 2) := dk_16 15 (dk_at dksX4_init_2 14 rfl rfl)
theorem dX4_init_63 : decode cX4_init 63 = .ok (.newarray .int, 2) := dk_188_10 (dk_at dksX4_init_2 16 rfl rfl)
theorem dX4_init_65 : decode cX4_init 65 = .ok (.putfield 32, 3) := dk_181 0 32 (dk_at dksX4_init_2 18 rfl rfl)
theorem dX4_init_68 : decode cX4_init 68 = .ok (.aload_n 0, 1) := dk_42 (dk_at dksX4_init_2 21 rfl rfl)
theorem dX4_init_69 : decode cX4_init 69 = .ok (.bipush 15, 2) := dk_16 15 (dk_at dksX4_init_2 22 rfl rfl)
theorem dX4_init_71 : decode cX4_init 71 = .ok (.newarray .int, 2) := dk_188_10 (dk_at dksX4_init_3 0 rfl rfl)
theorem dX4_init_73 : decode cX4_init 73 = .ok (.putfield 35, 3) := dk_181 0 35 (dk_at dksX4_init_3 2 rfl rfl)
theorem dX4_init_76 : decode cX4_init 76 = .ok (.aload_n 0, 1) := dk_42 (dk_at dksX4_init_3 5 rfl rfl)
theorem dX4_init_77 : decode cX4_init 77 = .ok (.bipush 15, 2) := dk_16 15 (dk_at dksX4_init_3 6 rfl rfl)
theorem dX4_init_79 : decode cX4_init 79 = .ok (.newarray .int, 2) := dk_188_10 (dk_at dksX4_init_3 8 rfl rfl)
theorem dX4_init_81 : decode cX4_init 81 = .ok (.putfield 38, 3) := dk_181 0 38 (dk_at dksX4_init_3 10 rfl rfl)
theorem dX4_init_84 : decode cX4_init 84 = .ok (.aload_n 0, 1) := dk_42 (dk_at dksX4_init_3 13 rfl rfl)
theorem dX4_init_85 : decode cX4_init 85 = .ok (.bipush 15, 2) := dk_16 15 (dk_at dksX4_init_3 14 rfl rfl)
theorem dX4_init_87 : decode cX4_init 87 = .ok (.newarray .boolean, 2) := dk_188_4 (dk_at dksX4_init_3 16 rfl rfl)
theorem dX4_init_89 : decode cX4_init 89 = .ok (.putfield 41, 3) := dk_181 0 41 (dk_at dksX4_init_3 18 rfl rfl)
theorem dX4_init_92 : decode cX4_init 92 = .ok (.aload_n 0, 1) := dk_42 (dk_at dksX4_init_3 21 rfl rfl)
theorem dX4_init_93 : decode cX4_init 93 = .ok (.bipush 8, 2) := dk_16 8 (dk_at dksX4_init_3 22 rfl rfl)
theorem dX4_init_95 : decode cX4_init 95 = .ok (.newarray .int, 2) := dk_188_10 (dk_at dksX4_init_4 0 rfl rfl)
theorem dX4_init_97 : decode cX4_init 97 = .ok (.putfield 44, 3) := dk_181 0 44 (dk_at dksX4_init_4 2 rfl rfl)
theorem dX4_init_100 : decode cX4_init 100 = .ok (.aload_n 0, 1) := dk_42 (dk_at dksX4_init_4 5 rfl rfl)
theorem dX4_init_101 : decode cX4_init 101 = .ok (.iconst 4, 1) := dk_7 (dk_at dksX4_init_4 6 rfl rfl)
theorem dX4_init_102 : decode cX4_init 102 = .ok (.newarray .int, 2) := dk_188_10 (dk_at dksX4_init_4 7 rfl rfl)
theorem dX4_init_104 : decode cX4_init 104 = .ok (.putfield 47, 3) := dk_181 0 47 (dk_at dksX4_init_4 9 rfl rfl)
theorem dX4_init_107 : decode cX4_init 107 = .ok (.aload_n 0, 1) := dk_42 (dk_at dksX4_init_4 12 rfl rfl)
theorem dX4_init_108 : decode cX4_init 108 = .ok (.bipush 64, 2) := dk_16 64 (dk_at dksX4_init_4 13 rfl rfl)
theorem dX4_init_110 : decode cX4_init 110 = .ok (.newarray .int, 2) := dk_188_10 (dk_at dksX4_init_4 15 rfl rfl)
theorem dX4_init_112 : decode cX4_init 112 = .ok (.putfield 50, 3) := dk_181 0 50 (dk_at dksX4_init_4 17 rfl rfl)
theorem dX4_init_115 : decode cX4_init 115 = .ok (.aload_n 0, 1) := dk_42 (dk_at dksX4_init_4 20 rfl rfl)
theorem dX4_init_116 : decode cX4_init 116 = .ok (.sipush 192, 3) := dk_17 0 192 (dk_at dksX4_init_4 21 rfl rfl)
theorem dX4_init_119 : decode cX4_init 119 = .ok (.newarray .boolean, 2) := dk_188_4 (dk_at dksX4_init_5 0 rfl rfl)
theorem dX4_init_121 : decode cX4_init 121 = .ok (.putfield 53, 3) := dk_181 0 53 (dk_at dksX4_init_5 2 rfl rfl)
theorem dX4_init_124 : decode cX4_init 124 = .ok (.aload_n 0, 1) := dk_42 (dk_at dksX4_init_5 5 rfl rfl)
theorem dX4_init_125 : decode cX4_init 125 = .ok (.iconst 1, 1) := dk_4 (dk_at dksX4_init_5 6 rfl rfl)
theorem dX4_init_126 : decode cX4_init 126 = .ok (.putfield 56, 3) := dk_181 0 56 (dk_at dksX4_init_5 7 rfl rfl)
theorem dX4_init_129 : decode cX4_init 129 = .ok (.aload_n 0, 1) := dk_42 (dk_at dksX4_init_5 10 rfl rfl)
theorem dX4_init_130 : decode cX4_init 130 = .ok (.sipush 250, 3) := dk_17 0 250 (dk_at dksX4_init_5 11 rfl rfl)
theorem dX4_init_133 : decode cX4_init 133 = .ok (.newarray .int, 2) := dk_188_10 (dk_at dksX4_init_5 14 rfl rfl)
theorem dX4_init_135 : decode cX4_init 135 = .ok (.putfield 60, 3) := dk_181 0 60 (dk_at dksX4_init_5 16 rfl rfl)
theorem dX4_init_138 : decode cX4_init 138 = .ok (.aload_n 0, 1) := dk_42 (dk_at dksX4_init_5 19 rfl rfl)
theorem dX4_init_139 : decode cX4_init 139 = .ok (.sipush 250, 3) := dk_17 0 250 (dk_at dksX4_init_5 20 rfl rfl)
theorem dX4_init_142 : decode cX4_init 142 = .ok (.newarray .int, 2) := dk_188_10 (dk_at dksX4_init_6 0 rfl rfl)
theorem dX4_init_144 : decode cX4_init 144 = .ok (.putfield 63, 3) := dk_181 0 63 (dk_at dksX4_init_6 2 rfl rfl)
theorem dX4_init_147 : decode cX4_init 147 = .ok (.aload_n 0, 1) := dk_42 (dk_at dksX4_init_6 5 rfl rfl)
theorem dX4_init_148 : decode cX4_init 148 = .ok (.sipush 250, 3) := dk_17 0 250 (dk_at dksX4_init_6 6 rfl rfl)
theorem dX4_init_151 : decode cX4_init 151 = .ok (.newarray .int, 2) := dk_188_10 (dk_at dksX4_init_6 9 rfl rfl)
theorem dX4_init_153 : decode cX4_init 153 = .ok (.putfield 66, 3) := dk_181 0 66 (dk_at dksX4_init_6 11 rfl rfl)
theorem dX4_init_156 : decode cX4_init 156 = .ok (.aload_n 0, 1) := dk_42 (dk_at dksX4_init_6 14 rfl rfl)
theorem dX4_init_157 : decode cX4_init 157 = .ok (.sipush 250, 3) := dk_17 0 250 (dk_at dksX4_init_6 15 rfl rfl)
theorem dX4_init_160 : decode cX4_init 160 = .ok (.newarray .int, 2) := dk_188_10 (dk_at dksX4_init_6 18 rfl rfl)
theorem dX4_init_162 : decode cX4_init 162 = .ok (.putfield 69, 3) := dk_181 0 69 (dk_at dksX4_init_6 20 rfl rfl)
theorem dX4_init_165 : decode cX4_init 165 = .ok (.aload_n 0, 1) := dk_42 (dk_at dksX4_init_6 23 rfl rfl)
theorem dX4_init_166 : decode cX4_init 166 = .ok (.sipush 250, 3) := dk_17 0 250 (dk_at dksX4_init_7 0 rfl rfl)
theorem dX4_init_169 : decode cX4_init 169 = .ok (.newarray .int, 2) := dk_188_10 (dk_at dksX4_init_7 3 rfl rfl)
theorem dX4_init_171 : decode cX4_init 171 = .ok (.putfield 72, 3) := dk_181 0 72 (dk_at dksX4_init_7 5 rfl rfl)
theorem dX4_init_174 : decode cX4_init 174 = .ok (.aload_n 0, 1) := dk_42 (dk_at dksX4_init_7 8 rfl rfl)
theorem dX4_init_175 : decode cX4_init 175 = .ok (.sipush 250, 3) := dk_17 0 250 (dk_at dksX4_init_7 9 rfl rfl)
theorem dX4_init_178 : decode cX4_init 178 = .ok (.newarray .int, 2) := dk_188_10 (dk_at dksX4_init_7 12 rfl rfl)
theorem dX4_init_180 : decode cX4_init 180 = .ok (.putfield 75, 3) := dk_181 0 75 (dk_at dksX4_init_7 14 rfl rfl)
theorem dX4_init_183 : decode cX4_init 183 = .ok (.aload_n 0, 1) := dk_42 (dk_at dksX4_init_7 17 rfl rfl)
theorem dX4_init_184 : decode cX4_init 184 = .ok (.sipush 250, 3) := dk_17 0 250 (dk_at dksX4_init_7 18 rfl rfl)
theorem dX4_init_187 : decode cX4_init 187 = .ok (.newarray .int, 2) := dk_188_10 (dk_at dksX4_init_7 21 rfl rfl)
theorem dX4_init_189 : decode cX4_init 189 = .ok (.putfield 78, 3) := dk_181 0 78 (dk_at dksX4_init_8 0 rfl rfl)
theorem dX4_init_192 : decode cX4_init 192 = .ok (.aload_n 0, 1) := dk_42 (dk_at dksX4_init_8 3 rfl rfl)
theorem dX4_init_193 : decode cX4_init 193 = .ok (.sipush 250, 3) := dk_17 0 250 (dk_at dksX4_init_8 4 rfl rfl)
theorem dX4_init_196 : decode cX4_init 196 = .ok (.newarray .int, 2) := dk_188_10 (dk_at dksX4_init_8 7 rfl rfl)
theorem dX4_init_198 : decode cX4_init 198 = .ok (.putfield 81, 3) := dk_181 0 81 (dk_at dksX4_init_8 9 rfl rfl)
theorem dX4_init_201 : decode cX4_init 201 = .ok (.aload_n 0, 1) := dk_42 (dk_at dksX4_init_8 12 rfl rfl)
theorem dX4_init_202 : decode cX4_init 202 = .ok (.sipush 250, 3) := dk_17 0 250 (dk_at dksX4_init_8 13 rfl rfl)
theorem dX4_init_205 : decode cX4_init 205 = .ok (.newarray .int, 2) := dk_188_10 (dk_at dksX4_init_8 16 rfl rfl)
theorem dX4_init_207 : decode cX4_init 207 = .ok (.putfield 84, 3) := dk_181 0 84 (dk_at dksX4_init_8 18 rfl rfl)
theorem dX4_init_210 : decode cX4_init 210 = .ok (.aload_n 0, 1) := dk_42 (dk_at dksX4_init_8 21 rfl rfl)
theorem dX4_init_211 : decode cX4_init 211 = .ok (.sipush 250, 3) := dk_17 0 250 (dk_at dksX4_init_9 0 rfl rfl)
theorem dX4_init_214 : decode cX4_init 214 = .ok (.newarray .int, 2) := dk_188_10 (dk_at dksX4_init_9 3 rfl rfl)
theorem dX4_init_216 : decode cX4_init 216 = .ok (.putfield 87, 3) := dk_181 0 87 (dk_at dksX4_init_9 5 rfl rfl)
theorem dX4_init_219 : decode cX4_init 219 = .ok (.aload_n 0, 1) := dk_42 (dk_at dksX4_init_9 8 rfl rfl)
theorem dX4_init_220 : decode cX4_init 220 = .ok (.sipush 600, 3) := dk_17 2 88 (dk_at dksX4_init_9 9 rfl rfl)
theorem dX4_init_223 : decode cX4_init 223 = .ok (.newarray .int, 2) := dk_188_10 (dk_at dksX4_init_9 12 rfl rfl)
theorem dX4_init_225 : decode cX4_init 225 = .ok (.putfield 90, 3) := dk_181 0 90 (dk_at dksX4_init_9 14 rfl rfl)
theorem dX4_init_228 : decode cX4_init 228 = .ok (.aload_n 0, 1) := dk_42 (dk_at dksX4_init_9 17 rfl rfl)
theorem dX4_init_229 : decode cX4_init 229 = .ok (.sipush 600, 3) := dk_17 2 88 (dk_at dksX4_init_9 18 rfl rfl)
theorem dX4_init_232 : decode cX4_init 232 = .ok (.newarray .int, 2) := dk_188_10 (dk_at dksX4_init_9 21 rfl rfl)
theorem dX4_init_234 : decode cX4_init 234 = .ok (.putfield 93, 3) := dk_181 0 93 (dk_at dksX4_init_10 0 rfl rfl)
theorem dX4_init_237 : decode cX4_init 237 = .ok (.aload_n 0, 1) := dk_42 (dk_at dksX4_init_10 3 rfl rfl)
theorem dX4_init_238 : decode cX4_init 238 = .ok (.sipush 250, 3) := dk_17 0 250 (dk_at dksX4_init_10 4 rfl rfl)
theorem dX4_init_241 : decode cX4_init 241 = .ok (.newarray .int, 2) := dk_188_10 (dk_at dksX4_init_10 7 rfl rfl)
theorem dX4_init_243 : decode cX4_init 243 = .ok (.putfield 96, 3) := dk_181 0 96 (dk_at dksX4_init_10 9 rfl rfl)
theorem dX4_init_246 : decode cX4_init 246 = .ok (.aload_n 0, 1) := dk_42 (dk_at dksX4_init_10 12 rfl rfl)
theorem dX4_init_247 : decode cX4_init 247 = .ok (.iconst (-1), 1) := dk_2 (dk_at dksX4_init_10 13 rfl rfl)
theorem dX4_init_248 : decode cX4_init 248 = .ok (.putfield 99, 3) := dk_181 0 99 (dk_at dksX4_init_10 14 rfl rfl)
theorem dX4_init_251 : decode cX4_init 251 = .ok (.aload_n 0, 1) := dk_42 (dk_at dksX4_init_10 17 rfl rfl)
theorem dX4_init_252 : decode cX4_init 252 = .ok (.bipush 48, 2) := dk_16 48 (dk_at dksX4_init_10 18 rfl rfl)
theorem dX4_init_254 : decode cX4_init 254 = .ok (.newarray .boolean, 2) := dk_188_4 (dk_at dksX4_init_10 20 rfl rfl)
theorem dX4_init_256 : decode cX4_init 256 = .ok (.putfield 102, 3) := dk_181 0 102 (dk_at dksX4_init_11 0 rfl rfl)
theorem dX4_init_259 : decode cX4_init 259 = .ok (.aload_n 0, 1) := dk_42 (dk_at dksX4_init_11 3 rfl rfl)
theorem dX4_init_260 : decode cX4_init 260 = .ok (.bipush 48, 2) := dk_16 48 (dk_at dksX4_init_11 4 rfl rfl)
theorem dX4_init_262 : decode cX4_init 262 = .ok (.newarray .boolean, 2) := dk_188_4 (dk_at dksX4_init_11 6 rfl rfl)
theorem dX4_init_264 : decode cX4_init 264 = .ok (.putfield 105, 3) := dk_181 0 105 (dk_at dksX4_init_11 8 rfl rfl)
theorem dX4_init_267 : decode cX4_init 267 = .ok (.aload_n 0, 1) := dk_42 (dk_at dksX4_init_11 11 rfl rfl)
theorem dX4_init_268 : decode cX4_init 268 = .ok (.bipush 48, 2) := dk_16 48 (dk_at dksX4_init_11 12 rfl rfl)
theorem dX4_init_270 : decode cX4_init 270 = .ok (.newarray .int, 2) := dk_188_10 (dk_at dksX4_init_11 14 rfl rfl)
theorem dX4_init_272 : decode cX4_init 272 = .ok (.putfield 108, 3) := dk_181 0 108 (dk_at dksX4_init_11 16 rfl rfl)
theorem dX4_init_275 : decode cX4_init 275 = .ok (.aload_n 0, 1) := dk_42 (dk_at dksX4_init_11 19 rfl rfl)
theorem dX4_init_276 : decode cX4_init 276 = .ok (.bipush 48, 2) := dk_16 48 (dk_at dksX4_init_11 20 rfl rfl)
theorem dX4_init_278 : decode cX4_init 278 = .ok (.newarray .int, 2) := dk_188_10 (dk_at dksX4_init_11 22 rfl rfl)
theorem dX4_init_280 : decode cX4_init 280 = .ok (.putfield 111, 3) := dk_181 0 111 (dk_at dksX4_init_12 0 rfl rfl)
theorem dX4_init_283 : decode cX4_init 283 = .ok (.aload_n 0, 1) := dk_42 (dk_at dksX4_init_12 3 rfl rfl)
theorem dX4_init_284 : decode cX4_init 284 = .ok (.bipush 48, 2) := dk_16 48 (dk_at dksX4_init_12 4 rfl rfl)
theorem dX4_init_286 : decode cX4_init 286 = .ok (.newarray .int, 2) := dk_188_10 (dk_at dksX4_init_12 6 rfl rfl)
theorem dX4_init_288 : decode cX4_init 288 = .ok (.putfield 114, 3) := dk_181 0 114 (dk_at dksX4_init_12 8 rfl rfl)
theorem dX4_init_291 : decode cX4_init 291 = .ok (.aload_n 0, 1) := dk_42 (dk_at dksX4_init_12 11 rfl rfl)
theorem dX4_init_292 : decode cX4_init 292 = .ok (.bipush 48, 2) := dk_16 48 (dk_at dksX4_init_12 12 rfl rfl)
theorem dX4_init_294 : decode cX4_init 294 = .ok (.newarray .int, 2) := dk_188_10 (dk_at dksX4_init_12 14 rfl rfl)
theorem dX4_init_296 : decode cX4_init 296 = .ok (.putfield 117, 3) := dk_181 0 117 (dk_at dksX4_init_12 16 rfl rfl)
theorem dX4_init_299 : decode cX4_init 299 = .ok (.aload_n 0, 1) := dk_42 (dk_at dksX4_init_12 19 rfl rfl)
theorem dX4_init_300 : decode cX4_init 300 = .ok (.bipush 48, 2) := dk_16 48 (dk_at dksX4_init_12 20 rfl rfl)
theorem dX4_init_302 : decode cX4_init 302 = .ok (.newarray .int, 2) := dk_188_10 (dk_at dksX4_init_12 22 rfl rfl)
theorem dX4_init_304 : decode cX4_init 304 = .ok (.putfield 120, 3) := dk_181 0 120 (dk_at dksX4_init_13 0 rfl rfl)
theorem dX4_init_307 : decode cX4_init 307 = .ok (.aload_n 0, 1) := dk_42 (dk_at dksX4_init_13 3 rfl rfl)
theorem dX4_init_308 : decode cX4_init 308 = .ok (.bipush 48, 2) := dk_16 48 (dk_at dksX4_init_13 4 rfl rfl)
theorem dX4_init_310 : decode cX4_init 310 = .ok (.newarray .int, 2) := dk_188_10 (dk_at dksX4_init_13 6 rfl rfl)
theorem dX4_init_312 : decode cX4_init 312 = .ok (.putfield 123, 3) := dk_181 0 123 (dk_at dksX4_init_13 8 rfl rfl)
theorem dX4_init_315 : decode cX4_init 315 = .ok (.aload_n 0, 1) := dk_42 (dk_at dksX4_init_13 11 rfl rfl)
theorem dX4_init_316 : decode cX4_init 316 = .ok (.bipush 48, 2) := dk_16 48 (dk_at dksX4_init_13 12 rfl rfl)
theorem dX4_init_318 : decode cX4_init 318 = .ok (.newarray .int, 2) := dk_188_10 (dk_at dksX4_init_13 14 rfl rfl)
theorem dX4_init_320 : decode cX4_init 320 = .ok (.putfield 126, 3) := dk_181 0 126 (dk_at dksX4_init_13 16 rfl rfl)
theorem dX4_init_323 : decode cX4_init 323 = .ok (.aload_n 0, 1) := dk_42 (dk_at dksX4_init_13 19 rfl rfl)
theorem dX4_init_324 : decode cX4_init 324 = .ok (.sipush 900, 3) := dk_17 3 132 (dk_at dksX4_init_13 20 rfl rfl)
theorem dX4_init_327 : decode cX4_init 327 = .ok (.newarray .int, 2) := dk_188_10 (dk_at dksX4_init_14 0 rfl rfl)
theorem dX4_init_329 : decode cX4_init 329 = .ok (.putfield 129, 3) := dk_181 0 129 (dk_at dksX4_init_14 2 rfl rfl)
theorem dX4_init_332 : decode cX4_init 332 = .ok (.aload_n 0, 1) := dk_42 (dk_at dksX4_init_14 5 rfl rfl)
theorem dX4_init_333 : decode cX4_init 333 = .ok (.sipush 900, 3) := dk_17 3 132 (dk_at dksX4_init_14 6 rfl rfl)
theorem dX4_init_336 : decode cX4_init 336 = .ok (.newarray .int, 2) := dk_188_10 (dk_at dksX4_init_14 9 rfl rfl)
theorem dX4_init_338 : decode cX4_init 338 = .ok (.putfield 132, 3) := dk_181 0 132 (dk_at dksX4_init_14 11 rfl rfl)
theorem dX4_init_341 : decode cX4_init 341 = .ok (.aload_n 0, 1) := dk_42 (dk_at dksX4_init_14 14 rfl rfl)
theorem dX4_init_342 : decode cX4_init 342 = .ok (.sipush 900, 3) := dk_17 3 132 (dk_at dksX4_init_14 15 rfl rfl)
theorem dX4_init_345 : decode cX4_init 345 = .ok (.newarray .int, 2) := dk_188_10 (dk_at dksX4_init_14 18 rfl rfl)
theorem dX4_init_347 : decode cX4_init 347 = .ok (.putfield 135, 3) := dk_181 0 135 (dk_at dksX4_init_14 20 rfl rfl)
theorem dX4_init_350 : decode cX4_init 350 = .ok (.aload_n 0, 1) := dk_42 (dk_at dksX4_init_14 23 rfl rfl)
theorem dX4_init_351 : decode cX4_init 351 = .ok (.sipush 15840, 3) := dk_17 61 224 (dk_at dksX4_init_15 0 rfl rfl)
theorem dX4_init_354 : decode cX4_init 354 = .ok (.newarray .int, 2) := dk_188_10 (dk_at dksX4_init_15 3 rfl rfl)
theorem dX4_init_356 : decode cX4_init 356 = .ok (.putfield 138, 3) := dk_181 0 138 (dk_at dksX4_init_15 5 rfl rfl)
theorem dX4_init_359 : decode cX4_init 359 = .ok (.aload_n 0, 1) := dk_42 (dk_at dksX4_init_15 8 rfl rfl)
theorem dX4_init_360 : decode cX4_init 360 = .ok (.sipush 192, 3) := dk_17 0 192 (dk_at dksX4_init_15 9 rfl rfl)
theorem dX4_init_363 : decode cX4_init 363 = .ok (.newarray .int, 2) := dk_188_10 (dk_at dksX4_init_15 12 rfl rfl)
theorem dX4_init_365 : decode cX4_init 365 = .ok (.putfield 141, 3) := dk_181 0 141 (dk_at dksX4_init_15 14 rfl rfl)
theorem dX4_init_368 : decode cX4_init 368 = .ok (.aload_n 0, 1) := dk_42 (dk_at dksX4_init_15 17 rfl rfl)
theorem dX4_init_369 : decode cX4_init 369 = .ok (.sipush 400, 3) := dk_17 1 144 (dk_at dksX4_init_15 18 rfl rfl)
theorem dX4_init_372 : decode cX4_init 372 = .ok (.newarray .int, 2) := dk_188_10 (dk_at dksX4_init_15 21 rfl rfl)
theorem dX4_init_374 : decode cX4_init 374 = .ok (.putfield 144, 3) := dk_181 0 144 (dk_at dksX4_init_16 0 rfl rfl)
theorem dX4_init_377 : decode cX4_init 377 = .ok (.aload_n 0, 1) := dk_42 (dk_at dksX4_init_16 3 rfl rfl)
theorem dX4_init_378 : decode cX4_init 378 = .ok (.sipush 192, 3) := dk_17 0 192 (dk_at dksX4_init_16 4 rfl rfl)
theorem dX4_init_381 : decode cX4_init 381 = .ok (.newarray .boolean, 2) := dk_188_4 (dk_at dksX4_init_16 7 rfl rfl)
theorem dX4_init_383 : decode cX4_init 383 = .ok (.putfield 147, 3) := dk_181 0 147 (dk_at dksX4_init_16 9 rfl rfl)
theorem dX4_init_386 : decode cX4_init 386 = .ok (.aload_n 0, 1) := dk_42 (dk_at dksX4_init_16 12 rfl rfl)
theorem dX4_init_387 : decode cX4_init 387 = .ok (.bipush 48, 2) := dk_16 48 (dk_at dksX4_init_16 13 rfl rfl)
theorem dX4_init_389 : decode cX4_init 389 = .ok (.newarray .boolean, 2) := dk_188_4 (dk_at dksX4_init_16 15 rfl rfl)
theorem dX4_init_391 : decode cX4_init 391 = .ok (.putfield 150, 3) := dk_181 0 150 (dk_at dksX4_init_16 17 rfl rfl)
theorem dX4_init_394 : decode cX4_init 394 = .ok (.aload_n 0, 1) := dk_42 (dk_at dksX4_init_16 20 rfl rfl)
theorem dX4_init_395 : decode cX4_init 395 = .ok (.bipush 48, 2) := dk_16 48 (dk_at dksX4_init_16 21 rfl rfl)
theorem dX4_init_397 : decode cX4_init 397 = .ok (.newarray .int, 2) := dk_188_10 (dk_at dksX4_init_17 0 rfl rfl)
theorem dX4_init_399 : decode cX4_init 399 = .ok (.putfield 153, 3) := dk_181 0 153 (dk_at dksX4_init_17 2 rfl rfl)
theorem dX4_init_402 : decode cX4_init 402 = .ok (.aload_n 0, 1) := dk_42 (dk_at dksX4_init_17 5 rfl rfl)
theorem dX4_init_403 : decode cX4_init 403 = .ok (.bipush 48, 2) := dk_16 48 (dk_at dksX4_init_17 6 rfl rfl)
theorem dX4_init_405 : decode cX4_init 405 = .ok (.newarray .int, 2) := dk_188_10 (dk_at dksX4_init_17 8 rfl rfl)
theorem dX4_init_407 : decode cX4_init 407 = .ok (.putfield 156, 3) := dk_181 0 156 (dk_at dksX4_init_17 10 rfl rfl)
theorem dX4_init_410 : decode cX4_init 410 = .ok (.aload_n 0, 1) := dk_42 (dk_at dksX4_init_17 13 rfl rfl)
theorem dX4_init_411 : decode cX4_init 411 = .ok (.bipush 48, 2) := dk_16 48 (dk_at dksX4_init_17 14 rfl rfl)
theorem dX4_init_413 : decode cX4_init 413 = .ok (.newarray .int, 2) := dk_188_10 (dk_at dksX4_init_17 16 rfl rfl)
theorem dX4_init_415 : decode cX4_init 415 = .ok (.putfield 159, 3) := dk_181 0 159 (dk_at dksX4_init_17 18 rfl rfl)
theorem dX4_init_418 : decode cX4_init 418 = .ok (.aload_n 0, 1) := dk_42 (dk_at dksX4_init_17 21 rfl rfl)
theorem dX4_init_419 : decode cX4_init 419 = .ok (.bipush 48, 2) := dk_16 48 (dk_at dksX4_init_17 22 rfl rfl)
theorem dX4_init_421 : decode cX4_init 421 = .ok (.newarray .int, 2) := dk_188_10 (dk_at dksX4_init_18 0 rfl rfl)
theorem dX4_init_423 : decode cX4_init 423 = .ok (.putfield 162, 3) := dk_181 0 162 (dk_at dksX4_init_18 2 rfl rfl)
theorem dX4_init_426 : decode cX4_init 426 = .ok (.aload_n 0, 1) := dk_42 (dk_at dksX4_init_18 5 rfl rfl)
theorem dX4_init_427 : decode cX4_init 427 = .ok (.sipush 900, 3) := dk_17 3 132 (dk_at dksX4_init_18 6 rfl rfl)
theorem dX4_init_430 : decode cX4_init 430 = .ok (.newarray .int, 2) := dk_188_10 (dk_at dksX4_init_18 9 rfl rfl)
theorem dX4_init_432 : decode cX4_init 432 = .ok (.putfield 165, 3) := dk_181 0 165 (dk_at dksX4_init_18 11 rfl rfl)
theorem dX4_init_435 : decode cX4_init 435 = .ok (.aload_n 0, 1) := dk_42 (dk_at dksX4_init_18 14 rfl rfl)
theorem dX4_init_436 : decode cX4_init 436 = .ok (.sipush 900, 3) := dk_17 3 132 (dk_at dksX4_init_18 15 rfl rfl)
theorem dX4_init_439 : decode cX4_init 439 = .ok (.newarray .int, 2) := dk_188_10 (dk_at dksX4_init_18 18 rfl rfl)
theorem dX4_init_441 : decode cX4_init 441 = .ok (.putfield 168, 3) := dk_181 0 168 (dk_at dksX4_init_18 20 rfl rfl)
theorem dX4_init_444 : decode cX4_init 444 = .ok (.aload_n 0, 1) := dk_42 (dk_at dksX4_init_18 23 rfl rfl)
theorem dX4_init_445 : decode cX4_init 445 = .ok (.sipush 900, 3) := dk_17 3 132 (dk_at dksX4_init_19 0 rfl rfl)
theorem dX4_init_448 : decode cX4_init 448 = .ok (.newarray .int, 2) := dk_188_10 (dk_at dksX4_init_19 3 rfl rfl)
theorem dX4_init_450 : decode cX4_init 450 = .ok (.putfield 171, 3) := dk_181 0 171 (dk_at dksX4_init_19 5 rfl rfl)
theorem dX4_init_453 : decode cX4_init 453 = .ok (.aload_n 0, 1) := dk_42 (dk_at dksX4_init_19 8 rfl rfl)
theorem dX4_init_454 : decode cX4_init 454 = .ok (.sipush 15840, 3) := dk_17 61 224 (dk_at dksX4_init_19 9 rfl rfl)
theorem dX4_init_457 : decode cX4_init 457 = .ok (.newarray .int, 2) := dk_188_10 (dk_at dksX4_init_19 12 rfl rfl)
theorem dX4_init_459 : decode cX4_init 459 = .ok (.putfield 174, 3) := dk_181 0 174 (dk_at dksX4_init_19 14 rfl rfl)
theorem dX4_init_462 : decode cX4_init 462 = .ok (.return_, 1) := dk_177 (dk_at dksX4_init_19 17 rfl rfl)
def fX4_init (e : Nat → Nat) (N : Nat) (m : Mm) (v0 : Option Nat) : Rs (Unit) := ok_ v0 (na_ m 201 10 (fun x1 m1 => pr_ m1 v0 4 2 (some x1) (fun m2 => na_ m2 201 10 (fun x2 m3 => pr_ m3 v0 4 3 (some x2) (fun m4 => na_ m4 200 8 (fun x3 m5 => pr_ m5 v0 4 5 (some x3) (fun m6 => na_ m6 200 8 (fun x4 m7 => pr_ m7 v0 4 6 (some x4) (fun m8 => na_ m8 200 8 (fun x5 m9 => pr_ m9 v0 4 7 (some x5) (fun m10 => na_ m10 200 12 (fun x6 m11 => pr_ m11 v0 4 9 (some x6) (fun m12 => na_ m12 200 12 (fun x7 m13 => pr_ m13 v0 4 10 (some x7) (fun m14 => na_ m14 200 15 (fun x8 m15 => pr_ m15 v0 4 12 (some x8) (fun m16 => na_ m16 200 15 (fun x9 m17 => pr_ m17 v0 4 13 (some x9) (fun m18 => na_ m18 200 15 (fun x10 m19 => pr_ m19 v0 4 14 (some x10) (fun m20 => na_ m20 201 15 (fun x11 m21 => pr_ m21 v0 4 15 (some x11) (fun m22 => na_ m22 200 8 (fun x12 m23 => pr_ m23 v0 4 17 (some x12) (fun m24 => na_ m24 200 4 (fun x13 m25 => pr_ m25 v0 4 18 (some x13) (fun m26 => na_ m26 200 64 (fun x14 m27 => pr_ m27 v0 4 19 (some x14) (fun m28 => na_ m28 201 192 (fun x15 m29 => pr_ m29 v0 4 20 (some x15) (fun m30 => pi_ m30 v0 4 21 1 (fun m31 => na_ m31 200 250 (fun x16 m32 => pr_ m32 v0 4 23 (some x16) (fun m33 => na_ m33 200 250 (fun x17 m34 => pr_ m34 v0 4 24 (some x17) (fun m35 => na_ m35 200 250 (fun x18 m36 => pr_ m36 v0 4 25 (some x18) (fun m37 => na_ m37 200 250 (fun x19 m38 => pr_ m38 v0 4 26 (some x19) (fun m39 => na_ m39 200 250 (fun x20 m40 => pr_ m40 v0 4 27 (some x20) (fun m41 => na_ m41 200 250 (fun x21 m42 => pr_ m42 v0 4 28 (some x21) (fun m43 => na_ m43 200 250 (fun x22 m44 => pr_ m44 v0 4 29 (some x22) (fun m45 => na_ m45 200 250 (fun x23 m46 => pr_ m46 v0 4 30 (some x23) (fun m47 => na_ m47 200 250 (fun x24 m48 => pr_ m48 v0 4 32 (some x24) (fun m49 => na_ m49 200 250 (fun x25 m50 => pr_ m50 v0 4 33 (some x25) (fun m51 => na_ m51 200 600 (fun x26 m52 => pr_ m52 v0 4 34 (some x26) (fun m53 => na_ m53 200 600 (fun x27 m54 => pr_ m54 v0 4 35 (some x27) (fun m55 => na_ m55 200 250 (fun x28 m56 => pr_ m56 v0 4 36 (some x28) (fun m57 => pi_ m57 v0 4 37 (-1) (fun m58 => na_ m58 201 48 (fun x29 m59 => pr_ m59 v0 4 38 (some x29) (fun m60 => na_ m60 201 48 (fun x30 m61 => pr_ m61 v0 4 39 (some x30) (fun m62 => na_ m62 200 48 (fun x31 m63 => pr_ m63 v0 4 40 (some x31) (fun m64 => na_ m64 200 48 (fun x32 m65 => pr_ m65 v0 4 41 (some x32) (fun m66 => na_ m66 200 48 (fun x33 m67 => pr_ m67 v0 4 42 (some x33) (fun m68 => na_ m68 200 48 (fun x34 m69 => pr_ m69 v0 4 43 (some x34) (fun m70 => na_ m70 200 48 (fun x35 m71 => pr_ m71 v0 4 44 (some x35) (fun m72 => na_ m72 200 48 (fun x36 m73 => pr_ m73 v0 4 45 (some x36) (fun m74 => na_ m74 200 48 (fun x37 m75 => pr_ m75 v0 4 46 (some x37) (fun m76 => na_ m76 200 900 (fun x38 m77 => pr_ m77 v0 4 48 (some x38) (fun m78 => na_ m78 200 900 (fun x39 m79 => pr_ m79 v0 4 49 (some x39) (fun m80 => na_ m80 200 900 (fun x40 m81 => pr_ m81 v0 4 50 (some x40) (fun m82 => na_ m82 200 15840 (fun x41 m83 => pr_ m83 v0 4 51 (some x41) (fun m84 => na_ m84 200 192 (fun x42 m85 => pr_ m85 v0 4 53 (some x42) (fun m86 => na_ m86 200 400 (fun x43 m87 => pr_ m87 v0 4 55 (some x43) (fun m88 => na_ m88 201 192 (fun x44 m89 => pr_ m89 v0 4 56 (some x44) (fun m90 => na_ m90 201 48 (fun x45 m91 => pr_ m91 v0 4 57 (some x45) (fun m92 => na_ m92 200 48 (fun x46 m93 => pr_ m93 v0 4 58 (some x46) (fun m94 => na_ m94 200 48 (fun x47 m95 => pr_ m95 v0 4 59 (some x47) (fun m96 => na_ m96 200 48 (fun x48 m97 => pr_ m97 v0 4 60 (some x48) (fun m98 => na_ m98 200 48 (fun x49 m99 => pr_ m99 v0 4 61 (some x49) (fun m100 => na_ m100 200 900 (fun x50 m101 => pr_ m101 v0 4 63 (some x50) (fun m102 => na_ m102 200 900 (fun x51 m103 => pr_ m103 v0 4 64 (some x51) (fun m104 => na_ m104 200 900 (fun x52 m105 => pr_ m105 v0 4 65 (some x52) (fun m106 => na_ m106 200 15840 (fun x53 m107 => pr_ m107 v0 4 66 (some x53) (fun m108 => rt_ () m108)))))))))))))))))))))))))))))))))))))))))))))))))))))))))))))))))))))))))))))))))))))))))))))))))))))))))))))
abbrev cX1_init : ByteArray := prog_1_method_4_code
def yX1_init : MethodName := ⟨RX1, "<init>", "()V"⟩
def dkwX1_init_4 : List UInt8 := [180, 0, 53, 42, 180, 0, 57, 183, 0, 77, 185, 0, 80, 2, 0, 87, 132, 1, 1, 167, 255, 222, 177]
abbrev dktX1_init_4 : List UInt8 := dkwX1_init_4 ++ []
def dkwX1_init_3 : List UInt8 := [183, 0, 52, 181, 0, 72, 3, 60, 27, 7, 162, 0, 35, 42, 180, 0, 60, 187, 0, 75, 89, 27, 42]
abbrev dktX1_init_3 : List UInt8 := dkwX1_init_3 ++ dktX1_init_4
def dkwX1_init_2 : List UInt8 := [181, 0, 63, 42, 187, 0, 50, 89, 183, 0, 52, 181, 0, 66, 42, 4, 181, 0, 69, 42, 187, 0, 50, 89]
abbrev dktX1_init_2 : List UInt8 := dkwX1_init_2 ++ dktX1_init_3
def dkwX1_init_1 : List UInt8 := [181, 0, 57, 42, 187, 0, 50, 89, 183, 0, 52, 181, 0, 60, 42, 187, 0, 50, 89, 183, 0, 52]
abbrev dktX1_init_1 : List UInt8 := dkwX1_init_1 ++ dktX1_init_2
def dkwX1_init_0 : List UInt8 := [42, 183, 0, 44, 42, 187, 0, 50, 89, 183, 0, 52, 181, 0, 53, 42, 187, 0, 50, 89, 183, 0, 52]
abbrev dktX1_init_0 : List UInt8 := dkwX1_init_0 ++ dktX1_init_1
theorem dksX1_init_0 : cX1_init.data.toList.drop 0 = dktX1_init_0 := by decide +kernel
theorem dksX1_init_1 : cX1_init.data.toList.drop 23 = dktX1_init_1 := dk_seg dksX1_init_0 23 rfl rfl
theorem dksX1_init_2 : cX1_init.data.toList.drop 45 = dktX1_init_2 := dk_seg dksX1_init_1 22 rfl rfl
theorem dksX1_init_3 : cX1_init.data.toList.drop 69 = dktX1_init_3 := dk_seg dksX1_init_2 24 rfl rfl
theorem dksX1_init_4 : cX1_init.data.toList.drop 92 = dktX1_init_4 := dk_seg dksX1_init_3 23 rfl rfl
theorem dX1_init_0 : decode cX1_init 0 = .ok (.aload_n 0, 1) := dk_42 (dk_at dksX1_init_0 0 rfl rfl)
theorem dX1_init_1 : decode cX1_init 1 = .ok (.invokespecial 44, 3) := dk_183 0 44 (dk_at dksX1_init_0 1 rfl rfl)
theorem dX1_init_4 : decode cX1_init 4 = .ok (.aload_n 0, 1) := dk_42 (dk_at dksX1_init_0 4 rfl rfl)
theorem dX1_init_5 : decode cX1_init 5 = .ok (.new 50, 3) := dk_187 0 50 (dk_at dksX1_init_0 5 rfl rfl)
theorem dX1_init_8 : decode cX1_init 8 = .ok (.dup, 1) := dk_89 (dk_at dksX1_init_0 8 rfl rfl)
theorem dX1_init_9 : decode cX1_init 9 = .ok (.invokespecial 52, 3) := dk_183 0 52 (dk_at dksX1_init_0 9 rfl rfl)
theorem dX1_init_12 : decode cX1_init 12 = .ok (.putfield 53, 3) := dk_181 0 53 (dk_at dksX1_init_0 12 rfl rfl)
theorem dX1_init_15 : decode cX1_init 15 = .ok (.aload_n 0, 1) := dk_42 (dk_at dksX1_init_0 15 rfl rfl)
theorem dX1_init_16 : decode cX1_init 16 = .ok (.new 50, 3) := dk_187 0 50 (dk_at dksX1_init_0 16 rfl rfl)
theorem dX1_init_19 : decode cX1_init 19 = .ok (.dup, 1) := dk_89 (dk_at dksX1_init_0 19 rfl rfl)
theorem dX1_init_20 : decode cX1_init 20 = .ok (.invokespecial 52, 3) := dk_183 0 52 (dk_at dksX1_init_0 20 rfl rfl)
theorem dX1_init_23 : decode cX1_init 23 = .ok (.putfield 57, 3) := dk_181 0 57 (dk_at dksX1_init_1 0 rfl rfl)
theorem dX1_init_26 : decode cX1_init 26 = .ok (.aload_n 0, 1) := dk_42 (dk_at dksX1_init_1 3 rfl rfl)
theorem dX1_init_27 : decode cX1_init 27 = .ok (.new 50, 3) := dk_187 0 50 (dk_at dksX1_init_1 4 rfl rfl)
theorem dX1_init_30 : decode cX1_init 30 = .ok (.dup, 1) := dk_89 (dk_at dksX1_init_1 7 rfl rfl)
theorem dX1_init_31 : decode cX1_init 31 = .ok (.invokespecial 52, 3) := dk_183 0 52 (dk_at dksX1_init_1 8 rfl rfl)
theorem dX1_init_34 : decode cX1_init 34 = .ok (.putfield 60, 3) := dk_181 0 60 (dk_at dksX1_init_1 11 rfl rfl)
theorem dX1_init_37 : decode cX1_init 37 = .ok (.aload_n 0, 1) := dk_42 (dk_at dksX1_init_1 14 rfl rfl)
theorem dX1_init_38 : decode cX1_init 38 = .ok (.new 50, 3) := dk_187 0 50 (dk_at dksX1_init_1 15 rfl rfl)
theorem dX1_init_41 : decode cX1_init 41 = .ok (.dup, 1) := dk_89 (dk_at dksX1_init_1 18 rfl rfl)
theorem dX1_init_42 : decode cX1_init 42 = .ok (.invokespecial 52, 3) := dk_183 0 52 (dk_at dksX1_init_1 19 rfl rfl)
theorem dX1_init_45 : decode cX1_init 45 = .ok (.putfield 63, 3) := dk_181 0 63 (dk_at dksX1_init_2 0 rfl rfl)
theorem dX1_init_48 : decode cX1_init 48 = .ok (.aload_n 0, 1) := dk_42 (dk_at dksX1_init_2 3 rfl rfl)
theorem dX1_init_49 : decode cX1_init 49 = .ok (.new 50, 3) := dk_187 0 50 (dk_at dksX1_init_2 4 rfl rfl)
theorem dX1_init_52 : decode cX1_init 52 = .ok (.dup, 1) := dk_89 (dk_at dksX1_init_2 7 rfl rfl)
theorem dX1_init_53 : decode cX1_init 53 = .ok (.invokespecial 52, 3) := dk_183 0 52 (dk_at dksX1_init_2 8 rfl rfl)
theorem dX1_init_56 : decode cX1_init 56 = .ok (.putfield 66, 3) := dk_181 0 66 (dk_at dksX1_init_2 11 rfl rfl)
theorem dX1_init_59 : decode cX1_init 59 = .ok (.aload_n 0, 1) := dk_42 (dk_at dksX1_init_2 14 rfl rfl)
theorem dX1_init_60 : decode cX1_init 60 = .ok (.iconst 1, 1) := dk_4 (dk_at dksX1_init_2 15 rfl rfl)
theorem dX1_init_61 : decode cX1_init 61 = .ok (.putfield 69, 3) := dk_181 0 69 (dk_at dksX1_init_2 16 rfl rfl)
theorem dX1_init_64 : decode cX1_init 64 = .ok (.aload_n 0, 1) := dk_42 (dk_at dksX1_init_2 19 rfl rfl)
theorem dX1_init_65 : decode cX1_init 65 = .ok (.new 50, 3) := dk_187 0 50 (dk_at dksX1_init_2 20 rfl rfl)
theorem dX1_init_68 : decode cX1_init 68 = .ok (.dup, 1) := dk_89 (dk_at dksX1_init_2 23 rfl rfl)
theorem dX1_init_69 : decode cX1_init 69 = .ok (.invokespecial 52, 3) := dk_183 0 52 (dk_at dksX1_init_3 0 rfl rfl)
theorem dX1_init_72 : decode cX1_init 72 = .ok (.putfield 72, 3) := dk_181 0 72 (dk_at dksX1_init_3 3 rfl rfl)
theorem dX1_init_75 : decode cX1_init 75 = .ok (.iconst 0, 1) := dk_3 (dk_at dksX1_init_3 6 rfl rfl)
theorem dX1_init_76 : decode cX1_init 76 = .ok (.istore_n 1, 1) := dk_60 (dk_at dksX1_init_3 7 rfl rfl)
theorem dX1_init_77 : decode cX1_init 77 = .ok (.iload_n 1, 1) := dk_27 (dk_at dksX1_init_3 8 rfl rfl)
theorem dX1_init_78 : decode cX1_init 78 = .ok (.iconst 4, 1) := dk_7 (dk_at dksX1_init_3 9 rfl rfl)
theorem dX1_init_79 : decode cX1_init 79 = .ok (.if_icmp .ge 35, 3) := dk_162 0 35 (dk_at dksX1_init_3 10 rfl rfl)
theorem dX1_init_82 : decode cX1_init 82 = .ok (.aload_n 0, 1) := dk_42 (dk_at dksX1_init_3 13 rfl rfl)
theorem dX1_init_83 : decode cX1_init 83 = .ok (.getfield 60, 3) := dk_180 0 60 (dk_at dksX1_init_3 14 rfl rfl)
theorem dX1_init_86 : decode cX1_init 86 = .ok (.new 75, 3) := dk_187 0 75 (dk_at dksX1_init_3 17 rfl rfl)
theorem dX1_init_89 : decode cX1_init 89 = .ok (.dup, 1) := dk_89 (dk_at dksX1_init_3 20 rfl rfl)
theorem dX1_init_90 : decode cX1_init 90 = .ok (.iload_n 1, 1) := dk_27 (dk_at dksX1_init_3 21 rfl rfl)
theorem dX1_init_91 : decode cX1_init 91 = .ok (.aload_n 0, 1) := dk_42 (dk_at dksX1_init_3 22 rfl rfl)
theorem dX1_init_92 : decode cX1_init 92 = .ok (.getfield 53, 3) := dk_180 0 53 (dk_at dksX1_init_4 0 rfl rfl)
theorem dX1_init_95 : decode cX1_init 95 = .ok (.aload_n 0, 1) := dk_42 (dk_at dksX1_init_4 3 rfl rfl)
theorem dX1_init_96 : decode cX1_init 96 = .ok (.getfield 57, 3) := dk_180 0 57 (dk_at dksX1_init_4 4 rfl rfl)
theorem dX1_init_99 : decode cX1_init 99 = .ok (.invokespecial 77, 3) := dk_183 0 77 (dk_at dksX1_init_4 7 rfl rfl)
theorem dX1_init_102 : decode cX1_init 102 = .ok (.invokeinterface 80 2, 5) := by decide +kernel
theorem dX1_init_107 : decode cX1_init 107 = .ok (.pop, 1) := dk_87 (dk_at dksX1_init_4 15 rfl rfl)
theorem dX1_init_108 : decode cX1_init 108 = .ok (.iinc 1 1, 3) := dk_132 1 1 (dk_at dksX1_init_4 16 rfl rfl)
theorem dX1_init_111 : decode cX1_init 111 = .ok (.goto (-34), 3) := dk_167 255 222 (dk_at dksX1_init_4 19 rfl rfl)
theorem dX1_init_114 : decode cX1_init 114 = .ok (.return_, 1) := dk_177 (dk_at dksX1_init_4 22 rfl rfl)
def fX1_init_b77 (e : Nat → Nat) (N : Nat) : Nat → Mm → Option Nat → Int32 → Rs (Unit)
  | 0, _, _, _ => none
  | F + 1, m, v0, v1 => if v1 < 4 then (gr_ m v0 1 2 (fun x1 => nw_ m 2 12 (fun x2 m1 => gr_ m1 v0 1 0 (fun x3 => gr_ m1 v0 1 1 (fun x4 => bd_ (fX2_init e N m1 (some x2) v1 x3 x4) (fun _ m2 => ck_ m2 x1 13 (bd_ (fJ2_add e N m2 x1 (some x2)) (fun x5 m3 => fX1_init_b77 e N F m3 v0 (v1 + 1))))))))) else (rt_ () m)
def fX1_init (e : Nat → Nat) (N : Nat) (m : Mm) (v0 : Option Nat) : Rs (Unit) := ok_ v0 (nw_ m 13 3 (fun x1 m1 => bd_ (fJ2_init e N m1 (some x1)) (fun _ m2 => pr_ m2 v0 1 0 (some x1) (fun m3 => nw_ m3 13 3 (fun x2 m4 => bd_ (fJ2_init e N m4 (some x2)) (fun _ m5 => pr_ m5 v0 1 1 (some x2) (fun m6 => nw_ m6 13 3 (fun x3 m7 => bd_ (fJ2_init e N m7 (some x3)) (fun _ m8 => pr_ m8 v0 1 2 (some x3) (fun m9 => nw_ m9 13 3 (fun x4 m10 => bd_ (fJ2_init e N m10 (some x4)) (fun _ m11 => pr_ m11 v0 1 3 (some x4) (fun m12 => nw_ m12 13 3 (fun x5 m13 => bd_ (fJ2_init e N m13 (some x5)) (fun _ m14 => pr_ m14 v0 1 4 (some x5) (fun m15 => pi_ m15 v0 1 6 1 (fun m16 => nw_ m16 13 3 (fun x6 m17 => bd_ (fJ2_init e N m17 (some x6)) (fun _ m18 => pr_ m18 v0 1 8 (some x6) (fun m19 => fX1_init_b77 e N N m19 v0 0))))))))))))))))))))
abbrev cX1_undraft : ByteArray := prog_1_method_18_code
def yX1_undraft : MethodName := ⟨RX1, "undraft", "()I"⟩
def dkwX1_undraft_0 : List UInt8 := [42, 180, 0, 63, 185, 0, 137, 1, 0, 60, 42, 180, 0, 63, 185, 0, 201, 1, 0, 27, 172]
abbrev dktX1_undraft_0 : List UInt8 := dkwX1_undraft_0 ++ []
theorem dksX1_undraft_0 : cX1_undraft.data.toList.drop 0 = dktX1_undraft_0 := by decide +kernel
theorem dX1_undraft_0 : decode cX1_undraft 0 = .ok (.aload_n 0, 1) := dk_42 (dk_at dksX1_undraft_0 0 rfl rfl)
theorem dX1_undraft_1 : decode cX1_undraft 1 = .ok (.getfield 63, 3) := dk_180 0 63 (dk_at dksX1_undraft_0 1 rfl rfl)
theorem dX1_undraft_4 : decode cX1_undraft 4 = .ok (.invokeinterface 137 1, 5) := by decide +kernel
theorem dX1_undraft_9 : decode cX1_undraft 9 = .ok (.istore_n 1, 1) := dk_60 (dk_at dksX1_undraft_0 9 rfl rfl)
theorem dX1_undraft_10 : decode cX1_undraft 10 = .ok (.aload_n 0, 1) := dk_42 (dk_at dksX1_undraft_0 10 rfl rfl)
theorem dX1_undraft_11 : decode cX1_undraft 11 = .ok (.getfield 63, 3) := dk_180 0 63 (dk_at dksX1_undraft_0 11 rfl rfl)
theorem dX1_undraft_14 : decode cX1_undraft 14 = .ok (.invokeinterface 201 1, 5) := by decide +kernel
theorem dX1_undraft_19 : decode cX1_undraft 19 = .ok (.iload_n 1, 1) := dk_27 (dk_at dksX1_undraft_0 19 rfl rfl)
theorem dX1_undraft_20 : decode cX1_undraft 20 = .ok (.ireturn, 1) := dk_172 (dk_at dksX1_undraft_0 20 rfl rfl)
def fX1_undraft (e : Nat → Nat) (N : Nat) (m : Mm) (v0 : Option Nat) : Rs (Int32) := gr_ m v0 1 3 (fun x1 => ck_ m x1 13 (bd_ (fJ2_size e N m x1) (fun x2 m1 => gr_ m1 v0 1 3 (fun x3 => ck_ m1 x3 13 (bd_ (fJ2_clear e N m1 x3) (fun _ m2 => rt_ x2 m2))))))
abbrev cX1_wipe : ByteArray := prog_1_method_43_code
def yX1_wipe : MethodName := ⟨RX1, "wipe", "()I"⟩
def dkwX1_wipe_0 : List UInt8 := [42, 180, 1, 136, 60, 42, 180, 0, 66, 185, 0, 201, 1, 0, 42, 3, 181, 1, 136, 27, 172]
abbrev dktX1_wipe_0 : List UInt8 := dkwX1_wipe_0 ++ []
theorem dksX1_wipe_0 : cX1_wipe.data.toList.drop 0 = dktX1_wipe_0 := by decide +kernel
theorem dX1_wipe_0 : decode cX1_wipe 0 = .ok (.aload_n 0, 1) := dk_42 (dk_at dksX1_wipe_0 0 rfl rfl)
theorem dX1_wipe_1 : decode cX1_wipe 1 = .ok (.getfield 392, 3) := dk_180 1 136 (dk_at dksX1_wipe_0 1 rfl rfl)
theorem dX1_wipe_4 : decode cX1_wipe 4 = .ok (.istore_n 1, 1) := dk_60 (dk_at dksX1_wipe_0 4 rfl rfl)
theorem dX1_wipe_5 : decode cX1_wipe 5 = .ok (.aload_n 0, 1) := dk_42 (dk_at dksX1_wipe_0 5 rfl rfl)
theorem dX1_wipe_6 : decode cX1_wipe 6 = .ok (.getfield 66, 3) := dk_180 0 66 (dk_at dksX1_wipe_0 6 rfl rfl)
theorem dX1_wipe_9 : decode cX1_wipe 9 = .ok (.invokeinterface 201 1, 5) := by decide +kernel
theorem dX1_wipe_14 : decode cX1_wipe 14 = .ok (.aload_n 0, 1) := dk_42 (dk_at dksX1_wipe_0 14 rfl rfl)
theorem dX1_wipe_15 : decode cX1_wipe 15 = .ok (.iconst 0, 1) := dk_3 (dk_at dksX1_wipe_0 15 rfl rfl)
theorem dX1_wipe_16 : decode cX1_wipe 16 = .ok (.putfield 392, 3) := dk_181 1 136 (dk_at dksX1_wipe_0 16 rfl rfl)
theorem dX1_wipe_19 : decode cX1_wipe 19 = .ok (.iload_n 1, 1) := dk_27 (dk_at dksX1_wipe_0 19 rfl rfl)
theorem dX1_wipe_20 : decode cX1_wipe 20 = .ok (.ireturn, 1) := dk_172 (dk_at dksX1_wipe_0 20 rfl rfl)
def fX1_wipe (e : Nat → Nat) (N : Nat) (m : Mm) (v0 : Option Nat) : Rs (Int32) := gi_ m v0 1 5 (fun x1 => gr_ m v0 1 4 (fun x2 => ck_ m x2 13 (bd_ (fJ2_clear e N m x2) (fun _ m1 => pi_ m1 v0 1 5 0 (fun m2 => rt_ x1 m2)))))
def fX11_among_b44 (e : Nat → Nat) (N : Nat) (m : Mm) (s0 : Int64) : Rs (Int64) := rt_ s0 m
def fX11_among (e : Nat → Nat) (N : Nat) (m : Mm) (v0 : Option Nat) (v1 : Option Nat) : Rs (Int64) := gi_ m v0 10 2 (fun x1 => if x1 = 0 then (gr_ m v0 10 0 (fun x2 => bd_ (cs_ m x2 8 (fX9_among e N m x2 v1) (cs_ m x2 9 (fX10_among e N m x2 v1) (cs_ m x2 10 (fX11_among_d14 e N m x2 v1) (cs_ m x2 11 (fX12_among_d14 e N m x2 v1) none)))) (fun x3 m1 => gr_ m1 v0 10 1 (fun x8 => bd_ (cs_ m1 x8 8 (fX9_among e N m1 x8 v1) (cs_ m1 x8 9 (fX10_among e N m1 x8 v1) (cs_ m1 x8 10 (fX11_among_d14 e N m1 x8 v1) (cs_ m1 x8 11 (fX12_among_d14 e N m1 x8 v1) none)))) (fun x9 m6 => fX11_among_b44 e N m6 (x3 ||| x9)))))) else (gr_ m v0 10 0 (fun x14 => bd_ (cs_ m x14 8 (fX9_among e N m x14 v1) (cs_ m x14 9 (fX10_among e N m x14 v1) (cs_ m x14 10 (fX11_among_d14 e N m x14 v1) (cs_ m x14 11 (fX12_among_d14 e N m x14 v1) none)))) (fun x15 m11 => gr_ m11 v0 10 1 (fun x20 => bd_ (cs_ m11 x20 8 (fX9_among e N m11 x20 v1) (cs_ m11 x20 9 (fX10_among e N m11 x20 v1) (cs_ m11 x20 10 (fX11_among_d14 e N m11 x20 v1) (cs_ m11 x20 11 (fX12_among_d14 e N m11 x20 v1) none)))) (fun x21 m16 => fX11_among_b44 e N m16 (x15 &&& x21)))))))
def fX11_applies_b68 (e : Nat → Nat) (N : Nat) (m : Mm) (s0 : Int32) : Rs (Int32) := rz_ s0 s0 m
def fX11_applies_b35 (e : Nat → Nat) (N : Nat) (m : Mm) : Rs (Int32) := fX11_applies_b68 e N m 0
def fX11_applies_b63 (e : Nat → Nat) (N : Nat) (m : Mm) : Rs (Int32) := fX11_applies_b68 e N m 1
def fX11_applies (e : Nat → Nat) (N : Nat) (m : Mm) (v0 : Option Nat) (v1 : Option Nat) (v2 : Option Nat) : Rs (Int32) := gi_ m v0 10 2 (fun x1 => if x1 = 0 then (gr_ m v0 10 0 (fun x2 => bd_ (cs_ m x2 8 (fX9_applies e N m x2 v1 v2) (cs_ m x2 9 (fX10_applies e N m x2 v1 v2) (cs_ m x2 10 (fX11_applies_d14 e N m x2 v1 v2) (cs_ m x2 11 (fX12_applies_d14 e N m x2 v1 v2) none)))) (fun x3 m1 => if x3 = 0 then (gr_ m1 v0 10 1 (fun x8 => bd_ (cs_ m1 x8 8 (fX9_applies e N m1 x8 v1 v2) (cs_ m1 x8 9 (fX10_applies e N m1 x8 v1 v2) (cs_ m1 x8 10 (fX11_applies_d14 e N m1 x8 v1 v2) (cs_ m1 x8 11 (fX12_applies_d14 e N m1 x8 v1 v2) none)))) (fun x9 m6 => if x9 = 0 then (fX11_applies_b68 e N m6 0) else (fX11_applies_b63 e N m6)))) else (fX11_applies_b63 e N m1)))) else (gr_ m v0 10 0 (fun x14 => bd_ (cs_ m x14 8 (fX9_applies e N m x14 v1 v2) (cs_ m x14 9 (fX10_applies e N m x14 v1 v2) (cs_ m x14 10 (fX11_applies_d14 e N m x14 v1 v2) (cs_ m x14 11 (fX12_applies_d14 e N m x14 v1 v2) none)))) (fun x15 m11 => if x15 = 0 then (fX11_applies_b35 e N m11) else (gr_ m11 v0 10 1 (fun x20 => bd_ (cs_ m11 x20 8 (fX9_applies e N m11 x20 v1 v2) (cs_ m11 x20 9 (fX10_applies e N m11 x20 v1 v2) (cs_ m11 x20 10 (fX11_applies_d14 e N m11 x20 v1 v2) (cs_ m11 x20 11 (fX12_applies_d14 e N m11 x20 v1 v2) none)))) (fun x21 m16 => if x21 = 0 then (fX11_applies_b35 e N m16) else (fX11_applies_b68 e N m16 1))))))))
def fX12_among (e : Nat → Nat) (N : Nat) (m : Mm) (v0 : Option Nat) (v1 : Option Nat) : Rs (Int64) := ck_ m v1 2 (bd_ (fX2_liveOnes e N m v1) (fun x1 m1 => gr_ m1 v0 11 0 (fun x2 => bd_ (cs_ m1 x2 8 (fX9_among e N m1 x2 v1) (cs_ m1 x2 9 (fX10_among e N m1 x2 v1) (cs_ m1 x2 10 (fX11_among_d14 e N m1 x2 v1) (cs_ m1 x2 11 (fX12_among_d14 e N m1 x2 v1) none)))) (fun x3 m2 => rt_ (x1 &&& (x3 ^^^ (-1))) m2))))
def fX12_applies_b17 (e : Nat → Nat) (N : Nat) (m : Mm) (s0 : Int32) : Rs (Int32) := rz_ s0 s0 m
def fX12_applies (e : Nat → Nat) (N : Nat) (m : Mm) (v0 : Option Nat) (v1 : Option Nat) (v2 : Option Nat) : Rs (Int32) := gr_ m v0 11 0 (fun x1 => bd_ (cs_ m x1 8 (fX9_applies e N m x1 v1 v2) (cs_ m x1 9 (fX10_applies e N m x1 v1 v2) (cs_ m x1 10 (fX11_applies_d14 e N m x1 v1 v2) (cs_ m x1 11 (fX12_applies_d14 e N m x1 v1 v2) none)))) (fun x2 m1 => if x2 = 0 then (fX12_applies_b17 e N m1 1) else (fX12_applies_b17 e N m1 0)))
theorem wX0_valueAt {l : Launch} {g : GG} {E : Me_} (C : Cx_ l g E "MasterTreeLaw" cX0_valueAt 7 20) (hret : (eT_ E).sig.returnType = (Option.some Jvm.ClassFile.FieldType.int)) (h0 : (eC_ E).exceptionTable.toList = tableOf [(0, 14, 17, 19)]) (hin : (eT_ E).name = "valueAt") (N : Nat) : ∀ (m : Mm) (v0 : Option Nat) (v1 : Int32) (v2 : Int32) (v3 : Int32) (v4 : Int32) (v5 : Option Nat) (k n : Nat), Sm_ l g E 7 en_i (fX0_valueAt (gE_ g) N m v0 v1 v2 v3 v4 v5) k n 0 [(0, vr_ v0), (1, vi_ v1), (2, vi_ v2), (3, vi_ v3), (4, vi_ v4), (5, vr_ v5)] [] m := by
  intro m v0 v1 v2 v3 v4 v5 k n
  unfold fX0_valueAt
  refine s_aload C 5 rfl dX0_valueAt_0 2 rfl ?_
  refine s_iconst C 0 rfl dX0_valueAt_2 3 rfl ?_
  refine s_aload_n C rfl 0 rfl dX0_valueAt_3 4 rfl ?_
  refine s_iload_n C rfl 1 rfl dX0_valueAt_4 5 rfl ?_
  refine s_iload_n C rfl 2 rfl dX0_valueAt_5 6 rfl ?_
  refine s_iload_n C rfl 3 rfl dX0_valueAt_6 7 rfl ?_
  refine s_iload C 4 rfl dX0_valueAt_7 9 rfl ?_
  refine x_ck (fun hb_ hb0_ => ?_)
  refine x_callV (enc := (xe_ en_i)) C 19 4 [vi_ v1, vi_ v2, vi_ v3, vi_ v4] 1 (ctX1_valueAt C.2.2.2.2.2.2.2.2.1 N m v0 v1 v2 v3 v4) hb_ hb0_ rfl rfl q2949 q2950 q2951 q81 q2952 hdX1_valueAt (Nat.le_of_ble_eq_true rfl) (Nat.le_of_ble_eq_true rfl) rfl (Nat.le_of_ble_eq_true rfl) dX0_valueAt_9 12 rfl rfl (hen_x hen_i) (kk_c (kk_i (fun x1 m1 k1 n1 => ?_))) (kx_c he_i (fun i_ m0 k0 n0 => ?_))
  · refine s_i2l C dX0_valueAt_12 13 rfl ?_
    refine x_bj3 C 203 rfl dX0_valueAt_13 14 rfl (fun m2 => ?_)
    refine s_goto C (off := 7) 21 dX0_valueAt_14 rfl ?_
    refine s_iconst C 0 rfl dX0_valueAt_21 22 rfl ?_
    exact x_iret C hret rfl dX0_valueAt_22
  · refine Sx_if ?_ ?_
    · refine Sx_ctch C h0 0 [] ({ startPc := 0, endPc := 14, handlerPc := 17, catchType := 19 } : ExceptionTableEntry) [] rfl (fun z hz => by cases hz) (by decide) (by decide) q600 q638 17 rfl (fun q_ => ?_)
      refine s_astore C (Nat.le_of_ble_eq_true rfl) [] rfl rfl dX0_valueAt_17 19 rfl ?_
      refine s_iconst C 1 rfl dX0_valueAt_19 20 rfl ?_
      exact x_iret C hret rfl dX0_valueAt_20
    exact Sx_none
theorem hdX0_valueAt : ((⟨"MasterTreeLaw", "valueAt", "(LMasterTree;IIII[J)I"⟩ : MethodName)).cls ≠ "java/lang/invoke/MethodHandle" ∧ ((⟨"MasterTreeLaw", "valueAt", "(LMasterTree;IIII[J)I"⟩ : MethodName)).cls ≠ "java/lang/invoke/VarHandle" ∧ (parseMethodDescriptor ((⟨"MasterTreeLaw", "valueAt", "(LMasterTree;IIII[J)I"⟩ : MethodName)).desc).map (fun d => d.parameters.length) = some 6 := ⟨by decide +kernel, by decide +kernel, by decide +kernel⟩
theorem ctX0_valueAt {l : Launch} {g : GG} (hst : l.stackTraces = false) (N : Nat) (m : Mm) (v0 : Option Nat) (v1 : Int32) (v2 : Int32) (v3 : Int32) (v4 : Int32) (v5 : Option Nat) : ∀ v m' k n, fX0_valueAt (gE_ g) N m v0 v1 v2 v3 v4 v5 = some (v, m', k, n) → Ct_ l g (⟨"MasterTreeLaw", "valueAt", "(LMasterTree;IIII[J)I"⟩ : MethodName) (wsW_ (⟨"MasterTreeLaw", "valueAt", "(LMasterTree;IIII[J)I"⟩ : MethodName) cX0_valueAt 7 (Option.some Jvm.ClassFile.FieldType.int) [(0, 14, 17, 19)]) 20 [vr_ v0, vi_ v1, vi_ v2, vi_ v3, vi_ v4, vr_ v5] m (en_i v) m' k n :=
  Ct_ofW (by decide +kernel) rfl hst (Nat.le_of_ble_eq_true rfl) rfl (fun E C hret h0 hin => wX0_valueAt C hret h0 hin N m v0 v1 v2 v3 v4 v5 0 0)
theorem wX1_valuesAnew {l : Launch} {g : GG} {E : Me_} (C : Cx_ l g E "MasterTree" cX1_valuesAnew 5 22) (hret : (eT_ E).sig.returnType = (Option.some Jvm.ClassFile.FieldType.int)) (h0 : ∀ x ∈ (eC_ E).exceptionTable.toList, False) (hin : (eT_ E).name = "valuesAnew") (N : Nat) : ∀ (m : Mm) (v0 : Option Nat) (v1 : Int32) (v2 : Int32) (v3 : Int32) (k n : Nat), Sm_ l g E 5 (xe_ en_i) (fX1_valuesAnew (gE_ g) N m v0 v1 v2 v3) k n 0 [(0, vr_ v0), (1, vi_ v1), (2, vi_ v2), (3, vi_ v3)] [] m := by
  intro m v0 v1 v2 v3 k n
  unfold fX1_valuesAnew
  refine s_aload_n C rfl 0 rfl dX1_valuesAnew_0 1 rfl ?_
  refine s_iload_n C rfl 1 rfl dX1_valuesAnew_1 2 rfl ?_
  refine x_ck (fun hb_ hb0_ => ?_)
  refine x_callV (enc := (xe_ en_r)) C 17 1 [vi_ v1] 1 (ctX1_at C.2.2.2.2.2.2.2.2.1 N m v0 v1) hb_ hb0_ rfl rfl q934 q936 qs5 q81 q937 hdX1_at (Nat.le_of_ble_eq_true rfl) (Nat.le_of_ble_eq_true rfl) rfl (Nat.le_of_ble_eq_true rfl) dX1_valuesAnew_2 5 rfl rfl (hen_x hen_r) (kk_x (kk_r (fun x1 m1 k1 n1 => ?_))) (kx_x C h0 he_r)
  refine s_astore C (Nat.le_of_ble_eq_true rfl) [0, 2, 3] rfl rfl dX1_valuesAnew_5 7 rfl ?_
  refine s_aload C 0 rfl dX1_valuesAnew_7 9 rfl ?_
  refine s_iload_n C rfl 2 rfl dX1_valuesAnew_9 10 rfl ?_
  refine x_callS (enc := (xe_ en_r)) C 16 2 [vr_ x1, vi_ v2] (ctX1_liveAt C.2.2.2.2.2.2.2.2.1 N m1 x1 v2) q968 q969 q81 q970 hdX1_liveAt (Nat.le_of_ble_eq_true rfl) (Nat.le_of_ble_eq_true rfl) rfl (Nat.le_of_ble_eq_true rfl) dX1_valuesAnew_10 13 rfl rfl (hen_x hen_r) (kk_x (kk_r (fun x2 m2 k1 n1 => ?_))) (kx_x C h0 he_r)
  refine s_pop C rfl dX1_valuesAnew_13 14 rfl ?_
  refine s_aload_n C rfl 1 rfl dX1_valuesAnew_14 15 rfl ?_
  refine s_iload_n C rfl 3 rfl dX1_valuesAnew_15 16 rfl ?_
  refine x_ck (fun hb_ hb0_ => ?_)
  refine x_callV (enc := (xe_ en_r)) C 17 1 [vi_ v3] 1 (ctX1_attributeAt C.2.2.2.2.2.2.2.2.1 N m2 v0 v3) hb_ hb0_ rfl rfl q948 q950 qs6 q81 q951 hdX1_attributeAt (Nat.le_of_ble_eq_true rfl) (Nat.le_of_ble_eq_true rfl) rfl (Nat.le_of_ble_eq_true rfl) dX1_valuesAnew_16 19 rfl rfl (hen_x hen_r) (kk_x (kk_r (fun x3 m3 k1 n1 => ?_))) (kx_x C h0 he_r)
  refine s_pop C rfl dX1_valuesAnew_19 20 rfl ?_
  refine s_aload_n C rfl 1 rfl dX1_valuesAnew_20 21 rfl ?_
  refine s_aload C 0 rfl dX1_valuesAnew_21 23 rfl ?_
  refine x_ck (fun hb_ hb0_ => ?_)
  refine x_callV (enc := en_r) C 21 1 [vr_ x1] 1 (ctX1_anew C.2.2.2.2.2.2.2.2.1 N m3 v0 x1) hb_ hb0_ rfl rfl q2931 q2933 qs32 q81 q2934 hdX1_anew (Nat.le_of_ble_eq_true rfl) (Nat.le_of_ble_eq_true rfl) rfl (Nat.le_of_ble_eq_true rfl) dX1_valuesAnew_23 26 rfl rfl hen_r (kk_r (fun x4 m4 k1 n1 => ?_)) (kx_n he_r)
  refine x_grN C 1 (RX2, TX2, 12) rfl 6 (Nat.le_of_ble_eq_true rfl) q309 rfl rfl 2 rfl dX1_valuesAnew_26 29 rfl (fun x5 => ?_)
  refine s_iload_n C rfl 2 rfl dX1_valuesAnew_29 30 rfl ?_
  refine x_ar C 5 (.object "MasterTree$Entry") rfl rfl rfl 205 rfl dX1_valuesAnew_30 31 rfl (fun x6 => ?_)
  refine s_iload_n C rfl 3 rfl dX1_valuesAnew_31 32 rfl ?_
  refine x_ck (fun hb_ hb0_ => ?_)
  refine x_callV (enc := en_r) C 18 1 [vi_ v3] 3 (ctX3_valuesOf C.2.2.2.2.2.2.2.2.1 N m4 x6 v3) hb_ hb0_ rfl rfl q2315 q1988 q1989 q88 q1990 hdX3_valuesOf (Nat.le_of_ble_eq_true rfl) (Nat.le_of_ble_eq_true rfl) rfl (Nat.le_of_ble_eq_true rfl) dX1_valuesAnew_32 35 rfl rfl hen_r (kk_r (fun x7 m5 k1 n1 => ?_)) (kx_n he_r)
  refine x_ck (fun hb_ hb0_ => ?_)
  refine x_callF (enc := en_i) C 18 0 [] 21 (ctJ38_size_t21 C.2.2.2.2.2.2.2.2.1 N m5 x7) hb_ hb0_ rfl rfl rfl fw_45 q2431 q2372 q2332 q131 q2333 hx17 (Nat.le_of_ble_eq_true rfl) (Nat.le_of_ble_eq_true rfl) rfl (Nat.le_of_ble_eq_true rfl) dX1_valuesAnew_35 40 rfl rfl hen_i (kk_i (fun x8 m6 k1 n1 => ?_)) (kx_n he_i)
  exact x_iret C hret rfl dX1_valuesAnew_40
theorem hdX1_valuesAnew : ((⟨"MasterTree", "valuesAnew", "(III)I"⟩ : MethodName)).cls ≠ "java/lang/invoke/MethodHandle" ∧ ((⟨"MasterTree", "valuesAnew", "(III)I"⟩ : MethodName)).cls ≠ "java/lang/invoke/VarHandle" ∧ (parseMethodDescriptor ((⟨"MasterTree", "valuesAnew", "(III)I"⟩ : MethodName)).desc).map (fun d => d.parameters.length) = some 3 := ⟨by decide +kernel, by decide +kernel, by decide +kernel⟩
theorem ctX1_valuesAnew {l : Launch} {g : GG} (hst : l.stackTraces = false) (N : Nat) (m : Mm) (v0 : Option Nat) (v1 : Int32) (v2 : Int32) (v3 : Int32) : ∀ v m' k n, fX1_valuesAnew (gE_ g) N m v0 v1 v2 v3 = some (v, m', k, n) → Ct_ l g (⟨"MasterTree", "valuesAnew", "(III)I"⟩ : MethodName) (ws_ (⟨"MasterTree", "valuesAnew", "(III)I"⟩ : MethodName) cX1_valuesAnew 5 (Option.some Jvm.ClassFile.FieldType.int)) 22 [vr_ v0, vi_ v1, vi_ v2, vi_ v3] m ((xe_ en_i) v) m' k n :=
  Ct_of (by decide +kernel) rfl hst (Nat.le_of_ble_eq_true rfl) rfl (fun E C hret h0 hin => wX1_valuesAnew C hret h0 hin N m v0 v1 v2 v3 0 0)
theorem wX0_valuesAnew {l : Launch} {g : GG} {E : Me_} (C : Cx_ l g E "MasterTreeLaw" cX0_valuesAnew 6 23) (hret : (eT_ E).sig.returnType = (Option.some Jvm.ClassFile.FieldType.int)) (h0 : (eC_ E).exceptionTable.toList = tableOf [(0, 12, 15, 19)]) (hin : (eT_ E).name = "valuesAnew") (N : Nat) : ∀ (m : Mm) (v0 : Option Nat) (v1 : Int32) (v2 : Int32) (v3 : Int32) (v4 : Option Nat) (k n : Nat), Sm_ l g E 6 en_i (fX0_valuesAnew (gE_ g) N m v0 v1 v2 v3 v4) k n 0 [(0, vr_ v0), (1, vi_ v1), (2, vi_ v2), (3, vi_ v3), (4, vr_ v4)] [] m := by
  intro m v0 v1 v2 v3 v4 k n
  unfold fX0_valuesAnew
  refine s_aload C 4 rfl dX0_valuesAnew_0 2 rfl ?_
  refine s_iconst C 0 rfl dX0_valuesAnew_2 3 rfl ?_
  refine s_aload_n C rfl 0 rfl dX0_valuesAnew_3 4 rfl ?_
  refine s_iload_n C rfl 1 rfl dX0_valuesAnew_4 5 rfl ?_
  refine s_iload_n C rfl 2 rfl dX0_valuesAnew_5 6 rfl ?_
  refine s_iload_n C rfl 3 rfl dX0_valuesAnew_6 7 rfl ?_
  refine x_ck (fun hb_ hb0_ => ?_)
  refine x_callV (enc := (xe_ en_i)) C 22 3 [vi_ v1, vi_ v2, vi_ v3] 1 (ctX1_valuesAnew C.2.2.2.2.2.2.2.2.1 N m v0 v1 v2 v3) hb_ hb0_ rfl rfl q2969 q2970 q2971 q81 q2972 hdX1_valuesAnew (Nat.le_of_ble_eq_true rfl) (Nat.le_of_ble_eq_true rfl) rfl (Nat.le_of_ble_eq_true rfl) dX0_valuesAnew_7 10 rfl rfl (hen_x hen_i) (kk_c (kk_i (fun x1 m1 k1 n1 => ?_))) (kx_c he_i (fun i_ m0 k0 n0 => ?_))
  · refine s_i2l C dX0_valuesAnew_10 11 rfl ?_
    refine x_bj3 C 203 rfl dX0_valuesAnew_11 12 rfl (fun m2 => ?_)
    refine s_goto C (off := 7) 19 dX0_valuesAnew_12 rfl ?_
    refine s_iconst C 0 rfl dX0_valuesAnew_19 20 rfl ?_
    exact x_iret C hret rfl dX0_valuesAnew_20
  · refine Sx_if ?_ ?_
    · refine Sx_ctch C h0 0 [] ({ startPc := 0, endPc := 12, handlerPc := 15, catchType := 19 } : ExceptionTableEntry) [] rfl (fun z hz => by cases hz) (by decide) (by decide) q600 q638 15 rfl (fun q_ => ?_)
      refine s_astore C (Nat.le_of_ble_eq_true rfl) [] rfl rfl dX0_valuesAnew_15 17 rfl ?_
      refine s_iconst C 1 rfl dX0_valuesAnew_17 18 rfl ?_
      exact x_iret C hret rfl dX0_valuesAnew_18
    exact Sx_none
theorem hdX0_valuesAnew : ((⟨"MasterTreeLaw", "valuesAnew", "(LMasterTree;III[J)I"⟩ : MethodName)).cls ≠ "java/lang/invoke/MethodHandle" ∧ ((⟨"MasterTreeLaw", "valuesAnew", "(LMasterTree;III[J)I"⟩ : MethodName)).cls ≠ "java/lang/invoke/VarHandle" ∧ (parseMethodDescriptor ((⟨"MasterTreeLaw", "valuesAnew", "(LMasterTree;III[J)I"⟩ : MethodName)).desc).map (fun d => d.parameters.length) = some 5 := ⟨by decide +kernel, by decide +kernel, by decide +kernel⟩
theorem ctX0_valuesAnew {l : Launch} {g : GG} (hst : l.stackTraces = false) (N : Nat) (m : Mm) (v0 : Option Nat) (v1 : Int32) (v2 : Int32) (v3 : Int32) (v4 : Option Nat) : ∀ v m' k n, fX0_valuesAnew (gE_ g) N m v0 v1 v2 v3 v4 = some (v, m', k, n) → Ct_ l g (⟨"MasterTreeLaw", "valuesAnew", "(LMasterTree;III[J)I"⟩ : MethodName) (wsW_ (⟨"MasterTreeLaw", "valuesAnew", "(LMasterTree;III[J)I"⟩ : MethodName) cX0_valuesAnew 6 (Option.some Jvm.ClassFile.FieldType.int) [(0, 12, 15, 19)]) 23 [vr_ v0, vi_ v1, vi_ v2, vi_ v3, vr_ v4] m (en_i v) m' k n :=
  Ct_ofW (by decide +kernel) rfl hst (Nat.le_of_ble_eq_true rfl) rfl (fun E C hret h0 hin => wX0_valuesAnew C hret h0 hin N m v0 v1 v2 v3 v4 0 0)
theorem wX1_linkOf {l : Launch} {g : GG} {E : Me_} (C : Cx_ l g E "MasterTree" cX1_linkOf 3 18) (hret : (eT_ E).sig.returnType = (Option.some Jvm.ClassFile.FieldType.int)) (h0 : ∀ x ∈ (eC_ E).exceptionTable.toList, False) (hin : (eT_ E).name = "linkOf") (N : Nat) : ∀ (m : Mm) (v0 : Option Nat) (v1 : Int32) (v2 : Int32) (k n : Nat), Sm_ l g E 3 (xe_ en_i) (fX1_linkOf (gE_ g) N m v0 v1 v2) k n 0 [(0, vr_ v0), (1, vi_ v1), (2, vi_ v2)] [] m := by
  intro m v0 v1 v2 k n
  unfold fX1_linkOf
  refine s_aload_n C rfl 0 rfl dX1_linkOf_0 1 rfl ?_
  refine s_iload_n C rfl 1 rfl dX1_linkOf_1 2 rfl ?_
  refine x_ck (fun hb_ hb0_ => ?_)
  refine x_callV (enc := (xe_ en_r)) C 17 1 [vi_ v1] 1 (ctX1_at C.2.2.2.2.2.2.2.2.1 N m v0 v1) hb_ hb0_ rfl rfl q934 q936 qs5 q81 q937 hdX1_at (Nat.le_of_ble_eq_true rfl) (Nat.le_of_ble_eq_true rfl) rfl (Nat.le_of_ble_eq_true rfl) dX1_linkOf_2 5 rfl rfl (hen_x hen_r) (kk_x (kk_r (fun x1 m1 k1 n1 => ?_))) (kx_x C h0 he_r)
  refine s_iload_n C rfl 2 rfl dX1_linkOf_5 6 rfl ?_
  refine x_callS (enc := (xe_ en_r)) C 16 2 [vr_ x1, vi_ v2] (ctX1_liveAt C.2.2.2.2.2.2.2.2.1 N m1 x1 v2) q968 q969 q81 q970 hdX1_liveAt (Nat.le_of_ble_eq_true rfl) (Nat.le_of_ble_eq_true rfl) rfl (Nat.le_of_ble_eq_true rfl) dX1_linkOf_6 9 rfl rfl (hen_x hen_r) (kk_x (kk_r (fun x2 m2 k1 n1 => ?_))) (kx_x C h0 he_r)
  refine x_giN C 2 (RX3, TX3, 9) rfl 6 (Nat.le_of_ble_eq_true rfl) q266 rfl rfl 3 rfl dX1_linkOf_9 12 rfl (fun x3 => ?_)
  exact x_iret C hret rfl dX1_linkOf_12
theorem hdX1_linkOf : ((⟨"MasterTree", "linkOf", "(II)I"⟩ : MethodName)).cls ≠ "java/lang/invoke/MethodHandle" ∧ ((⟨"MasterTree", "linkOf", "(II)I"⟩ : MethodName)).cls ≠ "java/lang/invoke/VarHandle" ∧ (parseMethodDescriptor ((⟨"MasterTree", "linkOf", "(II)I"⟩ : MethodName)).desc).map (fun d => d.parameters.length) = some 2 := ⟨by decide +kernel, by decide +kernel, by decide +kernel⟩
theorem ctX1_linkOf {l : Launch} {g : GG} (hst : l.stackTraces = false) (N : Nat) (m : Mm) (v0 : Option Nat) (v1 : Int32) (v2 : Int32) : ∀ v m' k n, fX1_linkOf (gE_ g) N m v0 v1 v2 = some (v, m', k, n) → Ct_ l g (⟨"MasterTree", "linkOf", "(II)I"⟩ : MethodName) (ws_ (⟨"MasterTree", "linkOf", "(II)I"⟩ : MethodName) cX1_linkOf 3 (Option.some Jvm.ClassFile.FieldType.int)) 18 [vr_ v0, vi_ v1, vi_ v2] m ((xe_ en_i) v) m' k n :=
  Ct_of (by decide +kernel) rfl hst (Nat.le_of_ble_eq_true rfl) rfl (fun E C hret h0 hin => wX1_linkOf C hret h0 hin N m v0 v1 v2 0 0)
theorem wX0_linkOf {l : Launch} {g : GG} {E : Me_} (C : Cx_ l g E "MasterTreeLaw" cX0_linkOf 5 19) (hret : (eT_ E).sig.returnType = (Option.some Jvm.ClassFile.FieldType.int)) (h0 : (eC_ E).exceptionTable.toList = tableOf [(0, 10, 13, 19)]) (hin : (eT_ E).name = "linkOf") (N : Nat) : ∀ (m : Mm) (v0 : Option Nat) (v1 : Int32) (v2 : Int32) (v3 : Option Nat) (k n : Nat), Sm_ l g E 5 en_i (fX0_linkOf (gE_ g) N m v0 v1 v2 v3) k n 0 [(0, vr_ v0), (1, vi_ v1), (2, vi_ v2), (3, vr_ v3)] [] m := by
  intro m v0 v1 v2 v3 k n
  unfold fX0_linkOf
  refine s_aload_n C rfl 3 rfl dX0_linkOf_0 1 rfl ?_
  refine s_iconst C 0 rfl dX0_linkOf_1 2 rfl ?_
  refine s_aload_n C rfl 0 rfl dX0_linkOf_2 3 rfl ?_
  refine s_iload_n C rfl 1 rfl dX0_linkOf_3 4 rfl ?_
  refine s_iload_n C rfl 2 rfl dX0_linkOf_4 5 rfl ?_
  refine x_ck (fun hb_ hb0_ => ?_)
  refine x_callV (enc := (xe_ en_i)) C 18 2 [vi_ v1, vi_ v2] 1 (ctX1_linkOf C.2.2.2.2.2.2.2.2.1 N m v0 v1 v2) hb_ hb0_ rfl rfl q2976 q2977 q2978 q81 q2979 hdX1_linkOf (Nat.le_of_ble_eq_true rfl) (Nat.le_of_ble_eq_true rfl) rfl (Nat.le_of_ble_eq_true rfl) dX0_linkOf_5 8 rfl rfl (hen_x hen_i) (kk_c (kk_i (fun x1 m1 k1 n1 => ?_))) (kx_c he_i (fun i_ m0 k0 n0 => ?_))
  · refine s_i2l C dX0_linkOf_8 9 rfl ?_
    refine x_bj3 C 203 rfl dX0_linkOf_9 10 rfl (fun m2 => ?_)
    refine s_goto C (off := 7) 17 dX0_linkOf_10 rfl ?_
    refine s_iconst C 0 rfl dX0_linkOf_17 18 rfl ?_
    exact x_iret C hret rfl dX0_linkOf_18
  · refine Sx_if ?_ ?_
    · refine Sx_ctch C h0 0 [] ({ startPc := 0, endPc := 10, handlerPc := 13, catchType := 19 } : ExceptionTableEntry) [] rfl (fun z hz => by cases hz) (by decide) (by decide) q600 q638 13 rfl (fun q_ => ?_)
      refine s_astore C (Nat.le_of_ble_eq_true rfl) [] rfl rfl dX0_linkOf_13 15 rfl ?_
      refine s_iconst C 1 rfl dX0_linkOf_15 16 rfl ?_
      exact x_iret C hret rfl dX0_linkOf_16
    exact Sx_none
theorem hdX0_linkOf : ((⟨"MasterTreeLaw", "linkOf", "(LMasterTree;II[J)I"⟩ : MethodName)).cls ≠ "java/lang/invoke/MethodHandle" ∧ ((⟨"MasterTreeLaw", "linkOf", "(LMasterTree;II[J)I"⟩ : MethodName)).cls ≠ "java/lang/invoke/VarHandle" ∧ (parseMethodDescriptor ((⟨"MasterTreeLaw", "linkOf", "(LMasterTree;II[J)I"⟩ : MethodName)).desc).map (fun d => d.parameters.length) = some 4 := ⟨by decide +kernel, by decide +kernel, by decide +kernel⟩
theorem ctX0_linkOf {l : Launch} {g : GG} (hst : l.stackTraces = false) (N : Nat) (m : Mm) (v0 : Option Nat) (v1 : Int32) (v2 : Int32) (v3 : Option Nat) : ∀ v m' k n, fX0_linkOf (gE_ g) N m v0 v1 v2 v3 = some (v, m', k, n) → Ct_ l g (⟨"MasterTreeLaw", "linkOf", "(LMasterTree;II[J)I"⟩ : MethodName) (wsW_ (⟨"MasterTreeLaw", "linkOf", "(LMasterTree;II[J)I"⟩ : MethodName) cX0_linkOf 5 (Option.some Jvm.ClassFile.FieldType.int) [(0, 10, 13, 19)]) 19 [vr_ v0, vi_ v1, vi_ v2, vr_ v3] m (en_i v) m' k n :=
  Ct_ofW (by decide +kernel) rfl hst (Nat.le_of_ble_eq_true rfl) rfl (fun E C hret h0 hin => wX0_linkOf C hret h0 hin N m v0 v1 v2 v3 0 0)
theorem wX1_may {l : Launch} {g : GG} {E : Me_} (C : Cx_ l g E "MasterTree" cX1_may 6 19) (hret : (eT_ E).sig.returnType = (Option.some Jvm.ClassFile.FieldType.boolean)) (h0 : ∀ x ∈ (eC_ E).exceptionTable.toList, False) (hin : (eT_ E).name = "may") (N : Nat) : ∀ (m : Mm) (v0 : Option Nat) (v1 : Int32) (v2 : Int32) (v3 : Int32) (v4 : Int32) (k n : Nat), Sm_ l g E 6 (xe_ en_i) (fX1_may (gE_ g) N m v0 v1 v2 v3 v4) k n 0 [(0, vr_ v0), (1, vi_ v1), (2, vi_ v2), (3, vi_ v3), (4, vi_ v4)] [] m := by
  intro m v0 v1 v2 v3 v4 k n
  unfold fX1_may
  refine s_aload_n C rfl 0 rfl dX1_may_0 1 rfl ?_
  refine s_iload_n C rfl 1 rfl dX1_may_1 2 rfl ?_
  refine x_ck (fun hb_ hb0_ => ?_)
  refine x_callV (enc := (xe_ en_r)) C 17 1 [vi_ v1] 1 (ctX1_at C.2.2.2.2.2.2.2.2.1 N m v0 v1) hb_ hb0_ rfl rfl q934 q936 qs5 q81 q937 hdX1_at (Nat.le_of_ble_eq_true rfl) (Nat.le_of_ble_eq_true rfl) rfl (Nat.le_of_ble_eq_true rfl) dX1_may_2 5 rfl rfl (hen_x hen_r) (kk_x (kk_r (fun x1 m1 k1 n1 => ?_))) (kx_x C h0 he_r)
  refine s_astore C (Nat.le_of_ble_eq_true rfl) [2, 3, 4] rfl rfl dX1_may_5 7 rfl ?_
  refine s_iload_n C rfl 1 rfl dX1_may_7 8 rfl ?_
  refine s_bipush C 6 rfl dX1_may_8 10 rfl ?_
  refine x_ls C 8 8 rfl dX1_may_10 12 rfl ?_
  refine x_callS (enc := (xe_ en_i)) C 16 3 [vi_ v2, vi_ 6, vr_ (some (gE_ g (100 + 8)))] (ctX1_place C.2.2.2.2.2.2.2.2.1 N m1 v2 6 (some (gE_ g (100 + 8)))) q633 q634 q81 q635 hdX1_place (Nat.le_of_ble_eq_true rfl) (Nat.le_of_ble_eq_true rfl) rfl (Nat.le_of_ble_eq_true rfl) dX1_may_12 15 rfl rfl (hen_x hen_i) (kk_x (kk_i (fun x2 m2 k1 n1 => ?_))) (kx_x C h0 he_i)
  refine s_pop C rfl dX1_may_15 16 rfl ?_
  refine s_aload C 0 rfl dX1_may_16 18 rfl ?_
  refine s_iload_n C rfl 2 rfl dX1_may_18 19 rfl ?_
  refine x_callS (enc := (xe_ en_r)) C 16 2 [vr_ x1, vi_ v3] (ctX1_liveAt C.2.2.2.2.2.2.2.2.1 N m2 x1 v3) q968 q969 q81 q970 hdX1_liveAt (Nat.le_of_ble_eq_true rfl) (Nat.le_of_ble_eq_true rfl) rfl (Nat.le_of_ble_eq_true rfl) dX1_may_19 22 rfl rfl (hen_x hen_r) (kk_x (kk_r (fun x3 m3 k1 n1 => ?_))) (kx_x C h0 he_r)
  refine s_pop C rfl dX1_may_22 23 rfl ?_
  refine s_iload C 3 rfl dX1_may_23 25 rfl ?_
  refine s_iconst C 2 rfl dX1_may_25 26 rfl ?_
  refine x_lsw C 31 31 rfl dX1_may_26 29 rfl ?_
  refine x_callS (enc := (xe_ en_i)) C 16 3 [vi_ v4, vi_ 2, vr_ (some (gE_ g (100 + 31)))] (ctX1_place C.2.2.2.2.2.2.2.2.1 N m3 v4 2 (some (gE_ g (100 + 31)))) q633 q634 q81 q635 hdX1_place (Nat.le_of_ble_eq_true rfl) (Nat.le_of_ble_eq_true rfl) rfl (Nat.le_of_ble_eq_true rfl) dX1_may_29 32 rfl rfl (hen_x hen_i) (kk_x (kk_i (fun x4 m4 k1 n1 => ?_))) (kx_x C h0 he_i)
  refine s_pop C rfl dX1_may_32 33 rfl ?_
  refine s_aload C 0 rfl dX1_may_33 35 rfl ?_
  refine s_iload_n C rfl 1 rfl dX1_may_35 36 rfl ?_
  refine s_iload_n C rfl 2 rfl dX1_may_36 37 rfl ?_
  refine s_iload C 3 rfl dX1_may_37 39 rfl ?_
  refine x_ck (fun hb_ hb0_ => ?_)
  refine x_callV (enc := en_i) C 18 3 [vi_ v2, vi_ v3, vi_ v4] 2 (ctX2_may C.2.2.2.2.2.2.2.2.1 N m4 x1 v2 v3 v4) hb_ hb0_ rfl rfl q986 q987 q988 q85 q989 hdX2_may (Nat.le_of_ble_eq_true rfl) (Nat.le_of_ble_eq_true rfl) rfl (Nat.le_of_ble_eq_true rfl) dX1_may_39 42 rfl rfl hen_i (kk_i (fun x5 m5 k1 n1 => ?_)) (kx_n he_i)
  exact x_zret C hret rfl dX1_may_42
theorem hdX1_may : ((⟨"MasterTree", "may", "(IIII)Z"⟩ : MethodName)).cls ≠ "java/lang/invoke/MethodHandle" ∧ ((⟨"MasterTree", "may", "(IIII)Z"⟩ : MethodName)).cls ≠ "java/lang/invoke/VarHandle" ∧ (parseMethodDescriptor ((⟨"MasterTree", "may", "(IIII)Z"⟩ : MethodName)).desc).map (fun d => d.parameters.length) = some 4 := ⟨by decide +kernel, by decide +kernel, by decide +kernel⟩
theorem ctX1_may {l : Launch} {g : GG} (hst : l.stackTraces = false) (N : Nat) (m : Mm) (v0 : Option Nat) (v1 : Int32) (v2 : Int32) (v3 : Int32) (v4 : Int32) : ∀ v m' k n, fX1_may (gE_ g) N m v0 v1 v2 v3 v4 = some (v, m', k, n) → Ct_ l g (⟨"MasterTree", "may", "(IIII)Z"⟩ : MethodName) (ws_ (⟨"MasterTree", "may", "(IIII)Z"⟩ : MethodName) cX1_may 6 (Option.some Jvm.ClassFile.FieldType.boolean)) 19 [vr_ v0, vi_ v1, vi_ v2, vi_ v3, vi_ v4] m ((xe_ en_i) v) m' k n :=
  Ct_of (by decide +kernel) rfl hst (Nat.le_of_ble_eq_true rfl) rfl (fun E C hret h0 hin => wX1_may C hret h0 hin N m v0 v1 v2 v3 v4 0 0)
theorem wX0_may_b20 {l : Launch} {g : GG} {E : Me_} (C : Cx_ l g E "MasterTreeLaw" cX0_may 7 20) (hret : (eT_ E).sig.returnType = (Option.some Jvm.ClassFile.FieldType.int)) (h0 : (eC_ E).exceptionTable.toList = tableOf [(0, 21, 24, 19)]) (hin : (eT_ E).name = "may") (N : Nat) : ∀ (m : Mm) (s0 : Option Nat) (s1 : Int32) (s2 : Int64) (k n : Nat), Sm_ l g E 7 en_i (fX0_may_b20 (gE_ g) N m s0 s1 s2) k n 20 [] [vj_ s2, vi_ s1, vr_ s0] m := by
  intro m s0 s1 s2 k n
  unfold fX0_may_b20
  refine x_bj3 C 203 rfl dX0_may_20 21 rfl (fun m1 => ?_)
  refine s_goto C (off := 7) 28 dX0_may_21 rfl ?_
  refine s_iconst C 0 rfl dX0_may_28 29 rfl ?_
  exact x_iret C hret rfl dX0_may_29
theorem wX0_may {l : Launch} {g : GG} {E : Me_} (C : Cx_ l g E "MasterTreeLaw" cX0_may 7 20) (hret : (eT_ E).sig.returnType = (Option.some Jvm.ClassFile.FieldType.int)) (h0 : (eC_ E).exceptionTable.toList = tableOf [(0, 21, 24, 19)]) (hin : (eT_ E).name = "may") (N : Nat) : ∀ (m : Mm) (v0 : Option Nat) (v1 : Int32) (v2 : Int32) (v3 : Int32) (v4 : Int32) (v5 : Option Nat) (k n : Nat), Sm_ l g E 7 en_i (fX0_may (gE_ g) N m v0 v1 v2 v3 v4 v5) k n 0 [(0, vr_ v0), (1, vi_ v1), (2, vi_ v2), (3, vi_ v3), (4, vi_ v4), (5, vr_ v5)] [] m := by
  intro m v0 v1 v2 v3 v4 v5 k n
  unfold fX0_may
  refine s_aload C 5 rfl dX0_may_0 2 rfl ?_
  refine s_iconst C 0 rfl dX0_may_2 3 rfl ?_
  refine s_aload_n C rfl 0 rfl dX0_may_3 4 rfl ?_
  refine s_iload_n C rfl 1 rfl dX0_may_4 5 rfl ?_
  refine s_iload_n C rfl 2 rfl dX0_may_5 6 rfl ?_
  refine s_iload_n C rfl 3 rfl dX0_may_6 7 rfl ?_
  refine s_iload C 4 rfl dX0_may_7 9 rfl ?_
  refine x_ck (fun hb_ hb0_ => ?_)
  refine x_callV (enc := (xe_ en_i)) C 19 4 [vi_ v1, vi_ v2, vi_ v3, vi_ v4] 1 (ctX1_may C.2.2.2.2.2.2.2.2.1 N m v0 v1 v2 v3 v4) hb_ hb0_ rfl rfl q2983 q2984 q2985 q81 q2986 hdX1_may (Nat.le_of_ble_eq_true rfl) (Nat.le_of_ble_eq_true rfl) rfl (Nat.le_of_ble_eq_true rfl) dX0_may_9 12 rfl rfl (hen_x hen_i) (kk_c (kk_i (fun x1 m1 k1 n1 => ?_))) (kx_c he_i (fun i_ m0 k0 n0 => ?_))
  · refine s_if_eq C dX0_may_12 19 rfl 15 rfl (fun c_ => ?_) (fun c_ => ?_)
    · refine s_lconst C 0 rfl dX0_may_19 20 rfl ?_
      refine Sm_sub [] rfl ?_
      exact wX0_may_b20 C hret h0 hin N _ _ _ _ _ _
    · refine s_lconst C 1 rfl dX0_may_15 16 rfl ?_
      refine s_goto C (off := 4) 20 dX0_may_16 rfl ?_
      refine Sm_sub [] rfl ?_
      exact wX0_may_b20 C hret h0 hin N _ _ _ _ _ _
  · refine Sx_if ?_ ?_
    · refine Sx_ctch C h0 0 [] ({ startPc := 0, endPc := 21, handlerPc := 24, catchType := 19 } : ExceptionTableEntry) [] rfl (fun z hz => by cases hz) (by decide) (by decide) q600 q638 24 rfl (fun q_ => ?_)
      refine s_astore C (Nat.le_of_ble_eq_true rfl) [] rfl rfl dX0_may_24 26 rfl ?_
      refine s_iconst C 1 rfl dX0_may_26 27 rfl ?_
      exact x_iret C hret rfl dX0_may_27
    exact Sx_none
theorem hdX0_may : ((⟨"MasterTreeLaw", "may", "(LMasterTree;IIII[J)I"⟩ : MethodName)).cls ≠ "java/lang/invoke/MethodHandle" ∧ ((⟨"MasterTreeLaw", "may", "(LMasterTree;IIII[J)I"⟩ : MethodName)).cls ≠ "java/lang/invoke/VarHandle" ∧ (parseMethodDescriptor ((⟨"MasterTreeLaw", "may", "(LMasterTree;IIII[J)I"⟩ : MethodName)).desc).map (fun d => d.parameters.length) = some 6 := ⟨by decide +kernel, by decide +kernel, by decide +kernel⟩
theorem ctX0_may {l : Launch} {g : GG} (hst : l.stackTraces = false) (N : Nat) (m : Mm) (v0 : Option Nat) (v1 : Int32) (v2 : Int32) (v3 : Int32) (v4 : Int32) (v5 : Option Nat) : ∀ v m' k n, fX0_may (gE_ g) N m v0 v1 v2 v3 v4 v5 = some (v, m', k, n) → Ct_ l g (⟨"MasterTreeLaw", "may", "(LMasterTree;IIII[J)I"⟩ : MethodName) (wsW_ (⟨"MasterTreeLaw", "may", "(LMasterTree;IIII[J)I"⟩ : MethodName) cX0_may 7 (Option.some Jvm.ClassFile.FieldType.int) [(0, 21, 24, 19)]) 20 [vr_ v0, vi_ v1, vi_ v2, vi_ v3, vi_ v4, vr_ v5] m (en_i v) m' k n :=
  Ct_ofW (by decide +kernel) rfl hst (Nat.le_of_ble_eq_true rfl) rfl (fun E C hret h0 hin => wX0_may C hret h0 hin N m v0 v1 v2 v3 v4 v5 0 0)
theorem wX1_childAt_b69 {l : Launch} {g : GG} {E : Me_} (C : Cx_ l g E "MasterTree" cX1_childAt 7 18) (hret : (eT_ E).sig.returnType = (Option.some Jvm.ClassFile.FieldType.int)) (h0 : ∀ x ∈ (eC_ E).exceptionTable.toList, False) (hin : (eT_ E).name = "childAt") (N : Nat) : ∀ (m : Mm) (v5 : Int32) (k n : Nat), Sm_ l g E 7 (xe_ en_i) (fX1_childAt_b69 (gE_ g) N m v5) k n 69 [(5, vi_ v5)] [] m := by
  intro m v5 k n
  unfold fX1_childAt_b69
  refine s_iload C 0 rfl dX1_childAt_69 71 rfl ?_
  exact x_iret C hret rfl dX1_childAt_71
theorem wX1_childAt_b36 {l : Launch} {g : GG} {E : Me_} (C : Cx_ l g E "MasterTree" cX1_childAt 7 18) (hret : (eT_ E).sig.returnType = (Option.some Jvm.ClassFile.FieldType.int)) (h0 : ∀ x ∈ (eC_ E).exceptionTable.toList, False) (hin : (eT_ E).name = "childAt") (N : Nat) : ∀ (F : Nat) (m : Mm) (v2 : Int32) (v3 : Int32) (v4 : Option Nat) (v5 : Int32) (v6 : Int32) (k n : Nat), Sm_ l g E 7 (xe_ en_i) (fX1_childAt_b36 (gE_ g) N F m v2 v3 v4 v5 v6) k n 36 [(2, vi_ v2), (3, vi_ v3), (4, vr_ v4), (5, vi_ v5), (6, vi_ v6)] [] m := by
  intro F
  induction F with
  | zero => intros; exact Sm_none
  | succ F ih =>
    intro m v2 v3 v4 v5 v6 k n
    unfold fX1_childAt_b36
    refine s_iload C 4 rfl dX1_childAt_36 38 rfl ?_
    refine s_iload_n C rfl 1 rfl dX1_childAt_38 39 rfl ?_
    refine s_icmp_ge C dX1_childAt_39 69 rfl 42 rfl (fun c_ => ?_) (fun c_ => ?_)
    · refine s_iload C 3 rfl dX1_childAt_42 44 rfl ?_
      refine s_iconst C (-1) rfl dX1_childAt_44 45 rfl ?_
      refine s_icmp_eq C dX1_childAt_45 69 rfl 48 rfl (fun c_ => ?_) (fun c_ => ?_)
      · refine Sm_sub [3] rfl ?_
        exact wX1_childAt_b69 C hret h0 hin N _ _ _ _
      · refine s_aload C 2 rfl dX1_childAt_48 50 rfl ?_
        refine s_iload_n C rfl 0 rfl dX1_childAt_50 51 rfl ?_
        refine s_aload C 2 rfl dX1_childAt_51 53 rfl ?_
        refine s_iload C 3 rfl dX1_childAt_53 55 rfl ?_
        refine x_ck (fun hb_ hb0_ => ?_)
        refine x_callV (enc := en_i) C 15 1 [vi_ v5] 2 (ctX2_shownName C.2.2.2.2.2.2.2.2.1 N m v4 v5) hb_ hb0_ rfl rfl q2462 q1668 q1669 q85 q1670 hdX2_shownName (Nat.le_of_ble_eq_true rfl) (Nat.le_of_ble_eq_true rfl) rfl (Nat.le_of_ble_eq_true rfl) dX1_childAt_55 58 rfl rfl hen_i (kk_i (fun x1 m1 k1 n1 => ?_)) (kx_n he_i)
        refine x_ck (fun hb_ hb0_ => ?_)
        refine x_callV (enc := en_i) C 16 2 [vi_ v2, vi_ x1] 2 (ctX2_next C.2.2.2.2.2.2.2.2.1 N m1 v4 v2 x1) hb_ hb0_ rfl rfl q2480 q2481 q2482 q85 q2483 hdX2_next (Nat.le_of_ble_eq_true rfl) (Nat.le_of_ble_eq_true rfl) rfl (Nat.le_of_ble_eq_true rfl) dX1_childAt_58 61 rfl rfl hen_i (kk_i (fun x2 m2 k1 n1 => ?_)) (kx_n he_i)
        refine s_istore C (Nat.le_of_ble_eq_true rfl) [0, 1, 2, 4] rfl rfl dX1_childAt_61 63 rfl ?_
        refine s_iinc C 1 rfl 4 rfl (Nat.le_of_ble_eq_true rfl) [0, 1, 2, 3] rfl rfl dX1_childAt_63 66 rfl ?_
        refine s_goto C (off := -30) 36 dX1_childAt_66 rfl ?_
        refine Sm_sub [2, 3, 4, 1, 0] rfl ?_
        exact ih _ _ _ _ _ _ _ _
    · refine Sm_sub [3] rfl ?_
      exact wX1_childAt_b69 C hret h0 hin N _ _ _ _
theorem wX1_childAt_b20 {l : Launch} {g : GG} {E : Me_} (C : Cx_ l g E "MasterTree" cX1_childAt 7 18) (hret : (eT_ E).sig.returnType = (Option.some Jvm.ClassFile.FieldType.int)) (h0 : ∀ x ∈ (eC_ E).exceptionTable.toList, False) (hin : (eT_ E).name = "childAt") (N : Nat) : ∀ (m : Mm) (v2 : Int32) (v3 : Int32) (v4 : Option Nat) (k n : Nat), Sm_ l g E 7 (xe_ en_i) (fX1_childAt_b20 (gE_ g) N m v2 v3 v4) k n 20 [(2, vi_ v2), (3, vi_ v3), (4, vr_ v4)] [] m := by
  intro m v2 v3 v4 k n
  unfold fX1_childAt_b20
  refine s_iload_n C rfl 1 rfl dX1_childAt_20 21 rfl ?_
  refine x_callS (enc := (xe_ en_v)) C 16 1 [vi_ v3] (ctX1_isIndex C.2.2.2.2.2.2.2.2.1 N m v3) q2953 q2954 q81 q2955 hdX1_isIndex (Nat.le_of_ble_eq_true rfl) (Nat.le_of_ble_eq_true rfl) rfl (Nat.le_of_ble_eq_true rfl) dX1_childAt_21 24 rfl rfl (hen_x hen_v) (kk_x (kk_v (fun m1 k1 n1 => ?_))) (kx_x C h0 he_v)
  refine s_aload C 2 rfl dX1_childAt_24 26 rfl ?_
  refine s_iload_n C rfl 0 rfl dX1_childAt_26 27 rfl ?_
  refine s_iconst C (-1) rfl dX1_childAt_27 28 rfl ?_
  refine x_ck (fun hb_ hb0_ => ?_)
  refine x_callV (enc := en_i) C 16 2 [vi_ v2, vi_ (-1)] 2 (ctX2_next C.2.2.2.2.2.2.2.2.1 N m1 v4 v2 (-1)) hb_ hb0_ rfl rfl q2480 q2481 q2482 q85 q2483 hdX2_next (Nat.le_of_ble_eq_true rfl) (Nat.le_of_ble_eq_true rfl) rfl (Nat.le_of_ble_eq_true rfl) dX1_childAt_28 31 rfl rfl hen_i (kk_i (fun x1 m2 k1 n1 => ?_)) (kx_n he_i)
  refine s_istore C (Nat.le_of_ble_eq_true rfl) [0, 1, 2] rfl rfl dX1_childAt_31 33 rfl ?_
  refine s_iconst C 0 rfl dX1_childAt_33 34 rfl ?_
  refine s_istore C (Nat.le_of_ble_eq_true rfl) [0, 1, 2, 3] rfl rfl dX1_childAt_34 36 rfl ?_
  refine Sm_sub [2, 3, 4, 1, 0] rfl ?_
  exact wX1_childAt_b36 C hret h0 hin N N _ _ _ _ _ _ _ _
theorem wX1_childAt {l : Launch} {g : GG} {E : Me_} (C : Cx_ l g E "MasterTree" cX1_childAt 7 18) (hret : (eT_ E).sig.returnType = (Option.some Jvm.ClassFile.FieldType.int)) (h0 : ∀ x ∈ (eC_ E).exceptionTable.toList, False) (hin : (eT_ E).name = "childAt") (N : Nat) : ∀ (m : Mm) (v0 : Option Nat) (v1 : Int32) (v2 : Int32) (v3 : Int32) (k n : Nat), Sm_ l g E 7 (xe_ en_i) (fX1_childAt (gE_ g) N m v0 v1 v2 v3) k n 0 [(0, vr_ v0), (1, vi_ v1), (2, vi_ v2), (3, vi_ v3)] [] m := by
  intro m v0 v1 v2 v3 k n
  unfold fX1_childAt
  refine s_aload_n C rfl 0 rfl dX1_childAt_0 1 rfl ?_
  refine s_iload_n C rfl 1 rfl dX1_childAt_1 2 rfl ?_
  refine x_ck (fun hb_ hb0_ => ?_)
  refine x_callV (enc := (xe_ en_r)) C 17 1 [vi_ v1] 1 (ctX1_at C.2.2.2.2.2.2.2.2.1 N m v0 v1) hb_ hb0_ rfl rfl q934 q936 qs5 q81 q937 hdX1_at (Nat.le_of_ble_eq_true rfl) (Nat.le_of_ble_eq_true rfl) rfl (Nat.le_of_ble_eq_true rfl) dX1_childAt_2 5 rfl rfl (hen_x hen_r) (kk_x (kk_r (fun x1 m1 k1 n1 => ?_))) (kx_x C h0 he_r)
  refine s_astore C (Nat.le_of_ble_eq_true rfl) [2, 3] rfl rfl dX1_childAt_5 7 rfl ?_
  refine s_iload_n C rfl 1 rfl dX1_childAt_7 8 rfl ?_
  refine s_bipush C (-2) rfl dX1_childAt_8 10 rfl ?_
  refine s_icmp_eq C dX1_childAt_10 20 rfl 13 rfl (fun c_ => ?_) (fun c_ => ?_)
  · refine Sm_sub [1, 2, 0] rfl ?_
    exact wX1_childAt_b20 C hret h0 hin N _ _ _ _ _ _
  · refine s_aload C 0 rfl dX1_childAt_13 15 rfl ?_
    refine s_iload_n C rfl 1 rfl dX1_childAt_15 16 rfl ?_
    refine x_callS (enc := (xe_ en_r)) C 16 2 [vr_ x1, vi_ v2] (ctX1_liveAt C.2.2.2.2.2.2.2.2.1 N m1 x1 v2) q968 q969 q81 q970 hdX1_liveAt (Nat.le_of_ble_eq_true rfl) (Nat.le_of_ble_eq_true rfl) rfl (Nat.le_of_ble_eq_true rfl) dX1_childAt_16 19 rfl rfl (hen_x hen_r) (kk_x (kk_r (fun x2 m2 k1 n1 => ?_))) (kx_x C h0 he_r)
    refine s_pop C rfl dX1_childAt_19 20 rfl ?_
    refine Sm_sub [1, 2, 0] rfl ?_
    exact wX1_childAt_b20 C hret h0 hin N _ _ _ _ _ _
theorem hdX1_childAt : ((⟨"MasterTree", "childAt", "(III)I"⟩ : MethodName)).cls ≠ "java/lang/invoke/MethodHandle" ∧ ((⟨"MasterTree", "childAt", "(III)I"⟩ : MethodName)).cls ≠ "java/lang/invoke/VarHandle" ∧ (parseMethodDescriptor ((⟨"MasterTree", "childAt", "(III)I"⟩ : MethodName)).desc).map (fun d => d.parameters.length) = some 3 := ⟨by decide +kernel, by decide +kernel, by decide +kernel⟩
theorem ctX1_childAt {l : Launch} {g : GG} (hst : l.stackTraces = false) (N : Nat) (m : Mm) (v0 : Option Nat) (v1 : Int32) (v2 : Int32) (v3 : Int32) : ∀ v m' k n, fX1_childAt (gE_ g) N m v0 v1 v2 v3 = some (v, m', k, n) → Ct_ l g (⟨"MasterTree", "childAt", "(III)I"⟩ : MethodName) (ws_ (⟨"MasterTree", "childAt", "(III)I"⟩ : MethodName) cX1_childAt 7 (Option.some Jvm.ClassFile.FieldType.int)) 18 [vr_ v0, vi_ v1, vi_ v2, vi_ v3] m ((xe_ en_i) v) m' k n :=
  Ct_of (by decide +kernel) rfl hst (Nat.le_of_ble_eq_true rfl) rfl (fun E C hret h0 hin => wX1_childAt C hret h0 hin N m v0 v1 v2 v3 0 0)
theorem wX0_childAt {l : Launch} {g : GG} {E : Me_} (C : Cx_ l g E "MasterTreeLaw" cX0_childAt 6 19) (hret : (eT_ E).sig.returnType = (Option.some Jvm.ClassFile.FieldType.int)) (h0 : (eC_ E).exceptionTable.toList = tableOf [(0, 12, 15, 19)]) (hin : (eT_ E).name = "childAt") (N : Nat) : ∀ (m : Mm) (v0 : Option Nat) (v1 : Int32) (v2 : Int32) (v3 : Int32) (v4 : Option Nat) (k n : Nat), Sm_ l g E 6 en_i (fX0_childAt (gE_ g) N m v0 v1 v2 v3 v4) k n 0 [(0, vr_ v0), (1, vi_ v1), (2, vi_ v2), (3, vi_ v3), (4, vr_ v4)] [] m := by
  intro m v0 v1 v2 v3 v4 k n
  unfold fX0_childAt
  refine s_aload C 4 rfl dX0_childAt_0 2 rfl ?_
  refine s_iconst C 0 rfl dX0_childAt_2 3 rfl ?_
  refine s_aload_n C rfl 0 rfl dX0_childAt_3 4 rfl ?_
  refine s_iload_n C rfl 1 rfl dX0_childAt_4 5 rfl ?_
  refine s_iload_n C rfl 2 rfl dX0_childAt_5 6 rfl ?_
  refine s_iload_n C rfl 3 rfl dX0_childAt_6 7 rfl ?_
  refine x_ck (fun hb_ hb0_ => ?_)
  refine x_callV (enc := (xe_ en_i)) C 18 3 [vi_ v1, vi_ v2, vi_ v3] 1 (ctX1_childAt C.2.2.2.2.2.2.2.2.1 N m v0 v1 v2 v3) hb_ hb0_ rfl rfl q2990 q2991 q2992 q81 q2993 hdX1_childAt (Nat.le_of_ble_eq_true rfl) (Nat.le_of_ble_eq_true rfl) rfl (Nat.le_of_ble_eq_true rfl) dX0_childAt_7 10 rfl rfl (hen_x hen_i) (kk_c (kk_i (fun x1 m1 k1 n1 => ?_))) (kx_c he_i (fun i_ m0 k0 n0 => ?_))
  · refine s_i2l C dX0_childAt_10 11 rfl ?_
    refine x_bj3 C 203 rfl dX0_childAt_11 12 rfl (fun m2 => ?_)
    refine s_goto C (off := 7) 19 dX0_childAt_12 rfl ?_
    refine s_iconst C 0 rfl dX0_childAt_19 20 rfl ?_
    exact x_iret C hret rfl dX0_childAt_20
  · refine Sx_if ?_ ?_
    · refine Sx_ctch C h0 0 [] ({ startPc := 0, endPc := 12, handlerPc := 15, catchType := 19 } : ExceptionTableEntry) [] rfl (fun z hz => by cases hz) (by decide) (by decide) q600 q638 15 rfl (fun q_ => ?_)
      refine s_astore C (Nat.le_of_ble_eq_true rfl) [] rfl rfl dX0_childAt_15 17 rfl ?_
      refine s_iconst C 1 rfl dX0_childAt_17 18 rfl ?_
      exact x_iret C hret rfl dX0_childAt_18
    exact Sx_none
theorem hdX0_childAt : ((⟨"MasterTreeLaw", "childAt", "(LMasterTree;III[J)I"⟩ : MethodName)).cls ≠ "java/lang/invoke/MethodHandle" ∧ ((⟨"MasterTreeLaw", "childAt", "(LMasterTree;III[J)I"⟩ : MethodName)).cls ≠ "java/lang/invoke/VarHandle" ∧ (parseMethodDescriptor ((⟨"MasterTreeLaw", "childAt", "(LMasterTree;III[J)I"⟩ : MethodName)).desc).map (fun d => d.parameters.length) = some 5 := ⟨by decide +kernel, by decide +kernel, by decide +kernel⟩
theorem ctX0_childAt {l : Launch} {g : GG} (hst : l.stackTraces = false) (N : Nat) (m : Mm) (v0 : Option Nat) (v1 : Int32) (v2 : Int32) (v3 : Int32) (v4 : Option Nat) : ∀ v m' k n, fX0_childAt (gE_ g) N m v0 v1 v2 v3 v4 = some (v, m', k, n) → Ct_ l g (⟨"MasterTreeLaw", "childAt", "(LMasterTree;III[J)I"⟩ : MethodName) (wsW_ (⟨"MasterTreeLaw", "childAt", "(LMasterTree;III[J)I"⟩ : MethodName) cX0_childAt 6 (Option.some Jvm.ClassFile.FieldType.int) [(0, 12, 15, 19)]) 19 [vr_ v0, vi_ v1, vi_ v2, vi_ v3, vr_ v4] m (en_i v) m' k n :=
  Ct_ofW (by decide +kernel) rfl hst (Nat.le_of_ble_eq_true rfl) rfl (fun E C hret h0 hin => wX0_childAt C hret h0 hin N m v0 v1 v2 v3 v4 0 0)
theorem wX2_isIncomplete_b95 {l : Launch} {g : GG} {E : Me_} (C : Cx_ l g E "MasterTree$Master" cX2_isIncomplete 5 19) (hret : (eT_ E).sig.returnType = (Option.some Jvm.ClassFile.FieldType.boolean)) (h0 : ∀ x ∈ (eC_ E).exceptionTable.toList, False) (hin : (eT_ E).name = "isIncomplete") (N : Nat) {k4 : Mm → Option Nat → Int32 → Int32 → Int32 → Rs (Int32)} (hk4 : ∀ (m : Mm) (v0 : Option Nat) (v1 : Int32) (v2 : Int32) (v3 : Int32) (k n : Nat), Sm_ l g E 5 en_i (k4 m v0 v1 v2 v3) k n 4 [(0, vr_ v0), (1, vi_ v1), (2, vi_ v2), (3, vi_ v3)] [] m) : ∀ (m : Mm) (v0 : Option Nat) (v1 : Int32) (v3 : Int32) (s0 : Int32) (k n : Nat), Sm_ l g E 5 en_i (fX2_isIncomplete_b95 (gE_ g) N k4 m v0 v1 v3 s0) k n 95 [(0, vr_ v0), (1, vi_ v1), (3, vi_ v3)] [vi_ s0] m := by
  intro m v0 v1 v3 s0 k n
  unfold fX2_isIncomplete_b95
  refine s_istore_n C rfl (Nat.le_of_ble_eq_true rfl) [0, 1, 2] rfl rfl dX2_isIncomplete_95 96 rfl ?_
  refine s_iinc C 1 rfl 3 rfl (Nat.le_of_ble_eq_true rfl) [0, 1, 2] rfl rfl dX2_isIncomplete_96 99 rfl ?_
  refine s_goto C (off := -95) 4 dX2_isIncomplete_99 rfl ?_
  refine Sm_sub [2, 3, 1, 0] rfl ?_
  exact hk4 _ _ _ _ _ _ _
theorem wX2_isIncomplete_b90 {l : Launch} {g : GG} {E : Me_} (C : Cx_ l g E "MasterTree$Master" cX2_isIncomplete 5 19) (hret : (eT_ E).sig.returnType = (Option.some Jvm.ClassFile.FieldType.boolean)) (h0 : ∀ x ∈ (eC_ E).exceptionTable.toList, False) (hin : (eT_ E).name = "isIncomplete") (N : Nat) {k4 : Mm → Option Nat → Int32 → Int32 → Int32 → Rs (Int32)} (hk4 : ∀ (m : Mm) (v0 : Option Nat) (v1 : Int32) (v2 : Int32) (v3 : Int32) (k n : Nat), Sm_ l g E 5 en_i (k4 m v0 v1 v2 v3) k n 4 [(0, vr_ v0), (1, vi_ v1), (2, vi_ v2), (3, vi_ v3)] [] m) : ∀ (m : Mm) (v0 : Option Nat) (v1 : Int32) (v3 : Int32) (k n : Nat), Sm_ l g E 5 en_i (fX2_isIncomplete_b90 (gE_ g) N k4 m v0 v1 v3) k n 90 [(0, vr_ v0), (1, vi_ v1), (3, vi_ v3)] [] m := by
  intro m v0 v1 v3 k n
  unfold fX2_isIncomplete_b90
  refine s_iconst C 1 rfl dX2_isIncomplete_90 91 rfl ?_
  refine s_goto C (off := 4) 95 dX2_isIncomplete_91 rfl ?_
  exact wX2_isIncomplete_b95 C hret h0 hin N hk4 _ _ _ _ _ _ _
theorem wX2_isIncomplete_b94 {l : Launch} {g : GG} {E : Me_} (C : Cx_ l g E "MasterTree$Master" cX2_isIncomplete 5 19) (hret : (eT_ E).sig.returnType = (Option.some Jvm.ClassFile.FieldType.boolean)) (h0 : ∀ x ∈ (eC_ E).exceptionTable.toList, False) (hin : (eT_ E).name = "isIncomplete") (N : Nat) {k4 : Mm → Option Nat → Int32 → Int32 → Int32 → Rs (Int32)} (hk4 : ∀ (m : Mm) (v0 : Option Nat) (v1 : Int32) (v2 : Int32) (v3 : Int32) (k n : Nat), Sm_ l g E 5 en_i (k4 m v0 v1 v2 v3) k n 4 [(0, vr_ v0), (1, vi_ v1), (2, vi_ v2), (3, vi_ v3)] [] m) : ∀ (m : Mm) (v0 : Option Nat) (v1 : Int32) (v3 : Int32) (k n : Nat), Sm_ l g E 5 en_i (fX2_isIncomplete_b94 (gE_ g) N k4 m v0 v1 v3) k n 94 [(0, vr_ v0), (1, vi_ v1), (3, vi_ v3)] [] m := by
  intro m v0 v1 v3 k n
  unfold fX2_isIncomplete_b94
  refine s_iconst C 0 rfl dX2_isIncomplete_94 95 rfl ?_
  exact wX2_isIncomplete_b95 C hret h0 hin N hk4 _ _ _ _ _ _ _
theorem wX2_isIncomplete_b61 {l : Launch} {g : GG} {E : Me_} (C : Cx_ l g E "MasterTree$Master" cX2_isIncomplete 5 19) (hret : (eT_ E).sig.returnType = (Option.some Jvm.ClassFile.FieldType.boolean)) (h0 : ∀ x ∈ (eC_ E).exceptionTable.toList, False) (hin : (eT_ E).name = "isIncomplete") (N : Nat) {k4 : Mm → Option Nat → Int32 → Int32 → Int32 → Rs (Int32)} (hk4 : ∀ (m : Mm) (v0 : Option Nat) (v1 : Int32) (v2 : Int32) (v3 : Int32) (k n : Nat), Sm_ l g E 5 en_i (k4 m v0 v1 v2 v3) k n 4 [(0, vr_ v0), (1, vi_ v1), (2, vi_ v2), (3, vi_ v3)] [] m) : ∀ (m : Mm) (v0 : Option Nat) (v1 : Int32) (v2 : Int32) (v3 : Int32) (s0 : Int32) (k n : Nat), Sm_ l g E 5 en_i (fX2_isIncomplete_b61 (gE_ g) N k4 m v0 v1 v2 v3 s0) k n 61 [(0, vr_ v0), (1, vi_ v1), (2, vi_ v2), (3, vi_ v3)] [vi_ s0] m := by
  intro m v0 v1 v2 v3 s0 k n
  unfold fX2_isIncomplete_b61
  refine s_istore C (Nat.le_of_ble_eq_true rfl) [0, 1, 2, 3] rfl rfl dX2_isIncomplete_61 63 rfl ?_
  refine s_iload_n C rfl 3 rfl dX2_isIncomplete_63 64 rfl ?_
  refine s_if_ne C dX2_isIncomplete_64 90 rfl 67 rfl (fun c_ => ?_) (fun c_ => ?_)
  · refine s_iload C 0 rfl dX2_isIncomplete_67 69 rfl ?_
    refine s_if_eq C dX2_isIncomplete_69 94 rfl 72 rfl (fun c_ => ?_) (fun c_ => ?_)
    · refine Sm_sub [1, 2, 4] rfl ?_
      exact wX2_isIncomplete_b94 C hret h0 hin N hk4 _ _ _ _ _ _
    · refine s_aload_n C rfl 1 rfl dX2_isIncomplete_72 73 rfl ?_
      refine x_gr C 1 (RX2, TX2, 12) rfl 6 (Nat.le_of_ble_eq_true rfl) q307 (Or.inl rfl) rfl 2 rfl dX2_isIncomplete_73 76 rfl (fun x1 => ?_)
      refine s_iload_n C rfl 2 rfl dX2_isIncomplete_76 77 rfl ?_
      refine x_ar C 5 (.object "MasterTree$Entry") rfl rfl rfl 205 rfl dX2_isIncomplete_77 78 rfl (fun x2 => ?_)
      refine s_iload_n C rfl 4 rfl dX2_isIncomplete_78 79 rfl ?_
      refine x_ck (fun hb_ hb0_ => ?_)
      refine x_callV (enc := en_r) C 18 1 [vi_ v3] 3 (ctX3_valuesOf C.2.2.2.2.2.2.2.2.1 N m x2 v3) hb_ hb0_ rfl rfl q3012 q1988 q1989 q88 q1990 hdX3_valuesOf (Nat.le_of_ble_eq_true rfl) (Nat.le_of_ble_eq_true rfl) rfl (Nat.le_of_ble_eq_true rfl) dX2_isIncomplete_79 82 rfl rfl hen_r (kk_r (fun x3 m1 k1 n1 => ?_)) (kx_n he_r)
      refine x_ck (fun hb_ hb0_ => ?_)
      refine x_callF (enc := en_i) C 17 0 [] 21 (ctJ38_isEmpty_t21 C.2.2.2.2.2.2.2.2.1 N m1 x3) hb_ hb0_ rfl rfl rfl fw_46 q3014 q2376 q2378 q131 q2380 hx19 (Nat.le_of_ble_eq_true rfl) (Nat.le_of_ble_eq_true rfl) rfl (Nat.le_of_ble_eq_true rfl) dX2_isIncomplete_82 87 rfl rfl hen_i (kk_i (fun x4 m2 k1 n1 => ?_)) (kx_n he_i)
      refine s_if_eq C dX2_isIncomplete_87 94 rfl 90 rfl (fun c_ => ?_) (fun c_ => ?_)
      · refine Sm_sub [1, 2, 4] rfl ?_
        exact wX2_isIncomplete_b94 C hret h0 hin N hk4 _ _ _ _ _ _
      · refine Sm_sub [1, 2, 4] rfl ?_
        exact wX2_isIncomplete_b90 C hret h0 hin N hk4 _ _ _ _ _ _
  · refine Sm_sub [1, 2, 4] rfl ?_
    exact wX2_isIncomplete_b90 C hret h0 hin N hk4 _ _ _ _ _ _
theorem wX2_isIncomplete_b102 {l : Launch} {g : GG} {E : Me_} (C : Cx_ l g E "MasterTree$Master" cX2_isIncomplete 5 19) (hret : (eT_ E).sig.returnType = (Option.some Jvm.ClassFile.FieldType.boolean)) (h0 : ∀ x ∈ (eC_ E).exceptionTable.toList, False) (hin : (eT_ E).name = "isIncomplete") (N : Nat) : ∀ (m : Mm) (v2 : Int32) (k n : Nat), Sm_ l g E 5 en_i (fX2_isIncomplete_b102 (gE_ g) N m v2) k n 102 [(2, vi_ v2)] [] m := by
  intro m v2 k n
  unfold fX2_isIncomplete_b102
  refine s_iload_n C rfl 0 rfl dX2_isIncomplete_102 103 rfl ?_
  exact x_zret C hret rfl dX2_isIncomplete_103
theorem wX2_isIncomplete_b4 {l : Launch} {g : GG} {E : Me_} (C : Cx_ l g E "MasterTree$Master" cX2_isIncomplete 5 19) (hret : (eT_ E).sig.returnType = (Option.some Jvm.ClassFile.FieldType.boolean)) (h0 : ∀ x ∈ (eC_ E).exceptionTable.toList, False) (hin : (eT_ E).name = "isIncomplete") (N : Nat) : ∀ (F : Nat) (m : Mm) (v0 : Option Nat) (v1 : Int32) (v2 : Int32) (v3 : Int32) (k n : Nat), Sm_ l g E 5 en_i (fX2_isIncomplete_b4 (gE_ g) N F m v0 v1 v2 v3) k n 4 [(0, vr_ v0), (1, vi_ v1), (2, vi_ v2), (3, vi_ v3)] [] m := by
  intro F
  induction F with
  | zero => intros; exact Sm_none
  | succ F ih =>
    intro m v0 v1 v2 v3 k n
    unfold fX2_isIncomplete_b4
    refine s_iload_n C rfl 3 rfl dX2_isIncomplete_4 5 rfl ?_
    refine s_aload_n C rfl 0 rfl dX2_isIncomplete_5 6 rfl ?_
    refine x_gr C 1 (RX2, TX2, 12) rfl 1 (Nat.le_of_ble_eq_true rfl) q298 (Or.inl rfl) rfl 2 rfl dX2_isIncomplete_6 9 rfl (fun x1 => ?_)
    refine x_ck (fun hb_ hb0_ => ?_)
    refine x_callF (enc := en_i) C 10 0 [] 13 (ctJ2_size C.2.2.2.2.2.2.2.2.1 N m x1) hb_ hb0_ rfl rfl rfl fw_1 q3008 q483 q485 q84 q487 hx1 (Nat.le_of_ble_eq_true rfl) (Nat.le_of_ble_eq_true rfl) rfl (Nat.le_of_ble_eq_true rfl) dX2_isIncomplete_9 14 rfl rfl hen_i (kk_i (fun x2 m1 k1 n1 => ?_)) (kx_n he_i)
    refine s_icmp_ge C dX2_isIncomplete_14 102 rfl 17 rfl (fun c_ => ?_) (fun c_ => ?_)
    · refine s_iload_n C rfl 1 rfl dX2_isIncomplete_17 18 rfl ?_
      refine s_if_eq C dX2_isIncomplete_18 102 rfl 21 rfl (fun c_ => ?_) (fun c_ => ?_)
      · refine Sm_sub [2] rfl ?_
        exact wX2_isIncomplete_b102 C hret h0 hin N _ _ _ _
      · refine s_aload_n C rfl 0 rfl dX2_isIncomplete_21 22 rfl ?_
        refine x_gr C 1 (RX2, TX2, 12) rfl 2 (Nat.le_of_ble_eq_true rfl) q299 (Or.inl rfl) rfl 2 rfl dX2_isIncomplete_22 25 rfl (fun x3 => ?_)
        refine s_aload_n C rfl 0 rfl dX2_isIncomplete_25 26 rfl ?_
        refine x_gr C 1 (RX2, TX2, 12) rfl 6 (Nat.le_of_ble_eq_true rfl) q307 (Or.inl rfl) rfl 2 rfl dX2_isIncomplete_26 29 rfl (fun x4 => ?_)
        refine s_iload_n C rfl 1 rfl dX2_isIncomplete_29 30 rfl ?_
        refine x_ar C 5 (.object "MasterTree$Entry") rfl rfl rfl 205 rfl dX2_isIncomplete_30 31 rfl (fun x5 => ?_)
        refine x_grN C 2 (RX3, TX3, 9) rfl 3 (Nat.le_of_ble_eq_true rfl) q253 rfl rfl 3 rfl dX2_isIncomplete_31 34 rfl (fun x6 => ?_)
        refine x_giN C 6 (RX7, TX7, 9) rfl 7 (Nat.le_of_ble_eq_true rfl) q1762 rfl rfl 7 rfl dX2_isIncomplete_34 37 rfl (fun x7 => ?_)
        refine x_ck (fun hb_ hb0_ => ?_)
        refine x_callF (enc := en_r) C 12 1 [vi_ x7] 13 (ctJ2_get C.2.2.2.2.2.2.2.2.1 N m1 x3 x7) hb_ hb0_ rfl rfl rfl fw_3 q3010 q891 q893 q84 q895 hx2 (Nat.le_of_ble_eq_true rfl) (Nat.le_of_ble_eq_true rfl) rfl (Nat.le_of_ble_eq_true rfl) dX2_isIncomplete_37 42 rfl rfl hen_r (kk_r (fun x8 m2 k1 n1 => ?_)) (kx_n he_r)
        refine x_cc C "MasterTree$Klass" [6] (fun k hk => by rw [List.mem_singleton.mp hk]; exact ⟨rfl, Or.inr rfl⟩) q3011 dX2_isIncomplete_42 45 rfl ?_
        refine x_giN C 5 (RX6, TX6, 3) rfl 1 (Nat.le_of_ble_eq_true rfl) q916 rfl rfl 6 rfl dX2_isIncomplete_45 48 rfl (fun x9 => ?_)
        refine s_iload_n C rfl 3 rfl dX2_isIncomplete_48 49 rfl ?_
        refine s_ishr C dX2_isIncomplete_49 50 rfl ?_
        refine s_iconst C 1 rfl dX2_isIncomplete_50 51 rfl ?_
        refine s_iand C dX2_isIncomplete_51 52 rfl ?_
        refine s_iconst C 1 rfl dX2_isIncomplete_52 53 rfl ?_
        refine s_icmp_ne C dX2_isIncomplete_53 60 rfl 56 rfl (fun c_ => ?_) (fun c_ => ?_)
        · refine s_iconst C 1 rfl dX2_isIncomplete_56 57 rfl ?_
          refine s_goto C (off := 4) 61 dX2_isIncomplete_57 rfl ?_
          exact wX2_isIncomplete_b61 C hret h0 hin N (fun m v0 v1 v2 v3 k n => ih m v0 v1 v2 v3 k n) _ _ _ _ _ _ _ _
        · refine s_iconst C 0 rfl dX2_isIncomplete_60 61 rfl ?_
          exact wX2_isIncomplete_b61 C hret h0 hin N (fun m v0 v1 v2 v3 k n => ih m v0 v1 v2 v3 k n) _ _ _ _ _ _ _ _
    · refine Sm_sub [2] rfl ?_
      exact wX2_isIncomplete_b102 C hret h0 hin N _ _ _ _
theorem wX2_isIncomplete {l : Launch} {g : GG} {E : Me_} (C : Cx_ l g E "MasterTree$Master" cX2_isIncomplete 5 19) (hret : (eT_ E).sig.returnType = (Option.some Jvm.ClassFile.FieldType.boolean)) (h0 : ∀ x ∈ (eC_ E).exceptionTable.toList, False) (hin : (eT_ E).name = "isIncomplete") (N : Nat) : ∀ (m : Mm) (v0 : Option Nat) (v1 : Int32) (k n : Nat), Sm_ l g E 5 en_i (fX2_isIncomplete (gE_ g) N m v0 v1) k n 0 [(0, vr_ v0), (1, vi_ v1)] [] m := by
  intro m v0 v1 k n
  unfold fX2_isIncomplete
  refine s_iconst C 0 rfl dX2_isIncomplete_0 1 rfl ?_
  refine s_istore_n C rfl (Nat.le_of_ble_eq_true rfl) [0, 1] rfl rfl dX2_isIncomplete_1 2 rfl ?_
  refine s_iconst C 0 rfl dX2_isIncomplete_2 3 rfl ?_
  refine s_istore_n C rfl (Nat.le_of_ble_eq_true rfl) [0, 1, 2] rfl rfl dX2_isIncomplete_3 4 rfl ?_
  refine Sm_sub [2, 3, 1, 0] rfl ?_
  exact wX2_isIncomplete_b4 C hret h0 hin N N _ _ _ _ _ _ _
theorem hdX2_isIncomplete : ((⟨"MasterTree$Master", "isIncomplete", "(I)Z"⟩ : MethodName)).cls ≠ "java/lang/invoke/MethodHandle" ∧ ((⟨"MasterTree$Master", "isIncomplete", "(I)Z"⟩ : MethodName)).cls ≠ "java/lang/invoke/VarHandle" ∧ (parseMethodDescriptor ((⟨"MasterTree$Master", "isIncomplete", "(I)Z"⟩ : MethodName)).desc).map (fun d => d.parameters.length) = some 1 := ⟨by decide +kernel, by decide +kernel, by decide +kernel⟩
theorem ctX2_isIncomplete {l : Launch} {g : GG} (hst : l.stackTraces = false) (N : Nat) (m : Mm) (v0 : Option Nat) (v1 : Int32) : ∀ v m' k n, fX2_isIncomplete (gE_ g) N m v0 v1 = some (v, m', k, n) → Ct_ l g (⟨"MasterTree$Master", "isIncomplete", "(I)Z"⟩ : MethodName) (ws_ (⟨"MasterTree$Master", "isIncomplete", "(I)Z"⟩ : MethodName) cX2_isIncomplete 5 (Option.some Jvm.ClassFile.FieldType.boolean)) 19 [vr_ v0, vi_ v1] m (en_i v) m' k n :=
  Ct_of (by decide +kernel) rfl hst (Nat.le_of_ble_eq_true rfl) rfl (fun E C hret h0 hin => wX2_isIncomplete C hret h0 hin N m v0 v1 0 0)
theorem wX1_conflicts_b100 {l : Launch} {g : GG} {E : Me_} (C : Cx_ l g E "MasterTree" cX1_conflicts 7 20) (hret : (eT_ E).sig.returnType = (Option.some Jvm.ClassFile.FieldType.int)) (h0 : ∀ x ∈ (eC_ E).exceptionTable.toList, False) (hin : (eT_ E).name = "conflicts") (N : Nat) {k21 : Mm → Int32 → Option Nat → Int32 → Int32 → Rs (Int32 ⊕ Nat)} (hk21 : ∀ (m : Mm) (v2 : Int32) (v3 : Option Nat) (v4 : Int32) (v5 : Int32) (k n : Nat), Sm_ l g E 7 (xe_ en_i) (k21 m v2 v3 v4 v5) k n 21 [(2, vi_ v2), (3, vr_ v3), (4, vi_ v4), (5, vi_ v5)] [] m) : ∀ (m : Mm) (v2 : Int32) (v3 : Option Nat) (v5 : Int32) (s0 : Int32) (s1 : Int32) (k n : Nat), Sm_ l g E 7 (xe_ en_i) (fX1_conflicts_b100 (gE_ g) N k21 m v2 v3 v5 s0 s1) k n 100 [(2, vi_ v2), (3, vr_ v3), (5, vi_ v5)] [vi_ s1, vi_ s0] m := by
  intro m v2 v3 v5 s0 s1 k n
  unfold fX1_conflicts_b100
  refine s_iadd C dX1_conflicts_100 101 rfl ?_
  refine s_istore C (Nat.le_of_ble_eq_true rfl) [0, 1, 2] rfl rfl dX1_conflicts_101 103 rfl ?_
  refine s_iinc C 1 rfl 3 rfl (Nat.le_of_ble_eq_true rfl) [0, 1, 2] rfl rfl dX1_conflicts_103 106 rfl ?_
  refine s_goto C (off := -85) 21 dX1_conflicts_106 rfl ?_
  refine Sm_sub [2, 3, 1, 0] rfl ?_
  exact hk21 _ _ _ _ _ _ _
theorem wX1_conflicts_b86 {l : Launch} {g : GG} {E : Me_} (C : Cx_ l g E "MasterTree" cX1_conflicts 7 20) (hret : (eT_ E).sig.returnType = (Option.some Jvm.ClassFile.FieldType.int)) (h0 : ∀ x ∈ (eC_ E).exceptionTable.toList, False) (hin : (eT_ E).name = "conflicts") (N : Nat) {k21 : Mm → Int32 → Option Nat → Int32 → Int32 → Rs (Int32 ⊕ Nat)} (hk21 : ∀ (m : Mm) (v2 : Int32) (v3 : Option Nat) (v4 : Int32) (v5 : Int32) (k n : Nat), Sm_ l g E 7 (xe_ en_i) (k21 m v2 v3 v4 v5) k n 21 [(2, vi_ v2), (3, vr_ v3), (4, vi_ v4), (5, vi_ v5)] [] m) : ∀ (m : Mm) (v2 : Int32) (v3 : Option Nat) (v4 : Int32) (v5 : Int32) (s0 : Int32) (k n : Nat), Sm_ l g E 7 (xe_ en_i) (fX1_conflicts_b86 (gE_ g) N k21 m v2 v3 v4 v5 s0) k n 86 [(2, vi_ v2), (3, vr_ v3), (4, vi_ v4), (5, vi_ v5)] [vi_ s0] m := by
  intro m v2 v3 v4 v5 s0 k n
  unfold fX1_conflicts_b86
  refine s_istore C (Nat.le_of_ble_eq_true rfl) [0, 1, 2, 3] rfl rfl dX1_conflicts_86 88 rfl ?_
  refine s_iload C 3 rfl dX1_conflicts_88 90 rfl ?_
  refine s_iload C 0 rfl dX1_conflicts_90 92 rfl ?_
  refine s_if_eq C dX1_conflicts_92 99 rfl 95 rfl (fun c_ => ?_) (fun c_ => ?_)
  · refine s_iconst C 0 rfl dX1_conflicts_99 100 rfl ?_
    refine Sm_sub [1, 2, 4] rfl ?_
    exact wX1_conflicts_b100 C hret h0 hin N hk21 _ _ _ _ _ _ _ _
  · refine s_iconst C 1 rfl dX1_conflicts_95 96 rfl ?_
    refine s_goto C (off := 4) 100 dX1_conflicts_96 rfl ?_
    refine Sm_sub [1, 2, 4] rfl ?_
    exact wX1_conflicts_b100 C hret h0 hin N hk21 _ _ _ _ _ _ _ _
theorem wX1_conflicts_b81 {l : Launch} {g : GG} {E : Me_} (C : Cx_ l g E "MasterTree" cX1_conflicts 7 20) (hret : (eT_ E).sig.returnType = (Option.some Jvm.ClassFile.FieldType.int)) (h0 : ∀ x ∈ (eC_ E).exceptionTable.toList, False) (hin : (eT_ E).name = "conflicts") (N : Nat) {k21 : Mm → Int32 → Option Nat → Int32 → Int32 → Rs (Int32 ⊕ Nat)} (hk21 : ∀ (m : Mm) (v2 : Int32) (v3 : Option Nat) (v4 : Int32) (v5 : Int32) (k n : Nat), Sm_ l g E 7 (xe_ en_i) (k21 m v2 v3 v4 v5) k n 21 [(2, vi_ v2), (3, vr_ v3), (4, vi_ v4), (5, vi_ v5)] [] m) : ∀ (m : Mm) (v2 : Int32) (v3 : Option Nat) (v4 : Int32) (v5 : Int32) (k n : Nat), Sm_ l g E 7 (xe_ en_i) (fX1_conflicts_b81 (gE_ g) N k21 m v2 v3 v4 v5) k n 81 [(2, vi_ v2), (3, vr_ v3), (4, vi_ v4), (5, vi_ v5)] [] m := by
  intro m v2 v3 v4 v5 k n
  unfold fX1_conflicts_b81
  refine s_iconst C 1 rfl dX1_conflicts_81 82 rfl ?_
  refine s_goto C (off := 4) 86 dX1_conflicts_82 rfl ?_
  exact wX1_conflicts_b86 C hret h0 hin N hk21 _ _ _ _ _ _ _ _
theorem wX1_conflicts_b85 {l : Launch} {g : GG} {E : Me_} (C : Cx_ l g E "MasterTree" cX1_conflicts 7 20) (hret : (eT_ E).sig.returnType = (Option.some Jvm.ClassFile.FieldType.int)) (h0 : ∀ x ∈ (eC_ E).exceptionTable.toList, False) (hin : (eT_ E).name = "conflicts") (N : Nat) {k21 : Mm → Int32 → Option Nat → Int32 → Int32 → Rs (Int32 ⊕ Nat)} (hk21 : ∀ (m : Mm) (v2 : Int32) (v3 : Option Nat) (v4 : Int32) (v5 : Int32) (k n : Nat), Sm_ l g E 7 (xe_ en_i) (k21 m v2 v3 v4 v5) k n 21 [(2, vi_ v2), (3, vr_ v3), (4, vi_ v4), (5, vi_ v5)] [] m) : ∀ (m : Mm) (v2 : Int32) (v3 : Option Nat) (v4 : Int32) (v5 : Int32) (k n : Nat), Sm_ l g E 7 (xe_ en_i) (fX1_conflicts_b85 (gE_ g) N k21 m v2 v3 v4 v5) k n 85 [(2, vi_ v2), (3, vr_ v3), (4, vi_ v4), (5, vi_ v5)] [] m := by
  intro m v2 v3 v4 v5 k n
  unfold fX1_conflicts_b85
  refine s_iconst C 0 rfl dX1_conflicts_85 86 rfl ?_
  exact wX1_conflicts_b86 C hret h0 hin N hk21 _ _ _ _ _ _ _ _
theorem wX1_conflicts_b21 {l : Launch} {g : GG} {E : Me_} (C : Cx_ l g E "MasterTree" cX1_conflicts 7 20) (hret : (eT_ E).sig.returnType = (Option.some Jvm.ClassFile.FieldType.int)) (h0 : ∀ x ∈ (eC_ E).exceptionTable.toList, False) (hin : (eT_ E).name = "conflicts") (N : Nat) : ∀ (F : Nat) (m : Mm) (v2 : Int32) (v3 : Option Nat) (v4 : Int32) (v5 : Int32) (k n : Nat), Sm_ l g E 7 (xe_ en_i) (fX1_conflicts_b21 (gE_ g) N F m v2 v3 v4 v5) k n 21 [(2, vi_ v2), (3, vr_ v3), (4, vi_ v4), (5, vi_ v5)] [] m := by
  intro F
  induction F with
  | zero => intros; exact Sm_none
  | succ F ih =>
    intro m v2 v3 v4 v5 k n
    unfold fX1_conflicts_b21
    refine s_iload C 3 rfl dX1_conflicts_21 23 rfl ?_
    refine s_bipush C 48 rfl dX1_conflicts_23 25 rfl ?_
    refine s_icmp_ge C dX1_conflicts_25 109 rfl 28 rfl (fun c_ => ?_) (fun c_ => ?_)
    · refine s_aload_n C rfl 1 rfl dX1_conflicts_28 29 rfl ?_
      refine s_iload C 3 rfl dX1_conflicts_29 31 rfl ?_
      refine x_ck (fun hb_ hb0_ => ?_)
      refine x_callV (enc := en_i) C 11 1 [vi_ v5] 2 (ctX2_isLive C.2.2.2.2.2.2.2.2.1 N m v3 v5) hb_ hb0_ rfl rfl q971 q972 q973 q85 q974 hdX2_isLive (Nat.le_of_ble_eq_true rfl) (Nat.le_of_ble_eq_true rfl) rfl (Nat.le_of_ble_eq_true rfl) dX1_conflicts_31 34 rfl rfl hen_i (kk_i (fun x1 m1 k1 n1 => ?_)) (kx_n he_i)
      refine s_if_eq C dX1_conflicts_34 85 rfl 37 rfl (fun c_ => ?_) (fun c_ => ?_)
      · exact wX1_conflicts_b85 C hret h0 hin N (fun m v2 v3 v4 v5 k n => ih m v2 v3 v4 v5 k n) _ _ _ _ _ _ _
      · refine s_iload_n C rfl 0 rfl dX1_conflicts_37 38 rfl ?_
        refine s_if_ne C dX1_conflicts_38 53 rfl 41 rfl (fun c_ => ?_) (fun c_ => ?_)
        · refine s_aload_n C rfl 1 rfl dX1_conflicts_41 42 rfl ?_
          refine s_iload C 3 rfl dX1_conflicts_42 44 rfl ?_
          refine x_ck (fun hb_ hb0_ => ?_)
          refine x_callV (enc := en_i) C 14 1 [vi_ v5] 2 (ctX2_clashes C.2.2.2.2.2.2.2.2.1 N m1 v3 v5) hb_ hb0_ rfl rfl q3002 q1672 q1673 q85 q1674 hdX2_clashes (Nat.le_of_ble_eq_true rfl) (Nat.le_of_ble_eq_true rfl) rfl (Nat.le_of_ble_eq_true rfl) dX1_conflicts_44 47 rfl rfl hen_i (kk_i (fun x2 m2 k1 n1 => ?_)) (kx_n he_i)
          refine s_if_eq C dX1_conflicts_47 85 rfl 50 rfl (fun c_ => ?_) (fun c_ => ?_)
          · exact wX1_conflicts_b85 C hret h0 hin N (fun m v2 v3 v4 v5 k n => ih m v2 v3 v4 v5 k n) _ _ _ _ _ _ _
          · refine s_goto C (off := 31) 81 dX1_conflicts_50 rfl ?_
            exact wX1_conflicts_b81 C hret h0 hin N (fun m v2 v3 v4 v5 k n => ih m v2 v3 v4 v5 k n) _ _ _ _ _ _ _
        · refine s_iload_n C rfl 0 rfl dX1_conflicts_53 54 rfl ?_
          refine s_iconst C 1 rfl dX1_conflicts_54 55 rfl ?_
          refine s_icmp_ne C dX1_conflicts_55 72 rfl 58 rfl (fun c_ => ?_) (fun c_ => ?_)
          · refine s_aload_n C rfl 1 rfl dX1_conflicts_58 59 rfl ?_
            refine s_iload C 3 rfl dX1_conflicts_59 61 rfl ?_
            refine x_ck (fun hb_ hb0_ => ?_)
            refine x_callV (enc := en_i) C 12 1 [vi_ v5] 2 (ctX2_shownAt C.2.2.2.2.2.2.2.2.1 N m1 v3 v5) hb_ hb0_ rfl rfl q2460 q1655 q1656 q85 q1657 hdX2_shownAt (Nat.le_of_ble_eq_true rfl) (Nat.le_of_ble_eq_true rfl) rfl (Nat.le_of_ble_eq_true rfl) dX1_conflicts_61 64 rfl rfl hen_i (kk_i (fun x3 m3 k1 n1 => ?_)) (kx_n he_i)
            refine s_bipush C (-2) rfl dX1_conflicts_64 66 rfl ?_
            refine s_icmp_ne C dX1_conflicts_66 85 rfl 69 rfl (fun c_ => ?_) (fun c_ => ?_)
            · refine s_goto C (off := 12) 81 dX1_conflicts_69 rfl ?_
              exact wX1_conflicts_b81 C hret h0 hin N (fun m v2 v3 v4 v5 k n => ih m v2 v3 v4 v5 k n) _ _ _ _ _ _ _
            · exact wX1_conflicts_b85 C hret h0 hin N (fun m v2 v3 v4 v5 k n => ih m v2 v3 v4 v5 k n) _ _ _ _ _ _ _
          · refine s_aload_n C rfl 1 rfl dX1_conflicts_72 73 rfl ?_
            refine s_iload C 3 rfl dX1_conflicts_73 75 rfl ?_
            refine x_ck (fun hb_ hb0_ => ?_)
            refine x_callV (enc := en_i) C 19 1 [vi_ v5] 2 (ctX2_isIncomplete C.2.2.2.2.2.2.2.2.1 N m1 v3 v5) hb_ hb0_ rfl rfl q3003 q3004 q3005 q85 q3006 hdX2_isIncomplete (Nat.le_of_ble_eq_true rfl) (Nat.le_of_ble_eq_true rfl) rfl (Nat.le_of_ble_eq_true rfl) dX1_conflicts_75 78 rfl rfl hen_i (kk_i (fun x4 m4 k1 n1 => ?_)) (kx_n he_i)
            refine s_if_eq C dX1_conflicts_78 85 rfl 81 rfl (fun c_ => ?_) (fun c_ => ?_)
            · exact wX1_conflicts_b85 C hret h0 hin N (fun m v2 v3 v4 v5 k n => ih m v2 v3 v4 v5 k n) _ _ _ _ _ _ _
            · exact wX1_conflicts_b81 C hret h0 hin N (fun m v2 v3 v4 v5 k n => ih m v2 v3 v4 v5 k n) _ _ _ _ _ _ _
    · refine s_iload C 2 rfl dX1_conflicts_109 111 rfl ?_
      exact x_iret C hret rfl dX1_conflicts_111
theorem wX1_conflicts {l : Launch} {g : GG} {E : Me_} (C : Cx_ l g E "MasterTree" cX1_conflicts 7 20) (hret : (eT_ E).sig.returnType = (Option.some Jvm.ClassFile.FieldType.int)) (h0 : ∀ x ∈ (eC_ E).exceptionTable.toList, False) (hin : (eT_ E).name = "conflicts") (N : Nat) : ∀ (m : Mm) (v0 : Option Nat) (v1 : Int32) (v2 : Int32) (k n : Nat), Sm_ l g E 7 (xe_ en_i) (fX1_conflicts (gE_ g) N m v0 v1 v2) k n 0 [(0, vr_ v0), (1, vi_ v1), (2, vi_ v2)] [] m := by
  intro m v0 v1 v2 k n
  unfold fX1_conflicts
  refine s_aload_n C rfl 0 rfl dX1_conflicts_0 1 rfl ?_
  refine s_iload_n C rfl 1 rfl dX1_conflicts_1 2 rfl ?_
  refine x_ck (fun hb_ hb0_ => ?_)
  refine x_callV (enc := (xe_ en_r)) C 17 1 [vi_ v1] 1 (ctX1_at C.2.2.2.2.2.2.2.2.1 N m v0 v1) hb_ hb0_ rfl rfl q934 q936 qs5 q81 q937 hdX1_at (Nat.le_of_ble_eq_true rfl) (Nat.le_of_ble_eq_true rfl) rfl (Nat.le_of_ble_eq_true rfl) dX1_conflicts_2 5 rfl rfl (hen_x hen_r) (kk_x (kk_r (fun x1 m1 k1 n1 => ?_))) (kx_x C h0 he_r)
  refine s_astore_n C rfl (Nat.le_of_ble_eq_true rfl) [2] rfl rfl dX1_conflicts_5 6 rfl ?_
  refine s_iload_n C rfl 1 rfl dX1_conflicts_6 7 rfl ?_
  refine s_iconst C 3 rfl dX1_conflicts_7 8 rfl ?_
  refine x_lsw C 40 40 rfl dX1_conflicts_8 11 rfl ?_
  refine x_callS (enc := (xe_ en_i)) C 16 3 [vi_ v2, vi_ 3, vr_ (some (gE_ g (100 + 40)))] (ctX1_place C.2.2.2.2.2.2.2.2.1 N m1 v2 3 (some (gE_ g (100 + 40)))) q633 q634 q81 q635 hdX1_place (Nat.le_of_ble_eq_true rfl) (Nat.le_of_ble_eq_true rfl) rfl (Nat.le_of_ble_eq_true rfl) dX1_conflicts_11 14 rfl rfl (hen_x hen_i) (kk_x (kk_i (fun x2 m2 k1 n1 => ?_))) (kx_x C h0 he_i)
  refine s_pop C rfl dX1_conflicts_14 15 rfl ?_
  refine s_iconst C 0 rfl dX1_conflicts_15 16 rfl ?_
  refine s_istore C (Nat.le_of_ble_eq_true rfl) [0, 1] rfl rfl dX1_conflicts_16 18 rfl ?_
  refine s_iconst C 1 rfl dX1_conflicts_18 19 rfl ?_
  refine s_istore C (Nat.le_of_ble_eq_true rfl) [0, 1, 2] rfl rfl dX1_conflicts_19 21 rfl ?_
  refine Sm_sub [3, 2, 1, 0] rfl ?_
  exact wX1_conflicts_b21 C hret h0 hin N N _ _ _ _ _ _ _
theorem hdX1_conflicts : ((⟨"MasterTree", "conflicts", "(II)I"⟩ : MethodName)).cls ≠ "java/lang/invoke/MethodHandle" ∧ ((⟨"MasterTree", "conflicts", "(II)I"⟩ : MethodName)).cls ≠ "java/lang/invoke/VarHandle" ∧ (parseMethodDescriptor ((⟨"MasterTree", "conflicts", "(II)I"⟩ : MethodName)).desc).map (fun d => d.parameters.length) = some 2 := ⟨by decide +kernel, by decide +kernel, by decide +kernel⟩
theorem ctX1_conflicts {l : Launch} {g : GG} (hst : l.stackTraces = false) (N : Nat) (m : Mm) (v0 : Option Nat) (v1 : Int32) (v2 : Int32) : ∀ v m' k n, fX1_conflicts (gE_ g) N m v0 v1 v2 = some (v, m', k, n) → Ct_ l g (⟨"MasterTree", "conflicts", "(II)I"⟩ : MethodName) (ws_ (⟨"MasterTree", "conflicts", "(II)I"⟩ : MethodName) cX1_conflicts 7 (Option.some Jvm.ClassFile.FieldType.int)) 20 [vr_ v0, vi_ v1, vi_ v2] m ((xe_ en_i) v) m' k n :=
  Ct_of (by decide +kernel) rfl hst (Nat.le_of_ble_eq_true rfl) rfl (fun E C hret h0 hin => wX1_conflicts C hret h0 hin N m v0 v1 v2 0 0)
theorem wX0_conflicts {l : Launch} {g : GG} {E : Me_} (C : Cx_ l g E "MasterTreeLaw" cX0_conflicts 5 21) (hret : (eT_ E).sig.returnType = (Option.some Jvm.ClassFile.FieldType.int)) (h0 : (eC_ E).exceptionTable.toList = tableOf [(0, 10, 13, 19)]) (hin : (eT_ E).name = "conflicts") (N : Nat) : ∀ (m : Mm) (v0 : Option Nat) (v1 : Int32) (v2 : Int32) (v3 : Option Nat) (k n : Nat), Sm_ l g E 5 en_i (fX0_conflicts (gE_ g) N m v0 v1 v2 v3) k n 0 [(0, vr_ v0), (1, vi_ v1), (2, vi_ v2), (3, vr_ v3)] [] m := by
  intro m v0 v1 v2 v3 k n
  unfold fX0_conflicts
  refine s_aload_n C rfl 3 rfl dX0_conflicts_0 1 rfl ?_
  refine s_iconst C 0 rfl dX0_conflicts_1 2 rfl ?_
  refine s_aload_n C rfl 0 rfl dX0_conflicts_2 3 rfl ?_
  refine s_iload_n C rfl 1 rfl dX0_conflicts_3 4 rfl ?_
  refine s_iload_n C rfl 2 rfl dX0_conflicts_4 5 rfl ?_
  refine x_ck (fun hb_ hb0_ => ?_)
  refine x_callV (enc := (xe_ en_i)) C 20 2 [vi_ v1, vi_ v2] 1 (ctX1_conflicts C.2.2.2.2.2.2.2.2.1 N m v0 v1 v2) hb_ hb0_ rfl rfl q2997 q2998 q2999 q81 q3000 hdX1_conflicts (Nat.le_of_ble_eq_true rfl) (Nat.le_of_ble_eq_true rfl) rfl (Nat.le_of_ble_eq_true rfl) dX0_conflicts_5 8 rfl rfl (hen_x hen_i) (kk_c (kk_i (fun x1 m1 k1 n1 => ?_))) (kx_c he_i (fun i_ m0 k0 n0 => ?_))
  · refine s_i2l C dX0_conflicts_8 9 rfl ?_
    refine x_bj3 C 203 rfl dX0_conflicts_9 10 rfl (fun m2 => ?_)
    refine s_goto C (off := 7) 17 dX0_conflicts_10 rfl ?_
    refine s_iconst C 0 rfl dX0_conflicts_17 18 rfl ?_
    exact x_iret C hret rfl dX0_conflicts_18
  · refine Sx_if ?_ ?_
    · refine Sx_ctch C h0 0 [] ({ startPc := 0, endPc := 10, handlerPc := 13, catchType := 19 } : ExceptionTableEntry) [] rfl (fun z hz => by cases hz) (by decide) (by decide) q600 q638 13 rfl (fun q_ => ?_)
      refine s_astore C (Nat.le_of_ble_eq_true rfl) [] rfl rfl dX0_conflicts_13 15 rfl ?_
      refine s_iconst C 1 rfl dX0_conflicts_15 16 rfl ?_
      exact x_iret C hret rfl dX0_conflicts_16
    exact Sx_none
theorem hdX0_conflicts : ((⟨"MasterTreeLaw", "conflicts", "(LMasterTree;II[J)I"⟩ : MethodName)).cls ≠ "java/lang/invoke/MethodHandle" ∧ ((⟨"MasterTreeLaw", "conflicts", "(LMasterTree;II[J)I"⟩ : MethodName)).cls ≠ "java/lang/invoke/VarHandle" ∧ (parseMethodDescriptor ((⟨"MasterTreeLaw", "conflicts", "(LMasterTree;II[J)I"⟩ : MethodName)).desc).map (fun d => d.parameters.length) = some 4 := ⟨by decide +kernel, by decide +kernel, by decide +kernel⟩
theorem ctX0_conflicts {l : Launch} {g : GG} (hst : l.stackTraces = false) (N : Nat) (m : Mm) (v0 : Option Nat) (v1 : Int32) (v2 : Int32) (v3 : Option Nat) : ∀ v m' k n, fX0_conflicts (gE_ g) N m v0 v1 v2 v3 = some (v, m', k, n) → Ct_ l g (⟨"MasterTreeLaw", "conflicts", "(LMasterTree;II[J)I"⟩ : MethodName) (wsW_ (⟨"MasterTreeLaw", "conflicts", "(LMasterTree;II[J)I"⟩ : MethodName) cX0_conflicts 5 (Option.some Jvm.ClassFile.FieldType.int) [(0, 10, 13, 19)]) 21 [vr_ v0, vi_ v1, vi_ v2, vr_ v3] m (en_i v) m' k n :=
  Ct_ofW (by decide +kernel) rfl hst (Nat.le_of_ble_eq_true rfl) rfl (fun E C hret h0 hin => wX0_conflicts C hret h0 hin N m v0 v1 v2 v3 0 0)
theorem wX1_knows {l : Launch} {g : GG} {E : Me_} (C : Cx_ l g E "MasterTree" cX1_knows 4 18) (hret : (eT_ E).sig.returnType = (Option.some Jvm.ClassFile.FieldType.int)) (h0 : ∀ x ∈ (eC_ E).exceptionTable.toList, False) (hin : (eT_ E).name = "knows") (N : Nat) : ∀ (m : Mm) (v0 : Option Nat) (v1 : Int32) (v2 : Int32) (k n : Nat), Sm_ l g E 4 (xe_ en_i) (fX1_knows (gE_ g) N m v0 v1 v2) k n 0 [(0, vr_ v0), (1, vi_ v1), (2, vi_ v2)] [] m := by
  intro m v0 v1 v2 k n
  unfold fX1_knows
  refine s_aload_n C rfl 0 rfl dX1_knows_0 1 rfl ?_
  refine s_iload_n C rfl 1 rfl dX1_knows_1 2 rfl ?_
  refine x_ck (fun hb_ hb0_ => ?_)
  refine x_callV (enc := (xe_ en_r)) C 17 1 [vi_ v1] 1 (ctX1_at C.2.2.2.2.2.2.2.2.1 N m v0 v1) hb_ hb0_ rfl rfl q934 q936 qs5 q81 q937 hdX1_at (Nat.le_of_ble_eq_true rfl) (Nat.le_of_ble_eq_true rfl) rfl (Nat.le_of_ble_eq_true rfl) dX1_knows_2 5 rfl rfl (hen_x hen_r) (kk_x (kk_r (fun x1 m1 k1 n1 => ?_))) (kx_x C h0 he_r)
  refine s_astore_n C rfl (Nat.le_of_ble_eq_true rfl) [0, 1, 2] rfl rfl dX1_knows_5 6 rfl ?_
  refine s_aload_n C rfl 1 rfl dX1_knows_6 7 rfl ?_
  refine s_iload_n C rfl 3 rfl dX1_knows_7 8 rfl ?_
  refine x_ck (fun hb_ hb0_ => ?_)
  refine x_callV (enc := (xe_ en_r)) C 17 1 [vi_ v2] 1 (ctX1_at C.2.2.2.2.2.2.2.2.1 N m1 v0 v2) hb_ hb0_ rfl rfl q934 q936 qs5 q81 q937 hdX1_at (Nat.le_of_ble_eq_true rfl) (Nat.le_of_ble_eq_true rfl) rfl (Nat.le_of_ble_eq_true rfl) dX1_knows_8 11 rfl rfl (hen_x hen_r) (kk_x (kk_r (fun x2 m2 k1 n1 => ?_))) (kx_x C h0 he_r)
  refine s_pop C rfl dX1_knows_11 12 rfl ?_
  refine s_aload_n C rfl 0 rfl dX1_knows_12 13 rfl ?_
  refine x_grN C 1 (RX2, TX2, 12) rfl 8 (Nat.le_of_ble_eq_true rfl) q313 rfl rfl 2 rfl dX1_knows_13 16 rfl (fun x3 => ?_)
  refine s_iload_n C rfl 2 rfl dX1_knows_16 17 rfl ?_
  refine x_ar C 6 (.array .int) rfl rfl rfl 206 rfl dX1_knows_17 18 rfl (fun x4 => ?_)
  refine s_iload_n C rfl 3 rfl dX1_knows_18 19 rfl ?_
  refine x_ai0 C 200 rfl dX1_knows_19 20 rfl (fun x5 => ?_)
  exact x_iret C hret rfl dX1_knows_20
theorem hdX1_knows : ((⟨"MasterTree", "knows", "(II)I"⟩ : MethodName)).cls ≠ "java/lang/invoke/MethodHandle" ∧ ((⟨"MasterTree", "knows", "(II)I"⟩ : MethodName)).cls ≠ "java/lang/invoke/VarHandle" ∧ (parseMethodDescriptor ((⟨"MasterTree", "knows", "(II)I"⟩ : MethodName)).desc).map (fun d => d.parameters.length) = some 2 := ⟨by decide +kernel, by decide +kernel, by decide +kernel⟩
theorem ctX1_knows {l : Launch} {g : GG} (hst : l.stackTraces = false) (N : Nat) (m : Mm) (v0 : Option Nat) (v1 : Int32) (v2 : Int32) : ∀ v m' k n, fX1_knows (gE_ g) N m v0 v1 v2 = some (v, m', k, n) → Ct_ l g (⟨"MasterTree", "knows", "(II)I"⟩ : MethodName) (ws_ (⟨"MasterTree", "knows", "(II)I"⟩ : MethodName) cX1_knows 4 (Option.some Jvm.ClassFile.FieldType.int)) 18 [vr_ v0, vi_ v1, vi_ v2] m ((xe_ en_i) v) m' k n :=
  Ct_of (by decide +kernel) rfl hst (Nat.le_of_ble_eq_true rfl) rfl (fun E C hret h0 hin => wX1_knows C hret h0 hin N m v0 v1 v2 0 0)
theorem wX0_knows {l : Launch} {g : GG} {E : Me_} (C : Cx_ l g E "MasterTreeLaw" cX0_knows 5 19) (hret : (eT_ E).sig.returnType = (Option.some Jvm.ClassFile.FieldType.int)) (h0 : (eC_ E).exceptionTable.toList = tableOf [(0, 10, 13, 19)]) (hin : (eT_ E).name = "knows") (N : Nat) : ∀ (m : Mm) (v0 : Option Nat) (v1 : Int32) (v2 : Int32) (v3 : Option Nat) (k n : Nat), Sm_ l g E 5 en_i (fX0_knows (gE_ g) N m v0 v1 v2 v3) k n 0 [(0, vr_ v0), (1, vi_ v1), (2, vi_ v2), (3, vr_ v3)] [] m := by
  intro m v0 v1 v2 v3 k n
  unfold fX0_knows
  refine s_aload_n C rfl 3 rfl dX0_knows_0 1 rfl ?_
  refine s_iconst C 0 rfl dX0_knows_1 2 rfl ?_
  refine s_aload_n C rfl 0 rfl dX0_knows_2 3 rfl ?_
  refine s_iload_n C rfl 1 rfl dX0_knows_3 4 rfl ?_
  refine s_iload_n C rfl 2 rfl dX0_knows_4 5 rfl ?_
  refine x_ck (fun hb_ hb0_ => ?_)
  refine x_callV (enc := (xe_ en_i)) C 18 2 [vi_ v1, vi_ v2] 1 (ctX1_knows C.2.2.2.2.2.2.2.2.1 N m v0 v1 v2) hb_ hb0_ rfl rfl q3018 q3019 q3020 q81 q3021 hdX1_knows (Nat.le_of_ble_eq_true rfl) (Nat.le_of_ble_eq_true rfl) rfl (Nat.le_of_ble_eq_true rfl) dX0_knows_5 8 rfl rfl (hen_x hen_i) (kk_c (kk_i (fun x1 m1 k1 n1 => ?_))) (kx_c he_i (fun i_ m0 k0 n0 => ?_))
  · refine s_i2l C dX0_knows_8 9 rfl ?_
    refine x_bj3 C 203 rfl dX0_knows_9 10 rfl (fun m2 => ?_)
    refine s_goto C (off := 7) 17 dX0_knows_10 rfl ?_
    refine s_iconst C 0 rfl dX0_knows_17 18 rfl ?_
    exact x_iret C hret rfl dX0_knows_18
  · refine Sx_if ?_ ?_
    · refine Sx_ctch C h0 0 [] ({ startPc := 0, endPc := 10, handlerPc := 13, catchType := 19 } : ExceptionTableEntry) [] rfl (fun z hz => by cases hz) (by decide) (by decide) q600 q638 13 rfl (fun q_ => ?_)
      refine s_astore C (Nat.le_of_ble_eq_true rfl) [] rfl rfl dX0_knows_13 15 rfl ?_
      refine s_iconst C 1 rfl dX0_knows_15 16 rfl ?_
      exact x_iret C hret rfl dX0_knows_16
    exact Sx_none
theorem hdX0_knows : ((⟨"MasterTreeLaw", "knows", "(LMasterTree;II[J)I"⟩ : MethodName)).cls ≠ "java/lang/invoke/MethodHandle" ∧ ((⟨"MasterTreeLaw", "knows", "(LMasterTree;II[J)I"⟩ : MethodName)).cls ≠ "java/lang/invoke/VarHandle" ∧ (parseMethodDescriptor ((⟨"MasterTreeLaw", "knows", "(LMasterTree;II[J)I"⟩ : MethodName)).desc).map (fun d => d.parameters.length) = some 4 := ⟨by decide +kernel, by decide +kernel, by decide +kernel⟩
theorem ctX0_knows {l : Launch} {g : GG} (hst : l.stackTraces = false) (N : Nat) (m : Mm) (v0 : Option Nat) (v1 : Int32) (v2 : Int32) (v3 : Option Nat) : ∀ v m' k n, fX0_knows (gE_ g) N m v0 v1 v2 v3 = some (v, m', k, n) → Ct_ l g (⟨"MasterTreeLaw", "knows", "(LMasterTree;II[J)I"⟩ : MethodName) (wsW_ (⟨"MasterTreeLaw", "knows", "(LMasterTree;II[J)I"⟩ : MethodName) cX0_knows 5 (Option.some Jvm.ClassFile.FieldType.int) [(0, 10, 13, 19)]) 19 [vr_ v0, vi_ v1, vi_ v2, vr_ v3] m (en_i v) m' k n :=
  Ct_ofW (by decide +kernel) rfl hst (Nat.le_of_ble_eq_true rfl) rfl (fun E C hret h0 hin => wX0_knows C hret h0 hin N m v0 v1 v2 v3 0 0)
theorem wX1_marks {l : Launch} {g : GG} {E : Me_} (C : Cx_ l g E "MasterTree" cX1_marks 2 18) (hret : (eT_ E).sig.returnType = (Option.some Jvm.ClassFile.FieldType.int)) (h0 : ∀ x ∈ (eC_ E).exceptionTable.toList, False) (hin : (eT_ E).name = "marks") (N : Nat) : ∀ (m : Mm) (v0 : Option Nat) (v1 : Int32) (k n : Nat), Sm_ l g E 2 (xe_ en_i) (fX1_marks (gE_ g) N m v0 v1) k n 0 [(0, vr_ v0), (1, vi_ v1)] [] m := by
  intro m v0 v1 k n
  unfold fX1_marks
  refine s_aload_n C rfl 0 rfl dX1_marks_0 1 rfl ?_
  refine s_iload_n C rfl 1 rfl dX1_marks_1 2 rfl ?_
  refine x_ck (fun hb_ hb0_ => ?_)
  refine x_callV (enc := (xe_ en_r)) C 17 1 [vi_ v1] 1 (ctX1_at C.2.2.2.2.2.2.2.2.1 N m v0 v1) hb_ hb0_ rfl rfl q934 q936 qs5 q81 q937 hdX1_at (Nat.le_of_ble_eq_true rfl) (Nat.le_of_ble_eq_true rfl) rfl (Nat.le_of_ble_eq_true rfl) dX1_marks_2 5 rfl rfl (hen_x hen_r) (kk_x (kk_r (fun x1 m1 k1 n1 => ?_))) (kx_x C h0 he_r)
  refine s_iconst C 0 rfl dX1_marks_5 6 rfl ?_
  refine x_ck (fun hb_ hb0_ => ?_)
  refine x_callV (enc := en_j) C 13 1 [vi_ 0] 2 (ctX2_marks C.2.2.2.2.2.2.2.2.1 N m1 x1 0) hb_ hb0_ rfl rfl q2487 q2488 q2489 q85 q2490 hdX2_marks (Nat.le_of_ble_eq_true rfl) (Nat.le_of_ble_eq_true rfl) rfl (Nat.le_of_ble_eq_true rfl) dX1_marks_6 9 rfl rfl hen_j (kk_j (fun x2 m2 k1 n1 => ?_)) (kx_n he_j)
  refine x_callS (enc := en_i) C 10 1 [vj_ x2] (ctJ28_bitCount C.2.2.2.2.2.2.2.2.1 N m2 x2) q2499 q2500 q116 q2501 hdJ28_bitCount (Nat.le_of_ble_eq_true rfl) (Nat.le_of_ble_eq_true rfl) rfl (Nat.le_of_ble_eq_true rfl) dX1_marks_9 12 rfl rfl hen_i (kk_i (fun x3 m3 k1 n1 => ?_)) (kx_n he_i)
  exact x_iret C hret rfl dX1_marks_12
theorem hdX1_marks : ((⟨"MasterTree", "marks", "(I)I"⟩ : MethodName)).cls ≠ "java/lang/invoke/MethodHandle" ∧ ((⟨"MasterTree", "marks", "(I)I"⟩ : MethodName)).cls ≠ "java/lang/invoke/VarHandle" ∧ (parseMethodDescriptor ((⟨"MasterTree", "marks", "(I)I"⟩ : MethodName)).desc).map (fun d => d.parameters.length) = some 1 := ⟨by decide +kernel, by decide +kernel, by decide +kernel⟩
theorem ctX1_marks {l : Launch} {g : GG} (hst : l.stackTraces = false) (N : Nat) (m : Mm) (v0 : Option Nat) (v1 : Int32) : ∀ v m' k n, fX1_marks (gE_ g) N m v0 v1 = some (v, m', k, n) → Ct_ l g (⟨"MasterTree", "marks", "(I)I"⟩ : MethodName) (ws_ (⟨"MasterTree", "marks", "(I)I"⟩ : MethodName) cX1_marks 2 (Option.some Jvm.ClassFile.FieldType.int)) 18 [vr_ v0, vi_ v1] m ((xe_ en_i) v) m' k n :=
  Ct_of (by decide +kernel) rfl hst (Nat.le_of_ble_eq_true rfl) rfl (fun E C hret h0 hin => wX1_marks C hret h0 hin N m v0 v1 0 0)
theorem wX0_marks {l : Launch} {g : GG} {E : Me_} (C : Cx_ l g E "MasterTreeLaw" cX0_marks 4 19) (hret : (eT_ E).sig.returnType = (Option.some Jvm.ClassFile.FieldType.int)) (h0 : (eC_ E).exceptionTable.toList = tableOf [(0, 9, 12, 19)]) (hin : (eT_ E).name = "marks") (N : Nat) : ∀ (m : Mm) (v0 : Option Nat) (v1 : Int32) (v2 : Option Nat) (k n : Nat), Sm_ l g E 4 en_i (fX0_marks (gE_ g) N m v0 v1 v2) k n 0 [(0, vr_ v0), (1, vi_ v1), (2, vr_ v2)] [] m := by
  intro m v0 v1 v2 k n
  unfold fX0_marks
  refine s_aload_n C rfl 2 rfl dX0_marks_0 1 rfl ?_
  refine s_iconst C 0 rfl dX0_marks_1 2 rfl ?_
  refine s_aload_n C rfl 0 rfl dX0_marks_2 3 rfl ?_
  refine s_iload_n C rfl 1 rfl dX0_marks_3 4 rfl ?_
  refine x_ck (fun hb_ hb0_ => ?_)
  refine x_callV (enc := (xe_ en_i)) C 18 1 [vi_ v1] 1 (ctX1_marks C.2.2.2.2.2.2.2.2.1 N m v0 v1) hb_ hb0_ rfl rfl q3025 q3026 q3027 q81 q3028 hdX1_marks (Nat.le_of_ble_eq_true rfl) (Nat.le_of_ble_eq_true rfl) rfl (Nat.le_of_ble_eq_true rfl) dX0_marks_4 7 rfl rfl (hen_x hen_i) (kk_c (kk_i (fun x1 m1 k1 n1 => ?_))) (kx_c he_i (fun i_ m0 k0 n0 => ?_))
  · refine s_i2l C dX0_marks_7 8 rfl ?_
    refine x_bj3 C 203 rfl dX0_marks_8 9 rfl (fun m2 => ?_)
    refine s_goto C (off := 6) 15 dX0_marks_9 rfl ?_
    refine s_iconst C 0 rfl dX0_marks_15 16 rfl ?_
    exact x_iret C hret rfl dX0_marks_16
  · refine Sx_if ?_ ?_
    · refine Sx_ctch C h0 0 [] ({ startPc := 0, endPc := 9, handlerPc := 12, catchType := 19 } : ExceptionTableEntry) [] rfl (fun z hz => by cases hz) (by decide) (by decide) q600 q638 12 rfl (fun q_ => ?_)
      refine s_astore_n C rfl (Nat.le_of_ble_eq_true rfl) [] rfl rfl dX0_marks_12 13 rfl ?_
      refine s_iconst C 1 rfl dX0_marks_13 14 rfl ?_
      exact x_iret C hret rfl dX0_marks_14
    exact Sx_none
theorem hdX0_marks : ((⟨"MasterTreeLaw", "marks", "(LMasterTree;I[J)I"⟩ : MethodName)).cls ≠ "java/lang/invoke/MethodHandle" ∧ ((⟨"MasterTreeLaw", "marks", "(LMasterTree;I[J)I"⟩ : MethodName)).cls ≠ "java/lang/invoke/VarHandle" ∧ (parseMethodDescriptor ((⟨"MasterTreeLaw", "marks", "(LMasterTree;I[J)I"⟩ : MethodName)).desc).map (fun d => d.parameters.length) = some 3 := ⟨by decide +kernel, by decide +kernel, by decide +kernel⟩
theorem ctX0_marks {l : Launch} {g : GG} (hst : l.stackTraces = false) (N : Nat) (m : Mm) (v0 : Option Nat) (v1 : Int32) (v2 : Option Nat) : ∀ v m' k n, fX0_marks (gE_ g) N m v0 v1 v2 = some (v, m', k, n) → Ct_ l g (⟨"MasterTreeLaw", "marks", "(LMasterTree;I[J)I"⟩ : MethodName) (wsW_ (⟨"MasterTreeLaw", "marks", "(LMasterTree;I[J)I"⟩ : MethodName) cX0_marks 4 (Option.some Jvm.ClassFile.FieldType.int) [(0, 9, 12, 19)]) 19 [vr_ v0, vi_ v1, vr_ v2] m (en_i v) m' k n :=
  Ct_ofW (by decide +kernel) rfl hst (Nat.le_of_ble_eq_true rfl) rfl (fun E C hret h0 hin => wX0_marks C hret h0 hin N m v0 v1 v2 0 0)
theorem wJ21_equals_b26 {l : Launch} {g : GG} {E : Me_} (C : Cx_ l g E "java/lang/Integer" cJ21_equals 2 11) (hret : (eT_ E).sig.returnType = (Option.some Jvm.ClassFile.FieldType.boolean)) (h0 : ∀ x ∈ (eC_ E).exceptionTable.toList, False) (hin : (eT_ E).name = "equals") (N : Nat) : ∀ (m : Mm) (s0 : Int32) (k n : Nat), Sm_ l g E 2 en_i (fJ21_equals_b26 (gE_ g) N m s0) k n 26 [] [vi_ s0] m := by
  intro m s0 k n
  unfold fJ21_equals_b26
  exact x_zret C hret rfl dJ21_equals_26
theorem wJ21_equals {l : Launch} {g : GG} {E : Me_} (C : Cx_ l g E "java/lang/Integer" cJ21_equals 2 11) (hret : (eT_ E).sig.returnType = (Option.some Jvm.ClassFile.FieldType.boolean)) (h0 : ∀ x ∈ (eC_ E).exceptionTable.toList, False) (hin : (eT_ E).name = "equals") (N : Nat) : ∀ (m : Mm) (v0 : Option Nat) (v1 : Option Nat) (k n : Nat), Sm_ l g E 2 en_i (fJ21_equals (gE_ g) N m v0 v1) k n 0 [(0, vr_ v0), (1, vr_ v1)] [] m := by
  intro m v0 v1 k n
  unfold fJ21_equals
  refine s_aload_n C rfl 1 rfl dJ21_equals_0 1 rfl ?_
  refine x_io C "java/lang/Integer" [27] (fun k hk => by rw [List.mem_singleton.mp hk]; exact ⟨rfl, Or.inr rfl⟩) q1125 dJ21_equals_1 4 rfl (fun x1 => ?_)
  refine s_if_eq C dJ21_equals_4 27 rfl 7 rfl (fun c_ => ?_) (fun c_ => ?_)
  · refine s_iconst C 0 rfl dJ21_equals_27 28 rfl ?_
    exact x_zret0 C hret (by decide) rfl dJ21_equals_28
  · refine s_aload_n C rfl 0 rfl dJ21_equals_7 8 rfl ?_
    refine x_gi C 26 (RJ21, TJ21, 1) rfl 0 (Nat.le_of_ble_eq_true rfl) q1634 (Or.inl rfl) rfl 27 rfl dJ21_equals_8 11 rfl (fun x2 => ?_)
    refine s_aload_n C rfl 1 rfl dJ21_equals_11 12 rfl ?_
    refine x_cc C "java/lang/Integer" [27] (fun k hk => by rw [List.mem_singleton.mp hk]; exact ⟨rfl, Or.inr rfl⟩) q1125 dJ21_equals_12 15 rfl ?_
    refine x_ck (fun hb_ hb0_ => ?_)
    refine x_callV (enc := en_i) C 10 0 [] 27 (ctJ21_intValue C.2.2.2.2.2.2.2.2.1 N m v1) hb_ hb0_ rfl rfl q3129 q1585 q1586 q108 q1587 hdJ21_intValue (Nat.le_of_ble_eq_true rfl) (Nat.le_of_ble_eq_true rfl) rfl (Nat.le_of_ble_eq_true rfl) dJ21_equals_15 18 rfl rfl hen_i (kk_i (fun x3 m1 k1 n1 => ?_)) (kx_n he_i)
    refine s_icmp_ne C dJ21_equals_18 25 rfl 21 rfl (fun c_ => ?_) (fun c_ => ?_)
    · refine s_iconst C 1 rfl dJ21_equals_21 22 rfl ?_
      refine s_goto C (off := 4) 26 dJ21_equals_22 rfl ?_
      refine Sm_sub [] rfl ?_
      exact wJ21_equals_b26 C hret h0 hin N _ _ _ _
    · refine s_iconst C 0 rfl dJ21_equals_25 26 rfl ?_
      refine Sm_sub [] rfl ?_
      exact wJ21_equals_b26 C hret h0 hin N _ _ _ _
theorem hdJ21_equals : ((⟨"java/lang/Integer", "equals", "(Ljava/lang/Object;)Z"⟩ : MethodName)).cls ≠ "java/lang/invoke/MethodHandle" ∧ ((⟨"java/lang/Integer", "equals", "(Ljava/lang/Object;)Z"⟩ : MethodName)).cls ≠ "java/lang/invoke/VarHandle" ∧ (parseMethodDescriptor ((⟨"java/lang/Integer", "equals", "(Ljava/lang/Object;)Z"⟩ : MethodName)).desc).map (fun d => d.parameters.length) = some 1 := ⟨by decide +kernel, by decide +kernel, by decide +kernel⟩
theorem ctJ21_equals {l : Launch} {g : GG} (hst : l.stackTraces = false) (N : Nat) (m : Mm) (v0 : Option Nat) (v1 : Option Nat) : ∀ v m' k n, fJ21_equals (gE_ g) N m v0 v1 = some (v, m', k, n) → Ct_ l g (⟨"java/lang/Integer", "equals", "(Ljava/lang/Object;)Z"⟩ : MethodName) (ws_ (⟨"java/lang/Integer", "equals", "(Ljava/lang/Object;)Z"⟩ : MethodName) cJ21_equals 2 (Option.some Jvm.ClassFile.FieldType.boolean)) 11 [vr_ v0, vr_ v1] m (en_i v) m' k n :=
  Ct_of (by decide +kernel) rfl hst (Nat.le_of_ble_eq_true rfl) rfl (fun E C hret h0 hin => wJ21_equals C hret h0 hin N m v0 v1 0 0)
theorem wJ3_equals_t15_b114 {l : Launch} {g : GG} {E : Me_} (C : Cx_ l g E "java/util/AbstractMap" cJ3_equals 7 15) (hret : (eT_ E).sig.returnType = (Option.some Jvm.ClassFile.FieldType.boolean)) (h0 : True) (hin : (eT_ E).name = "equals") (N : Nat) : ∀ (m : Mm) (k n : Nat), Sm_ l g E 7 en_i (fJ3_equals_t15_b114 (gE_ g) N m) k n 114 [] [] m := by
  intro m k n
  unfold fJ3_equals_t15_b114
  refine s_iconst C 0 rfl dJ3_equals_114 115 rfl ?_
  exact x_zret0 C hret (by decide) rfl dJ3_equals_115
theorem wJ3_equals_t15_b134 {l : Launch} {g : GG} {E : Me_} (C : Cx_ l g E "java/util/AbstractMap" cJ3_equals 7 15) (hret : (eT_ E).sig.returnType = (Option.some Jvm.ClassFile.FieldType.boolean)) (h0 : True) (hin : (eT_ E).name = "equals") (N : Nat) {k49 : Mm → Option Nat → Option Nat → Rs (Int32)} (hk49 : ∀ (m : Mm) (v2 : Option Nat) (v3 : Option Nat) (k n : Nat), Sm_ l g E 7 en_i (k49 m v2 v3) k n 49 [(2, vr_ v2), (3, vr_ v3)] [] m) : ∀ (m : Mm) (v2 : Option Nat) (v3 : Option Nat) (k n : Nat), Sm_ l g E 7 en_i (fJ3_equals_t15_b134 (gE_ g) N k49 m v2 v3) k n 134 [(2, vr_ v2), (3, vr_ v3)] [] m := by
  intro m v2 v3 k n
  unfold fJ3_equals_t15_b134
  refine s_goto C (off := -85) 49 dJ3_equals_134 rfl ?_
  exact hk49 _ _ _ _ _
theorem wJ3_equals_t15_b49 {l : Launch} {g : GG} {E : Me_} (C : Cx_ l g E "java/util/AbstractMap" cJ3_equals 7 15) (hret : (eT_ E).sig.returnType = (Option.some Jvm.ClassFile.FieldType.boolean)) (h0 : True) (hin : (eT_ E).name = "equals") (N : Nat) : ∀ (F : Nat) (m : Mm) (v2 : Option Nat) (v3 : Option Nat) (k n : Nat), Sm_ l g E 7 en_i (fJ3_equals_t15_b49 (gE_ g) N F m v2 v3) k n 49 [(2, vr_ v2), (3, vr_ v3)] [] m := by
  intro F
  induction F with
  | zero => intros; exact Sm_none
  | succ F ih =>
    intro m v2 v3 k n
    unfold fJ3_equals_t15_b49
    refine s_aload_n C rfl 1 rfl dJ3_equals_49 50 rfl ?_
    refine x_ck (fun hb_ hb0_ => ?_)
    refine x_callF (enc := en_i) C 10 0 [] 20 (ctJ30_hasNext_t20 C.2.2.2.2.2.2.2.2.1 N m v3) hb_ hb0_ rfl rfl rfl fw_14 q3051 q1464 q1466 q119 q1468 hx3 (Nat.le_of_ble_eq_true rfl) (Nat.le_of_ble_eq_true rfl) rfl (Nat.le_of_ble_eq_true rfl) dJ3_equals_50 55 rfl rfl hen_i (kk_i (fun x1 m1 k1 n1 => ?_)) (kx_n he_i)
    refine s_if_eq C dJ3_equals_55 137 rfl 58 rfl (fun c_ => ?_) (fun c_ => ?_)
    · refine s_goto C (off := 6) 143 dJ3_equals_137 rfl ?_
      refine s_iconst C 1 rfl dJ3_equals_143 144 rfl ?_
      exact x_zret0 C hret (by decide) rfl dJ3_equals_144
    · refine s_aload_n C rfl 1 rfl dJ3_equals_58 59 rfl ?_
      refine x_ck (fun hb_ hb0_ => ?_)
      refine x_callF (enc := en_r) C 13 0 [] 20 (ctJ31_next C.2.2.2.2.2.2.2.2.1 N m1 v3) hb_ hb0_ rfl rfl rfl fw_20 q3053 q1504 q1506 q120 q1508 hx5 (Nat.le_of_ble_eq_true rfl) (Nat.le_of_ble_eq_true rfl) rfl (Nat.le_of_ble_eq_true rfl) dJ3_equals_59 64 rfl rfl hen_r (kk_r (fun x2 m2 k1 n1 => ?_)) (kx_n he_r)
      refine x_cc C "java/util/Map$Entry" [16] (fun k hk => by rw [List.mem_singleton.mp hk]; exact ⟨rfl, Or.inl q1567⟩) q3054 dJ3_equals_64 67 rfl ?_
      refine s_astore C (Nat.le_of_ble_eq_true rfl) [0, 1] rfl rfl dJ3_equals_67 69 rfl ?_
      refine s_aload C 0 rfl dJ3_equals_69 71 rfl ?_
      refine x_ck (fun hb_ hb0_ => ?_)
      refine x_callF (enc := en_r) C 10 0 [] 16 (ctJ37_getKey C.2.2.2.2.2.2.2.2.1 N m2 x2) hb_ hb0_ rfl rfl rfl fw_25 q3056 q1578 q1580 q130 q1582 hx14 (Nat.le_of_ble_eq_true rfl) (Nat.le_of_ble_eq_true rfl) rfl (Nat.le_of_ble_eq_true rfl) dJ3_equals_71 76 rfl rfl hen_r (kk_r (fun x3 m3 k1 n1 => ?_)) (kx_n he_r)
      refine s_astore C (Nat.le_of_ble_eq_true rfl) [0, 1, 2] rfl rfl dJ3_equals_76 78 rfl ?_
      refine s_aload C 1 rfl dJ3_equals_78 80 rfl ?_
      refine x_ck (fun hb_ hb0_ => ?_)
      refine x_callF (enc := en_r) C 10 0 [] 16 (ctJ37_getValue C.2.2.2.2.2.2.2.2.1 N m3 x2) hb_ hb0_ rfl rfl rfl fw_24 q3058 q1568 q1570 q130 q1572 hx13 (Nat.le_of_ble_eq_true rfl) (Nat.le_of_ble_eq_true rfl) rfl (Nat.le_of_ble_eq_true rfl) dJ3_equals_80 85 rfl rfl hen_r (kk_r (fun x4 m4 k1 n1 => ?_)) (kx_n he_r)
      refine s_astore C (Nat.le_of_ble_eq_true rfl) [0, 2, 3] rfl rfl dJ3_equals_85 87 rfl ?_
      refine s_aload C 0 rfl dJ3_equals_87 89 rfl ?_
      refine s_ifnonnull C dJ3_equals_89 116 rfl 92 rfl (fun c_ => ?_) (fun c_ => ?_)
      · refine s_aload_n C rfl 2 rfl dJ3_equals_92 93 rfl ?_
        refine s_aload C 1 rfl dJ3_equals_93 95 rfl ?_
        refine x_ck (fun hb_ hb0_ => ?_)
        refine x_callF (enc := en_r) C 14 1 [vr_ x3] 15 (ctJ4_get C.2.2.2.2.2.2.2.2.1 N m4 v2 x3) hb_ hb0_ rfl rfl rfl fw_62 q3060 q3063 q1848 q87 q1850 hx25 (Nat.le_of_ble_eq_true rfl) (Nat.le_of_ble_eq_true rfl) rfl (Nat.le_of_ble_eq_true rfl) dJ3_equals_95 100 rfl rfl hen_r (kk_r (fun x5 m5 k1 n1 => ?_)) (kx_n he_r)
        refine s_ifnonnull C dJ3_equals_100 114 rfl 103 rfl (fun c_ => ?_) (fun c_ => ?_)
        · refine s_aload_n C rfl 2 rfl dJ3_equals_103 104 rfl ?_
          refine s_aload C 1 rfl dJ3_equals_104 106 rfl ?_
          refine x_ck (fun hb_ hb0_ => ?_)
          refine x_callF (enc := en_i) C 14 1 [vr_ x3] 15 (ctJ4_containsKey C.2.2.2.2.2.2.2.2.1 N m5 v2 x3) hb_ hb0_ rfl rfl rfl fw_64 q3083 q3086 q1639 q87 q1641 hx26 (Nat.le_of_ble_eq_true rfl) (Nat.le_of_ble_eq_true rfl) rfl (Nat.le_of_ble_eq_true rfl) dJ3_equals_106 111 rfl rfl hen_i (kk_i (fun x6 m6 k1 n1 => ?_)) (kx_n he_i)
          refine s_if_ne C dJ3_equals_111 134 rfl 114 rfl (fun c_ => ?_) (fun c_ => ?_)
          · refine Sm_sub [] rfl ?_
            exact wJ3_equals_t15_b114 C hret h0 hin N _ _ _
          · refine Sm_sub [2, 3] rfl ?_
            exact wJ3_equals_t15_b134 C hret h0 hin N (fun m v2 v3 k n => ih m v2 v3 k n) _ _ _ _ _
        · refine Sm_sub [] rfl ?_
          exact wJ3_equals_t15_b114 C hret h0 hin N _ _ _
      · refine s_aload C 0 rfl dJ3_equals_116 118 rfl ?_
        refine s_aload_n C rfl 2 rfl dJ3_equals_118 119 rfl ?_
        refine s_aload C 1 rfl dJ3_equals_119 121 rfl ?_
        refine x_ck (fun hb_ hb0_ => ?_)
        refine x_callF (enc := en_r) C 14 1 [vr_ x3] 15 (ctJ4_get C.2.2.2.2.2.2.2.2.1 N m4 v2 x3) hb_ hb0_ rfl rfl rfl fw_62 q3060 q3063 q1848 q87 q1850 hx25 (Nat.le_of_ble_eq_true rfl) (Nat.le_of_ble_eq_true rfl) rfl (Nat.le_of_ble_eq_true rfl) dJ3_equals_121 126 rfl rfl hen_r (kk_r (fun x7 m7 k1 n1 => ?_)) (kx_n he_r)
        refine x_ck (fun hb_ hb0_ => ?_)
        refine x_callO (enc := en_i) (owner := "java/lang/Object") C 11 1 [vr_ x7] 27 (ctJ21_equals C.2.2.2.2.2.2.2.2.1 N m7 x4 x7) hb_ hb0_ rfl rfl q3096 q3098 q3126 q3127 q108 q3128 q3097 q3142 ⟨by decide +kernel, by decide +kernel, by decide +kernel⟩ (Nat.le_of_ble_eq_true rfl) (Nat.le_of_ble_eq_true rfl) rfl (Nat.le_of_ble_eq_true rfl) dJ3_equals_126 129 rfl rfl hen_i (kk_i (fun x8 m8 k1 n1 => ?_)) (kx_n he_i)
        refine s_if_ne C dJ3_equals_129 134 rfl 132 rfl (fun c_ => ?_) (fun c_ => ?_)
        · refine s_iconst C 0 rfl dJ3_equals_132 133 rfl ?_
          exact x_zret0 C hret (by decide) rfl dJ3_equals_133
        · refine Sm_sub [2, 3] rfl ?_
          exact wJ3_equals_t15_b134 C hret h0 hin N (fun m v2 v3 k n => ih m v2 v3 k n) _ _ _ _ _
theorem wJ3_equals_t15 {l : Launch} {g : GG} {E : Me_} (C : Cx_ l g E "java/util/AbstractMap" cJ3_equals 7 15) (hret : (eT_ E).sig.returnType = (Option.some Jvm.ClassFile.FieldType.boolean)) (h0 : True) (hin : (eT_ E).name = "equals") (N : Nat) : ∀ (m : Mm) (v0 : Option Nat) (v1 : Option Nat) (k n : Nat), Sm_ l g E 7 en_i (fJ3_equals_t15 (gE_ g) N m v0 v1) k n 0 [(0, vr_ v0), (1, vr_ v1)] [] m := by
  intro m v0 v1 k n
  unfold fJ3_equals_t15
  refine s_aload_n C rfl 1 rfl dJ3_equals_0 1 rfl ?_
  refine s_aload_n C rfl 0 rfl dJ3_equals_1 2 rfl ?_
  refine s_acmp_ne C dJ3_equals_2 7 rfl 5 rfl (fun c_ => ?_) (fun c_ => ?_)
  · refine s_iconst C 1 rfl dJ3_equals_5 6 rfl ?_
    exact x_zret0 C hret (by decide) rfl dJ3_equals_6
  · refine s_aload_n C rfl 1 rfl dJ3_equals_7 8 rfl ?_
    refine x_io C "java/util/Map" [15] (fun k hk => by rw [List.mem_singleton.mp hk]; exact ⟨rfl, Or.inl q2052⟩) q3045 dJ3_equals_8 11 rfl (fun x1 => ?_)
    refine s_if_eq C dJ3_equals_11 22 rfl 14 rfl (fun c_ => ?_) (fun c_ => ?_)
    · refine s_iconst C 0 rfl dJ3_equals_22 23 rfl ?_
      exact x_zret0 C hret (by decide) rfl dJ3_equals_23
    · refine s_aload_n C rfl 1 rfl dJ3_equals_14 15 rfl ?_
      refine x_cc C "java/util/Map" [15] (fun k hk => by rw [List.mem_singleton.mp hk]; exact ⟨rfl, Or.inl q2052⟩) q3045 dJ3_equals_15 18 rfl ?_
      refine s_astore_n C rfl (Nat.le_of_ble_eq_true rfl) [0] rfl rfl dJ3_equals_18 19 rfl ?_
      refine s_goto C (off := 5) 24 dJ3_equals_19 rfl ?_
      refine s_aload_n C rfl 0 rfl dJ3_equals_24 25 rfl ?_
      refine x_ck (fun hb_ hb0_ => ?_)
      refine x_callF (enc := en_i) C 10 0 [] 15 (ctJ4_size C.2.2.2.2.2.2.2.2.1 N m v1) hb_ hb0_ rfl rfl rfl fw_44 q3047 q2369 q2329 q87 q2330 hx17 (Nat.le_of_ble_eq_true rfl) (Nat.le_of_ble_eq_true rfl) rfl (Nat.le_of_ble_eq_true rfl) dJ3_equals_25 30 rfl rfl hen_i (kk_i (fun x2 m1 k1 n1 => ?_)) (kx_n he_i)
      refine s_aload_n C rfl 1 rfl dJ3_equals_30 31 rfl ?_
      refine x_ck (fun hb_ hb0_ => ?_)
      refine x_callA (enc := en_i) (owner := "java/util/AbstractMap") C 10 0 [] 15 (ctJ4_size C.2.2.2.2.2.2.2.2.1 N m1 v0) hb_ hb0_ rfl rfl q2325 q2327 q2328 q2329 q87 q2330 q2375 ⟨by decide +kernel, by decide +kernel, by decide +kernel⟩ (Nat.le_of_ble_eq_true rfl) (Nat.le_of_ble_eq_true rfl) rfl (Nat.le_of_ble_eq_true rfl) dJ3_equals_31 34 rfl rfl hen_i (kk_i (fun x3 m2 k1 n1 => ?_)) (kx_n he_i)
      refine s_icmp_eq C dJ3_equals_34 39 rfl 37 rfl (fun c_ => ?_) (fun c_ => ?_)
      · refine s_aload_n C rfl 1 rfl dJ3_equals_39 40 rfl ?_
        refine x_ck (fun hb_ hb0_ => ?_)
        refine x_callA (enc := en_r) (owner := "java/util/AbstractMap") C 13 0 [] 15 (ctJ4_entrySet C.2.2.2.2.2.2.2.2.1 N m2 v0) hb_ hb0_ rfl rfl q2062 q2064 q2065 q996 q87 q998 q2063 ⟨by decide +kernel, by decide +kernel, by decide +kernel⟩ (Nat.le_of_ble_eq_true rfl) (Nat.le_of_ble_eq_true rfl) rfl (Nat.le_of_ble_eq_true rfl) dJ3_equals_40 43 rfl rfl hen_r (kk_r (fun x4 m3 k1 n1 => ?_)) (kx_n he_r)
        refine x_ck (fun hb_ hb0_ => ?_)
        refine x_callF (enc := en_r) C 12 0 [] 19 (ctJ25_iterator C.2.2.2.2.2.2.2.2.1 N m3 x4) hb_ hb0_ rfl rfl rfl fw_10 q3049 q1370 q1372 q113 q1374 hx8 (Nat.le_of_ble_eq_true rfl) (Nat.le_of_ble_eq_true rfl) rfl (Nat.le_of_ble_eq_true rfl) dJ3_equals_43 48 rfl rfl hen_r (kk_r (fun x5 m4 k1 n1 => ?_)) (kx_n he_r)
        refine s_astore_n C rfl (Nat.le_of_ble_eq_true rfl) [0] rfl rfl dJ3_equals_48 49 rfl ?_
        refine Sm_sub [1, 0] rfl ?_
        exact wJ3_equals_t15_b49 C hret h0 hin N N _ _ _ _ _
      · refine s_iconst C 0 rfl dJ3_equals_37 38 rfl ?_
        exact x_zret0 C hret (by decide) rfl dJ3_equals_38
theorem hdJ3_equals_t15 : ((⟨"java/util/AbstractMap", "equals", "(Ljava/lang/Object;)Z"⟩ : MethodName)).cls ≠ "java/lang/invoke/MethodHandle" ∧ ((⟨"java/util/AbstractMap", "equals", "(Ljava/lang/Object;)Z"⟩ : MethodName)).cls ≠ "java/lang/invoke/VarHandle" ∧ (parseMethodDescriptor ((⟨"java/util/AbstractMap", "equals", "(Ljava/lang/Object;)Z"⟩ : MethodName)).desc).map (fun d => d.parameters.length) = some 1 := ⟨by decide +kernel, by decide +kernel, by decide +kernel⟩
theorem wX1_haveSameRules_b62 {l : Launch} {g : GG} {E : Me_} (C : Cx_ l g E "MasterTree" cX1_haveSameRules 5 18) (hret : (eT_ E).sig.returnType = (Option.some Jvm.ClassFile.FieldType.boolean)) (h0 : ∀ x ∈ (eC_ E).exceptionTable.toList, False) (hin : (eT_ E).name = "haveSameRules") (N : Nat) {k15 : Mm → Option Nat → Option Nat → Int32 → Option Nat → Rs (Int32)} (hk15 : ∀ (m : Mm) (v0 : Option Nat) (v1 : Option Nat) (v2 : Int32) (v3 : Option Nat) (k n : Nat), Sm_ l g E 5 en_i (k15 m v0 v1 v2 v3) k n 15 [(0, vr_ v0), (1, vr_ v1), (2, vi_ v2), (3, vr_ v3)] [] m) : ∀ (m : Mm) (v0 : Option Nat) (v1 : Option Nat) (v3 : Option Nat) (s0 : Int32) (k n : Nat), Sm_ l g E 5 en_i (fX1_haveSameRules_b62 (gE_ g) N k15 m v0 v1 v3 s0) k n 62 [(0, vr_ v0), (1, vr_ v1), (3, vr_ v3)] [vi_ s0] m := by
  intro m v0 v1 v3 s0 k n
  unfold fX1_haveSameRules_b62
  refine s_istore_n C rfl (Nat.le_of_ble_eq_true rfl) [0, 1, 2] rfl rfl dX1_haveSameRules_62 63 rfl ?_
  refine s_goto C (off := -48) 15 dX1_haveSameRules_63 rfl ?_
  refine Sm_sub [1, 2, 0, 3] rfl ?_
  exact hk15 _ _ _ _ _ _ _
theorem wX1_haveSameRules_b61 {l : Launch} {g : GG} {E : Me_} (C : Cx_ l g E "MasterTree" cX1_haveSameRules 5 18) (hret : (eT_ E).sig.returnType = (Option.some Jvm.ClassFile.FieldType.boolean)) (h0 : ∀ x ∈ (eC_ E).exceptionTable.toList, False) (hin : (eT_ E).name = "haveSameRules") (N : Nat) {k15 : Mm → Option Nat → Option Nat → Int32 → Option Nat → Rs (Int32)} (hk15 : ∀ (m : Mm) (v0 : Option Nat) (v1 : Option Nat) (v2 : Int32) (v3 : Option Nat) (k n : Nat), Sm_ l g E 5 en_i (k15 m v0 v1 v2 v3) k n 15 [(0, vr_ v0), (1, vr_ v1), (2, vi_ v2), (3, vr_ v3)] [] m) : ∀ (m : Mm) (v0 : Option Nat) (v1 : Option Nat) (v3 : Option Nat) (k n : Nat), Sm_ l g E 5 en_i (fX1_haveSameRules_b61 (gE_ g) N k15 m v0 v1 v3) k n 61 [(0, vr_ v0), (1, vr_ v1), (3, vr_ v3)] [] m := by
  intro m v0 v1 v3 k n
  unfold fX1_haveSameRules_b61
  refine s_iconst C 0 rfl dX1_haveSameRules_61 62 rfl ?_
  exact wX1_haveSameRules_b62 C hret h0 hin N hk15 _ _ _ _ _ _ _
theorem wX1_haveSameRules_b15 {l : Launch} {g : GG} {E : Me_} (C : Cx_ l g E "MasterTree" cX1_haveSameRules 5 18) (hret : (eT_ E).sig.returnType = (Option.some Jvm.ClassFile.FieldType.boolean)) (h0 : ∀ x ∈ (eC_ E).exceptionTable.toList, False) (hin : (eT_ E).name = "haveSameRules") (N : Nat) : ∀ (F : Nat) (m : Mm) (v0 : Option Nat) (v1 : Option Nat) (v2 : Int32) (v3 : Option Nat) (k n : Nat), Sm_ l g E 5 en_i (fX1_haveSameRules_b15 (gE_ g) N F m v0 v1 v2 v3) k n 15 [(0, vr_ v0), (1, vr_ v1), (2, vi_ v2), (3, vr_ v3)] [] m := by
  intro F
  induction F with
  | zero => intros; exact Sm_none
  | succ F ih =>
    intro m v0 v1 v2 v3 k n
    unfold fX1_haveSameRules_b15
    refine s_aload_n C rfl 3 rfl dX1_haveSameRules_15 16 rfl ?_
    refine x_ck (fun hb_ hb0_ => ?_)
    refine x_callF (enc := en_i) C 10 0 [] 18 (ctJ30_hasNext_t18 C.2.2.2.2.2.2.2.2.1 N m v3) hb_ hb0_ rfl rfl rfl fw_15 q1716 q1470 q1466 q119 q1468 hx3 (Nat.le_of_ble_eq_true rfl) (Nat.le_of_ble_eq_true rfl) rfl (Nat.le_of_ble_eq_true rfl) dX1_haveSameRules_16 21 rfl rfl hen_i (kk_i (fun x1 m1 k1 n1 => ?_)) (kx_n he_i)
    refine s_if_eq C dX1_haveSameRules_21 66 rfl 24 rfl (fun c_ => ?_) (fun c_ => ?_)
    · refine s_iload_n C rfl 2 rfl dX1_haveSameRules_66 67 rfl ?_
      exact x_zret C hret rfl dX1_haveSameRules_67
    · refine s_aload_n C rfl 3 rfl dX1_haveSameRules_24 25 rfl ?_
      refine x_ck (fun hb_ hb0_ => ?_)
      refine x_callF (enc := en_r) C 12 0 [] 18 (ctJ32_next C.2.2.2.2.2.2.2.2.1 N m1 v3) hb_ hb0_ rfl rfl rfl fw_21 q1718 q1522 q1524 q121 q1526 hx5 (Nat.le_of_ble_eq_true rfl) (Nat.le_of_ble_eq_true rfl) rfl (Nat.le_of_ble_eq_true rfl) dX1_haveSameRules_25 30 rfl rfl hen_r (kk_r (fun x2 m2 k1 n1 => ?_)) (kx_n he_r)
      refine x_cc C "java/lang/Integer" [27] (fun k hk => by rw [List.mem_singleton.mp hk]; exact ⟨rfl, Or.inr rfl⟩) q2793 dX1_haveSameRules_30 33 rfl ?_
      refine x_ck (fun hb_ hb0_ => ?_)
      refine x_callV (enc := en_i) C 10 0 [] 27 (ctJ21_intValue C.2.2.2.2.2.2.2.2.1 N m2 x2) hb_ hb0_ rfl rfl q2794 q1585 q1586 q108 q1587 hdJ21_intValue (Nat.le_of_ble_eq_true rfl) (Nat.le_of_ble_eq_true rfl) rfl (Nat.le_of_ble_eq_true rfl) dX1_haveSameRules_33 36 rfl rfl hen_i (kk_i (fun x3 m3 k1 n1 => ?_)) (kx_n he_i)
      refine s_istore C (Nat.le_of_ble_eq_true rfl) [0, 1, 2, 3] rfl rfl dX1_haveSameRules_36 38 rfl ?_
      refine s_iload_n C rfl 3 rfl dX1_haveSameRules_38 39 rfl ?_
      refine s_if_eq C dX1_haveSameRules_39 61 rfl 42 rfl (fun c_ => ?_) (fun c_ => ?_)
      · refine Sm_sub [1, 2, 4] rfl ?_
        exact wX1_haveSameRules_b61 C hret h0 hin N (fun m v0 v1 v2 v3 k n => ih m v0 v1 v2 v3 k n) _ _ _ _ _ _
      · refine s_aload_n C rfl 1 rfl dX1_haveSameRules_42 43 rfl ?_
        refine s_iload C 0 rfl dX1_haveSameRules_43 45 rfl ?_
        refine x_ck (fun hb_ hb0_ => ?_)
        refine x_callV (enc := en_i) C 15 1 [vi_ x3] 3 (ctX3_says C.2.2.2.2.2.2.2.2.1 N m3 v0 x3) hb_ hb0_ rfl rfl q2528 q2529 q2530 q88 q2531 hdX3_says (Nat.le_of_ble_eq_true rfl) (Nat.le_of_ble_eq_true rfl) rfl (Nat.le_of_ble_eq_true rfl) dX1_haveSameRules_45 48 rfl rfl hen_i (kk_i (fun x4 m4 k1 n1 => ?_)) (kx_n he_i)
        refine s_aload_n C rfl 2 rfl dX1_haveSameRules_48 49 rfl ?_
        refine s_iload C 0 rfl dX1_haveSameRules_49 51 rfl ?_
        refine x_ck (fun hb_ hb0_ => ?_)
        refine x_callV (enc := en_i) C 15 1 [vi_ x3] 3 (ctX3_says C.2.2.2.2.2.2.2.2.1 N m4 v1 x3) hb_ hb0_ rfl rfl q2528 q2529 q2530 q88 q2531 hdX3_says (Nat.le_of_ble_eq_true rfl) (Nat.le_of_ble_eq_true rfl) rfl (Nat.le_of_ble_eq_true rfl) dX1_haveSameRules_51 54 rfl rfl hen_i (kk_i (fun x5 m5 k1 n1 => ?_)) (kx_n he_i)
        refine s_icmp_ne C dX1_haveSameRules_54 61 rfl 57 rfl (fun c_ => ?_) (fun c_ => ?_)
        · refine s_iconst C 1 rfl dX1_haveSameRules_57 58 rfl ?_
          refine s_goto C (off := 4) 62 dX1_haveSameRules_58 rfl ?_
          refine Sm_sub [1, 2, 4] rfl ?_
          exact wX1_haveSameRules_b62 C hret h0 hin N (fun m v0 v1 v2 v3 k n => ih m v0 v1 v2 v3 k n) _ _ _ _ _ _ _
        · refine Sm_sub [1, 2, 4] rfl ?_
          exact wX1_haveSameRules_b61 C hret h0 hin N (fun m v0 v1 v2 v3 k n => ih m v0 v1 v2 v3 k n) _ _ _ _ _ _
theorem wX1_haveSameRules {l : Launch} {g : GG} {E : Me_} (C : Cx_ l g E "MasterTree" cX1_haveSameRules 5 18) (hret : (eT_ E).sig.returnType = (Option.some Jvm.ClassFile.FieldType.boolean)) (h0 : ∀ x ∈ (eC_ E).exceptionTable.toList, False) (hin : (eT_ E).name = "haveSameRules") (N : Nat) : ∀ (m : Mm) (v0 : Option Nat) (v1 : Option Nat) (k n : Nat), Sm_ l g E 5 en_i (fX1_haveSameRules (gE_ g) N m v0 v1) k n 0 [(0, vr_ v0), (1, vr_ v1)] [] m := by
  intro m v0 v1 k n
  unfold fX1_haveSameRules
  refine s_iconst C 1 rfl dX1_haveSameRules_0 1 rfl ?_
  refine s_istore_n C rfl (Nat.le_of_ble_eq_true rfl) [0, 1] rfl rfl dX1_haveSameRules_1 2 rfl ?_
  refine s_aload_n C rfl 1 rfl dX1_haveSameRules_2 3 rfl ?_
  refine x_grN C 2 (RX3, TX3, 9) rfl 8 (Nat.le_of_ble_eq_true rfl) q274 rfl rfl 3 rfl dX1_haveSameRules_3 6 rfl (fun x1 => ?_)
  refine x_ck (fun hb_ hb0_ => ?_)
  refine x_callV (enc := en_r) C 14 0 [] 15 (ctJ4_keySet C.2.2.2.2.2.2.2.2.1 N m x1) hb_ hb0_ rfl rfl q3146 q1829 q1830 q87 q1831 hdJ4_keySet (Nat.le_of_ble_eq_true rfl) (Nat.le_of_ble_eq_true rfl) rfl (Nat.le_of_ble_eq_true rfl) dX1_haveSameRules_6 9 rfl rfl hen_r (kk_r (fun x2 m1 k1 n1 => ?_)) (kx_n he_r)
  refine x_ck (fun hb_ hb0_ => ?_)
  refine x_callF (enc := en_r) C 17 0 [] 17 (ctJ36_iterator C.2.2.2.2.2.2.2.2.1 N m1 x2) hb_ hb0_ rfl rfl rfl fw_11 q3148 q1399 q1401 q128 q1403 hx8 (Nat.le_of_ble_eq_true rfl) (Nat.le_of_ble_eq_true rfl) rfl (Nat.le_of_ble_eq_true rfl) dX1_haveSameRules_9 14 rfl rfl hen_r (kk_r (fun x3 m2 k1 n1 => ?_)) (kx_n he_r)
  refine s_astore_n C rfl (Nat.le_of_ble_eq_true rfl) [0, 1, 2] rfl rfl dX1_haveSameRules_14 15 rfl ?_
  refine Sm_sub [2, 3, 1, 0] rfl ?_
  exact wX1_haveSameRules_b15 C hret h0 hin N N _ _ _ _ _ _ _
theorem hdX1_haveSameRules : ((⟨"MasterTree", "haveSameRules", "(LMasterTree$Entry;LMasterTree$Entry;)Z"⟩ : MethodName)).cls ≠ "java/lang/invoke/MethodHandle" ∧ ((⟨"MasterTree", "haveSameRules", "(LMasterTree$Entry;LMasterTree$Entry;)Z"⟩ : MethodName)).cls ≠ "java/lang/invoke/VarHandle" ∧ (parseMethodDescriptor ((⟨"MasterTree", "haveSameRules", "(LMasterTree$Entry;LMasterTree$Entry;)Z"⟩ : MethodName)).desc).map (fun d => d.parameters.length) = some 2 := ⟨by decide +kernel, by decide +kernel, by decide +kernel⟩
theorem ctX1_haveSameRules {l : Launch} {g : GG} (hst : l.stackTraces = false) (N : Nat) (m : Mm) (v0 : Option Nat) (v1 : Option Nat) : ∀ v m' k n, fX1_haveSameRules (gE_ g) N m v0 v1 = some (v, m', k, n) → Ct_ l g (⟨"MasterTree", "haveSameRules", "(LMasterTree$Entry;LMasterTree$Entry;)Z"⟩ : MethodName) (ws_ (⟨"MasterTree", "haveSameRules", "(LMasterTree$Entry;LMasterTree$Entry;)Z"⟩ : MethodName) cX1_haveSameRules 5 (Option.some Jvm.ClassFile.FieldType.boolean)) 18 [vr_ v0, vr_ v1] m (en_i v) m' k n :=
  Ct_of (by decide +kernel) rfl hst (Nat.le_of_ble_eq_true rfl) rfl (fun E C hret h0 hin => wX1_haveSameRules C hret h0 hin N m v0 v1 0 0)
theorem wX1_areAlikeIn_b103 {l : Launch} {g : GG} {E : Me_} (C : Cx_ l g E "MasterTree" cX1_areAlikeIn 6 19) (hret : (eT_ E).sig.returnType = (Option.some Jvm.ClassFile.FieldType.boolean)) (h0 : ∀ x ∈ (eC_ E).exceptionTable.toList, False) (hin : (eT_ E).name = "areAlikeIn") (N : Nat) : ∀ (m : Mm) (s0 : Int32) (k n : Nat), Sm_ l g E 6 en_i (fX1_areAlikeIn_b103 (gE_ g) N m s0) k n 103 [] [vi_ s0] m := by
  intro m s0 k n
  unfold fX1_areAlikeIn_b103
  exact x_zret C hret rfl dX1_areAlikeIn_103
theorem wX1_areAlikeIn_b102 {l : Launch} {g : GG} {E : Me_} (C : Cx_ l g E "MasterTree" cX1_areAlikeIn 6 19) (hret : (eT_ E).sig.returnType = (Option.some Jvm.ClassFile.FieldType.boolean)) (h0 : ∀ x ∈ (eC_ E).exceptionTable.toList, False) (hin : (eT_ E).name = "areAlikeIn") (N : Nat) : ∀ (m : Mm) (k n : Nat), Sm_ l g E 6 en_i (fX1_areAlikeIn_b102 (gE_ g) N m) k n 102 [] [] m := by
  intro m k n
  unfold fX1_areAlikeIn_b102
  refine s_iconst C 0 rfl dX1_areAlikeIn_102 103 rfl ?_
  exact wX1_areAlikeIn_b103 C hret h0 hin N _ _ _ _
theorem wX1_areAlikeIn_b58 {l : Launch} {g : GG} {E : Me_} (C : Cx_ l g E "MasterTree" cX1_areAlikeIn 6 19) (hret : (eT_ E).sig.returnType = (Option.some Jvm.ClassFile.FieldType.boolean)) (h0 : ∀ x ∈ (eC_ E).exceptionTable.toList, False) (hin : (eT_ E).name = "areAlikeIn") (N : Nat) : ∀ (m : Mm) (v3 : Option Nat) (v4 : Option Nat) (s0 : Int32) (k n : Nat), Sm_ l g E 6 en_i (fX1_areAlikeIn_b58 (gE_ g) N m v3 v4 s0) k n 58 [(3, vr_ v3), (4, vr_ v4)] [vi_ s0] m := by
  intro m v3 v4 s0 k n
  unfold fX1_areAlikeIn_b58
  refine s_istore C (Nat.le_of_ble_eq_true rfl) [0, 1] rfl rfl dX1_areAlikeIn_58 60 rfl ?_
  refine s_iload C 0 rfl dX1_areAlikeIn_60 62 rfl ?_
  refine s_if_eq C dX1_areAlikeIn_62 102 rfl 65 rfl (fun c_ => ?_) (fun c_ => ?_)
  · refine Sm_sub [] rfl ?_
    exact wX1_areAlikeIn_b102 C hret h0 hin N _ _ _
  · refine s_aload_n C rfl 1 rfl dX1_areAlikeIn_65 66 rfl ?_
    refine x_grN C 2 (RX3, TX3, 9) rfl 7 (Nat.le_of_ble_eq_true rfl) q270 rfl rfl 3 rfl dX1_areAlikeIn_66 69 rfl (fun x1 => ?_)
    refine s_aload C 2 rfl dX1_areAlikeIn_69 71 rfl ?_
    refine x_grN C 2 (RX3, TX3, 9) rfl 7 (Nat.le_of_ble_eq_true rfl) q270 rfl rfl 3 rfl dX1_areAlikeIn_71 74 rfl (fun x2 => ?_)
    refine x_ck (fun hb_ hb0_ => ?_)
    refine x_callH (enc := en_i) (owner := "java/util/AbstractMap") C 15 1 [vr_ x2] 15 (by decide +kernel) (Nat.le_of_ble_eq_true rfl) rfl (fun E C hret h0 hin => wJ3_equals_t15 C hret h0 hin N _  x1 x2 0 0) hb_ hb0_ rfl rfl q3039 q3040 q3042 q3043 q3044 q3041 ⟨by decide +kernel, by decide +kernel, by decide +kernel⟩ (Nat.le_of_ble_eq_true rfl) (Nat.le_of_ble_eq_true rfl) rfl (Nat.le_of_ble_eq_true rfl) dX1_areAlikeIn_74 77 rfl rfl hen_i (kk_i (fun x3 m1 k1 n1 => ?_)) (kx_n he_i)
    refine s_if_eq C dX1_areAlikeIn_77 102 rfl 80 rfl (fun c_ => ?_) (fun c_ => ?_)
    · refine Sm_sub [] rfl ?_
      exact wX1_areAlikeIn_b102 C hret h0 hin N _ _ _
    · refine s_aload_n C rfl 1 rfl dX1_areAlikeIn_80 81 rfl ?_
      refine s_aload C 2 rfl dX1_areAlikeIn_81 83 rfl ?_
      refine x_callS (enc := en_i) C 18 2 [vr_ v3, vr_ v4] (ctX1_haveSameRules C.2.2.2.2.2.2.2.2.1 N m1 v3 v4) q3143 q3144 q81 q3145 hdX1_haveSameRules (Nat.le_of_ble_eq_true rfl) (Nat.le_of_ble_eq_true rfl) rfl (Nat.le_of_ble_eq_true rfl) dX1_areAlikeIn_83 86 rfl rfl hen_i (kk_i (fun x4 m2 k1 n1 => ?_)) (kx_n he_i)
      refine s_if_eq C dX1_areAlikeIn_86 102 rfl 89 rfl (fun c_ => ?_) (fun c_ => ?_)
      · refine Sm_sub [] rfl ?_
        exact wX1_areAlikeIn_b102 C hret h0 hin N _ _ _
      · refine s_aload C 2 rfl dX1_areAlikeIn_89 91 rfl ?_
        refine s_aload_n C rfl 1 rfl dX1_areAlikeIn_91 92 rfl ?_
        refine x_callS (enc := en_i) C 18 2 [vr_ v4, vr_ v3] (ctX1_haveSameRules C.2.2.2.2.2.2.2.2.1 N m2 v4 v3) q3143 q3144 q81 q3145 hdX1_haveSameRules (Nat.le_of_ble_eq_true rfl) (Nat.le_of_ble_eq_true rfl) rfl (Nat.le_of_ble_eq_true rfl) dX1_areAlikeIn_92 95 rfl rfl hen_i (kk_i (fun x5 m3 k1 n1 => ?_)) (kx_n he_i)
        refine s_if_eq C dX1_areAlikeIn_95 102 rfl 98 rfl (fun c_ => ?_) (fun c_ => ?_)
        · refine Sm_sub [] rfl ?_
          exact wX1_areAlikeIn_b102 C hret h0 hin N _ _ _
        · refine s_iconst C 1 rfl dX1_areAlikeIn_98 99 rfl ?_
          refine s_goto C (off := 4) 103 dX1_areAlikeIn_99 rfl ?_
          refine Sm_sub [] rfl ?_
          exact wX1_areAlikeIn_b103 C hret h0 hin N _ _ _ _
theorem wX1_areAlikeIn_b57 {l : Launch} {g : GG} {E : Me_} (C : Cx_ l g E "MasterTree" cX1_areAlikeIn 6 19) (hret : (eT_ E).sig.returnType = (Option.some Jvm.ClassFile.FieldType.boolean)) (h0 : ∀ x ∈ (eC_ E).exceptionTable.toList, False) (hin : (eT_ E).name = "areAlikeIn") (N : Nat) : ∀ (m : Mm) (v3 : Option Nat) (v4 : Option Nat) (k n : Nat), Sm_ l g E 6 en_i (fX1_areAlikeIn_b57 (gE_ g) N m v3 v4) k n 57 [(3, vr_ v3), (4, vr_ v4)] [] m := by
  intro m v3 v4 k n
  unfold fX1_areAlikeIn_b57
  refine s_iconst C 0 rfl dX1_areAlikeIn_57 58 rfl ?_
  exact wX1_areAlikeIn_b58 C hret h0 hin N _ _ _ _ _ _
theorem wX1_areAlikeIn {l : Launch} {g : GG} {E : Me_} (C : Cx_ l g E "MasterTree" cX1_areAlikeIn 6 19) (hret : (eT_ E).sig.returnType = (Option.some Jvm.ClassFile.FieldType.boolean)) (h0 : ∀ x ∈ (eC_ E).exceptionTable.toList, False) (hin : (eT_ E).name = "areAlikeIn") (N : Nat) : ∀ (m : Mm) (v0 : Option Nat) (v1 : Option Nat) (v2 : Int32) (k n : Nat), Sm_ l g E 6 en_i (fX1_areAlikeIn (gE_ g) N m v0 v1 v2) k n 0 [(0, vr_ v0), (1, vr_ v1), (2, vi_ v2)] [] m := by
  intro m v0 v1 v2 k n
  unfold fX1_areAlikeIn
  refine s_aload_n C rfl 0 rfl dX1_areAlikeIn_0 1 rfl ?_
  refine x_grN C 1 (RX2, TX2, 12) rfl 6 (Nat.le_of_ble_eq_true rfl) q309 rfl rfl 2 rfl dX1_areAlikeIn_1 4 rfl (fun x1 => ?_)
  refine s_iload_n C rfl 2 rfl dX1_areAlikeIn_4 5 rfl ?_
  refine x_ar C 5 (.object "MasterTree$Entry") rfl rfl rfl 205 rfl dX1_areAlikeIn_5 6 rfl (fun x2 => ?_)
  refine s_astore_n C rfl (Nat.le_of_ble_eq_true rfl) [0, 1, 2] rfl rfl dX1_areAlikeIn_6 7 rfl ?_
  refine s_aload_n C rfl 2 rfl dX1_areAlikeIn_7 8 rfl ?_
  refine x_grN C 1 (RX2, TX2, 12) rfl 6 (Nat.le_of_ble_eq_true rfl) q309 rfl rfl 2 rfl dX1_areAlikeIn_8 11 rfl (fun x3 => ?_)
  refine s_iload_n C rfl 3 rfl dX1_areAlikeIn_11 12 rfl ?_
  refine x_ar C 5 (.object "MasterTree$Entry") rfl rfl rfl 205 rfl dX1_areAlikeIn_12 13 rfl (fun x4 => ?_)
  refine s_astore C (Nat.le_of_ble_eq_true rfl) [0, 1, 2, 3] rfl rfl dX1_areAlikeIn_13 15 rfl ?_
  refine s_aload_n C rfl 2 rfl dX1_areAlikeIn_15 16 rfl ?_
  refine s_iload_n C rfl 4 rfl dX1_areAlikeIn_16 17 rfl ?_
  refine x_ck (fun hb_ hb0_ => ?_)
  refine x_callV (enc := en_i) C 12 1 [vi_ v2] 2 (ctX2_shownAt C.2.2.2.2.2.2.2.2.1 N m v0 v2) hb_ hb0_ rfl rfl q2460 q1655 q1656 q85 q1657 hdX2_shownAt (Nat.le_of_ble_eq_true rfl) (Nat.le_of_ble_eq_true rfl) rfl (Nat.le_of_ble_eq_true rfl) dX1_areAlikeIn_17 20 rfl rfl hen_i (kk_i (fun x5 m1 k1 n1 => ?_)) (kx_n he_i)
  refine s_aload_n C rfl 3 rfl dX1_areAlikeIn_20 21 rfl ?_
  refine s_iload_n C rfl 4 rfl dX1_areAlikeIn_21 22 rfl ?_
  refine x_ck (fun hb_ hb0_ => ?_)
  refine x_callV (enc := en_i) C 12 1 [vi_ v2] 2 (ctX2_shownAt C.2.2.2.2.2.2.2.2.1 N m1 v1 v2) hb_ hb0_ rfl rfl q2460 q1655 q1656 q85 q1657 hdX2_shownAt (Nat.le_of_ble_eq_true rfl) (Nat.le_of_ble_eq_true rfl) rfl (Nat.le_of_ble_eq_true rfl) dX1_areAlikeIn_22 25 rfl rfl hen_i (kk_i (fun x6 m2 k1 n1 => ?_)) (kx_n he_i)
  refine s_icmp_ne C dX1_areAlikeIn_25 57 rfl 28 rfl (fun c_ => ?_) (fun c_ => ?_)
  · refine s_aload_n C rfl 2 rfl dX1_areAlikeIn_28 29 rfl ?_
    refine s_iload_n C rfl 4 rfl dX1_areAlikeIn_29 30 rfl ?_
    refine x_ck (fun hb_ hb0_ => ?_)
    refine x_callV (enc := en_i) C 15 1 [vi_ v2] 2 (ctX2_shownName C.2.2.2.2.2.2.2.2.1 N m2 v0 v2) hb_ hb0_ rfl rfl q2462 q1668 q1669 q85 q1670 hdX2_shownName (Nat.le_of_ble_eq_true rfl) (Nat.le_of_ble_eq_true rfl) rfl (Nat.le_of_ble_eq_true rfl) dX1_areAlikeIn_30 33 rfl rfl hen_i (kk_i (fun x7 m3 k1 n1 => ?_)) (kx_n he_i)
    refine s_aload_n C rfl 3 rfl dX1_areAlikeIn_33 34 rfl ?_
    refine s_iload_n C rfl 4 rfl dX1_areAlikeIn_34 35 rfl ?_
    refine x_ck (fun hb_ hb0_ => ?_)
    refine x_callV (enc := en_i) C 15 1 [vi_ v2] 2 (ctX2_shownName C.2.2.2.2.2.2.2.2.1 N m3 v1 v2) hb_ hb0_ rfl rfl q2462 q1668 q1669 q85 q1670 hdX2_shownName (Nat.le_of_ble_eq_true rfl) (Nat.le_of_ble_eq_true rfl) rfl (Nat.le_of_ble_eq_true rfl) dX1_areAlikeIn_35 38 rfl rfl hen_i (kk_i (fun x8 m4 k1 n1 => ?_)) (kx_n he_i)
    refine s_icmp_ne C dX1_areAlikeIn_38 57 rfl 41 rfl (fun c_ => ?_) (fun c_ => ?_)
    · refine s_aload_n C rfl 1 rfl dX1_areAlikeIn_41 42 rfl ?_
      refine x_giN C 2 (RX3, TX3, 9) rfl 6 (Nat.le_of_ble_eq_true rfl) q266 rfl rfl 3 rfl dX1_areAlikeIn_42 45 rfl (fun x9 => ?_)
      refine s_aload C 0 rfl dX1_areAlikeIn_45 47 rfl ?_
      refine x_giN C 2 (RX3, TX3, 9) rfl 6 (Nat.le_of_ble_eq_true rfl) q266 rfl rfl 3 rfl dX1_areAlikeIn_47 50 rfl (fun x10 => ?_)
      refine s_icmp_ne C dX1_areAlikeIn_50 57 rfl 53 rfl (fun c_ => ?_) (fun c_ => ?_)
      · refine s_iconst C 1 rfl dX1_areAlikeIn_53 54 rfl ?_
        refine s_goto C (off := 4) 58 dX1_areAlikeIn_54 rfl ?_
        refine Sm_sub [1, 0] rfl ?_
        exact wX1_areAlikeIn_b58 C hret h0 hin N _ _ _ _ _ _
      · refine Sm_sub [1, 0] rfl ?_
        exact wX1_areAlikeIn_b57 C hret h0 hin N _ _ _ _ _
    · refine Sm_sub [1, 0] rfl ?_
      exact wX1_areAlikeIn_b57 C hret h0 hin N _ _ _ _ _
  · refine Sm_sub [1, 0] rfl ?_
    exact wX1_areAlikeIn_b57 C hret h0 hin N _ _ _ _ _
theorem hdX1_areAlikeIn : ((⟨"MasterTree", "areAlikeIn", "(LMasterTree$Master;LMasterTree$Master;I)Z"⟩ : MethodName)).cls ≠ "java/lang/invoke/MethodHandle" ∧ ((⟨"MasterTree", "areAlikeIn", "(LMasterTree$Master;LMasterTree$Master;I)Z"⟩ : MethodName)).cls ≠ "java/lang/invoke/VarHandle" ∧ (parseMethodDescriptor ((⟨"MasterTree", "areAlikeIn", "(LMasterTree$Master;LMasterTree$Master;I)Z"⟩ : MethodName)).desc).map (fun d => d.parameters.length) = some 3 := ⟨by decide +kernel, by decide +kernel, by decide +kernel⟩
theorem ctX1_areAlikeIn {l : Launch} {g : GG} (hst : l.stackTraces = false) (N : Nat) (m : Mm) (v0 : Option Nat) (v1 : Option Nat) (v2 : Int32) : ∀ v m' k n, fX1_areAlikeIn (gE_ g) N m v0 v1 v2 = some (v, m', k, n) → Ct_ l g (⟨"MasterTree", "areAlikeIn", "(LMasterTree$Master;LMasterTree$Master;I)Z"⟩ : MethodName) (ws_ (⟨"MasterTree", "areAlikeIn", "(LMasterTree$Master;LMasterTree$Master;I)Z"⟩ : MethodName) cX1_areAlikeIn 6 (Option.some Jvm.ClassFile.FieldType.boolean)) 19 [vr_ v0, vr_ v1, vi_ v2] m (en_i v) m' k n :=
  Ct_of (by decide +kernel) rfl hst (Nat.le_of_ble_eq_true rfl) rfl (fun E C hret h0 hin => wX1_areAlikeIn C hret h0 hin N m v0 v1 v2 0 0)
theorem wX1_areAlike_b73 {l : Launch} {g : GG} {E : Me_} (C : Cx_ l g E "MasterTree" cX1_areAlike 7 20) (hret : (eT_ E).sig.returnType = (Option.some Jvm.ClassFile.FieldType.boolean)) (h0 : ∀ x ∈ (eC_ E).exceptionTable.toList, False) (hin : (eT_ E).name = "areAlike") (N : Nat) {k36 : Mm → Option Nat → Option Nat → Int32 → Int32 → Rs (Int32 ⊕ Nat)} (hk36 : ∀ (m : Mm) (v3 : Option Nat) (v4 : Option Nat) (v5 : Int32) (v6 : Int32) (k n : Nat), Sm_ l g E 7 (xe_ en_i) (k36 m v3 v4 v5 v6) k n 36 [(3, vr_ v3), (4, vr_ v4), (5, vi_ v5), (6, vi_ v6)] [] m) : ∀ (m : Mm) (v3 : Option Nat) (v4 : Option Nat) (v6 : Int32) (s0 : Int32) (k n : Nat), Sm_ l g E 7 (xe_ en_i) (fX1_areAlike_b73 (gE_ g) N k36 m v3 v4 v6 s0) k n 73 [(3, vr_ v3), (4, vr_ v4), (6, vi_ v6)] [vi_ s0] m := by
  intro m v3 v4 v6 s0 k n
  unfold fX1_areAlike_b73
  refine s_istore C (Nat.le_of_ble_eq_true rfl) [0, 1, 2] rfl rfl dX1_areAlike_73 75 rfl ?_
  refine s_iinc C 1 rfl 3 rfl (Nat.le_of_ble_eq_true rfl) [0, 1, 2] rfl rfl dX1_areAlike_75 78 rfl ?_
  refine s_goto C (off := -42) 36 dX1_areAlike_78 rfl ?_
  refine Sm_sub [2, 3, 1, 0] rfl ?_
  exact hk36 _ _ _ _ _ _ _
theorem wX1_areAlike_b68 {l : Launch} {g : GG} {E : Me_} (C : Cx_ l g E "MasterTree" cX1_areAlike 7 20) (hret : (eT_ E).sig.returnType = (Option.some Jvm.ClassFile.FieldType.boolean)) (h0 : ∀ x ∈ (eC_ E).exceptionTable.toList, False) (hin : (eT_ E).name = "areAlike") (N : Nat) {k36 : Mm → Option Nat → Option Nat → Int32 → Int32 → Rs (Int32 ⊕ Nat)} (hk36 : ∀ (m : Mm) (v3 : Option Nat) (v4 : Option Nat) (v5 : Int32) (v6 : Int32) (k n : Nat), Sm_ l g E 7 (xe_ en_i) (k36 m v3 v4 v5 v6) k n 36 [(3, vr_ v3), (4, vr_ v4), (5, vi_ v5), (6, vi_ v6)] [] m) : ∀ (m : Mm) (v3 : Option Nat) (v4 : Option Nat) (v6 : Int32) (k n : Nat), Sm_ l g E 7 (xe_ en_i) (fX1_areAlike_b68 (gE_ g) N k36 m v3 v4 v6) k n 68 [(3, vr_ v3), (4, vr_ v4), (6, vi_ v6)] [] m := by
  intro m v3 v4 v6 k n
  unfold fX1_areAlike_b68
  refine s_iconst C 1 rfl dX1_areAlike_68 69 rfl ?_
  refine s_goto C (off := 4) 73 dX1_areAlike_69 rfl ?_
  exact wX1_areAlike_b73 C hret h0 hin N hk36 _ _ _ _ _ _ _
theorem wX1_areAlike_b81 {l : Launch} {g : GG} {E : Me_} (C : Cx_ l g E "MasterTree" cX1_areAlike 7 20) (hret : (eT_ E).sig.returnType = (Option.some Jvm.ClassFile.FieldType.boolean)) (h0 : ∀ x ∈ (eC_ E).exceptionTable.toList, False) (hin : (eT_ E).name = "areAlike") (N : Nat) : ∀ (m : Mm) (v5 : Int32) (k n : Nat), Sm_ l g E 7 (xe_ en_i) (fX1_areAlike_b81 (gE_ g) N m v5) k n 81 [(5, vi_ v5)] [] m := by
  intro m v5 k n
  unfold fX1_areAlike_b81
  refine s_iload C 0 rfl dX1_areAlike_81 83 rfl ?_
  exact x_zret C hret rfl dX1_areAlike_83
theorem wX1_areAlike_b36 {l : Launch} {g : GG} {E : Me_} (C : Cx_ l g E "MasterTree" cX1_areAlike 7 20) (hret : (eT_ E).sig.returnType = (Option.some Jvm.ClassFile.FieldType.boolean)) (h0 : ∀ x ∈ (eC_ E).exceptionTable.toList, False) (hin : (eT_ E).name = "areAlike") (N : Nat) : ∀ (F : Nat) (m : Mm) (v3 : Option Nat) (v4 : Option Nat) (v5 : Int32) (v6 : Int32) (k n : Nat), Sm_ l g E 7 (xe_ en_i) (fX1_areAlike_b36 (gE_ g) N F m v3 v4 v5 v6) k n 36 [(3, vr_ v3), (4, vr_ v4), (5, vi_ v5), (6, vi_ v6)] [] m := by
  intro F
  induction F with
  | zero => intros; exact Sm_none
  | succ F ih =>
    intro m v3 v4 v5 v6 k n
    unfold fX1_areAlike_b36
    refine s_iload C 3 rfl dX1_areAlike_36 38 rfl ?_
    refine s_bipush C 48 rfl dX1_areAlike_38 40 rfl ?_
    refine s_icmp_ge C dX1_areAlike_40 81 rfl 43 rfl (fun c_ => ?_) (fun c_ => ?_)
    · refine s_iload C 2 rfl dX1_areAlike_43 45 rfl ?_
      refine s_if_eq C dX1_areAlike_45 81 rfl 48 rfl (fun c_ => ?_) (fun c_ => ?_)
      · refine Sm_sub [2] rfl ?_
        exact wX1_areAlike_b81 C hret h0 hin N _ _ _ _
      · refine s_aload_n C rfl 0 rfl dX1_areAlike_48 49 rfl ?_
        refine s_iload C 3 rfl dX1_areAlike_49 51 rfl ?_
        refine x_ck (fun hb_ hb0_ => ?_)
        refine x_callV (enc := en_i) C 11 1 [vi_ v6] 2 (ctX2_isLive C.2.2.2.2.2.2.2.2.1 N m v3 v6) hb_ hb0_ rfl rfl q971 q972 q973 q85 q974 hdX2_isLive (Nat.le_of_ble_eq_true rfl) (Nat.le_of_ble_eq_true rfl) rfl (Nat.le_of_ble_eq_true rfl) dX1_areAlike_51 54 rfl rfl hen_i (kk_i (fun x1 m1 k1 n1 => ?_)) (kx_n he_i)
        refine s_if_eq C dX1_areAlike_54 68 rfl 57 rfl (fun c_ => ?_) (fun c_ => ?_)
        · refine Sm_sub [0, 1, 3] rfl ?_
          exact wX1_areAlike_b68 C hret h0 hin N (fun m v3 v4 v5 v6 k n => ih m v3 v4 v5 v6 k n) _ _ _ _ _ _
        · refine s_aload_n C rfl 0 rfl dX1_areAlike_57 58 rfl ?_
          refine s_aload C 1 rfl dX1_areAlike_58 60 rfl ?_
          refine s_iload C 3 rfl dX1_areAlike_60 62 rfl ?_
          refine x_callS (enc := en_i) C 19 3 [vr_ v3, vr_ v4, vi_ v6] (ctX1_areAlikeIn C.2.2.2.2.2.2.2.2.1 N m1 v3 v4 v6) q3036 q3037 q81 q3038 hdX1_areAlikeIn (Nat.le_of_ble_eq_true rfl) (Nat.le_of_ble_eq_true rfl) rfl (Nat.le_of_ble_eq_true rfl) dX1_areAlike_62 65 rfl rfl hen_i (kk_i (fun x2 m2 k1 n1 => ?_)) (kx_n he_i)
          refine s_if_eq C dX1_areAlike_65 72 rfl 68 rfl (fun c_ => ?_) (fun c_ => ?_)
          · refine s_iconst C 0 rfl dX1_areAlike_72 73 rfl ?_
            refine Sm_sub [0, 1, 3] rfl ?_
            exact wX1_areAlike_b73 C hret h0 hin N (fun m v3 v4 v5 v6 k n => ih m v3 v4 v5 v6 k n) _ _ _ _ _ _ _
          · refine Sm_sub [0, 1, 3] rfl ?_
            exact wX1_areAlike_b68 C hret h0 hin N (fun m v3 v4 v5 v6 k n => ih m v3 v4 v5 v6 k n) _ _ _ _ _ _
    · refine Sm_sub [2] rfl ?_
      exact wX1_areAlike_b81 C hret h0 hin N _ _ _ _
theorem wX1_areAlike_b31 {l : Launch} {g : GG} {E : Me_} (C : Cx_ l g E "MasterTree" cX1_areAlike 7 20) (hret : (eT_ E).sig.returnType = (Option.some Jvm.ClassFile.FieldType.boolean)) (h0 : ∀ x ∈ (eC_ E).exceptionTable.toList, False) (hin : (eT_ E).name = "areAlike") (N : Nat) : ∀ (m : Mm) (v3 : Option Nat) (v4 : Option Nat) (s0 : Int32) (k n : Nat), Sm_ l g E 7 (xe_ en_i) (fX1_areAlike_b31 (gE_ g) N m v3 v4 s0) k n 31 [(3, vr_ v3), (4, vr_ v4)] [vi_ s0] m := by
  intro m v3 v4 s0 k n
  unfold fX1_areAlike_b31
  refine s_istore C (Nat.le_of_ble_eq_true rfl) [0, 1] rfl rfl dX1_areAlike_31 33 rfl ?_
  refine s_iconst C 0 rfl dX1_areAlike_33 34 rfl ?_
  refine s_istore C (Nat.le_of_ble_eq_true rfl) [0, 1, 2] rfl rfl dX1_areAlike_34 36 rfl ?_
  refine Sm_sub [2, 3, 1, 0] rfl ?_
  exact wX1_areAlike_b36 C hret h0 hin N N _ _ _ _ _ _ _
theorem wX1_areAlike {l : Launch} {g : GG} {E : Me_} (C : Cx_ l g E "MasterTree" cX1_areAlike 7 20) (hret : (eT_ E).sig.returnType = (Option.some Jvm.ClassFile.FieldType.boolean)) (h0 : ∀ x ∈ (eC_ E).exceptionTable.toList, False) (hin : (eT_ E).name = "areAlike") (N : Nat) : ∀ (m : Mm) (v0 : Option Nat) (v1 : Int32) (v2 : Int32) (k n : Nat), Sm_ l g E 7 (xe_ en_i) (fX1_areAlike (gE_ g) N m v0 v1 v2) k n 0 [(0, vr_ v0), (1, vi_ v1), (2, vi_ v2)] [] m := by
  intro m v0 v1 v2 k n
  unfold fX1_areAlike
  refine s_aload_n C rfl 0 rfl dX1_areAlike_0 1 rfl ?_
  refine s_iload_n C rfl 1 rfl dX1_areAlike_1 2 rfl ?_
  refine x_ck (fun hb_ hb0_ => ?_)
  refine x_callV (enc := (xe_ en_r)) C 17 1 [vi_ v1] 1 (ctX1_at C.2.2.2.2.2.2.2.2.1 N m v0 v1) hb_ hb0_ rfl rfl q934 q936 qs5 q81 q937 hdX1_at (Nat.le_of_ble_eq_true rfl) (Nat.le_of_ble_eq_true rfl) rfl (Nat.le_of_ble_eq_true rfl) dX1_areAlike_2 5 rfl rfl (hen_x hen_r) (kk_x (kk_r (fun x1 m1 k1 n1 => ?_))) (kx_x C h0 he_r)
  refine s_astore_n C rfl (Nat.le_of_ble_eq_true rfl) [0, 2] rfl rfl dX1_areAlike_5 6 rfl ?_
  refine s_aload_n C rfl 1 rfl dX1_areAlike_6 7 rfl ?_
  refine s_iload_n C rfl 2 rfl dX1_areAlike_7 8 rfl ?_
  refine x_ck (fun hb_ hb0_ => ?_)
  refine x_callV (enc := (xe_ en_r)) C 17 1 [vi_ v2] 1 (ctX1_at C.2.2.2.2.2.2.2.2.1 N m1 v0 v2) hb_ hb0_ rfl rfl q934 q936 qs5 q81 q937 hdX1_at (Nat.le_of_ble_eq_true rfl) (Nat.le_of_ble_eq_true rfl) rfl (Nat.le_of_ble_eq_true rfl) dX1_areAlike_8 11 rfl rfl (hen_x hen_r) (kk_x (kk_r (fun x2 m2 k1 n1 => ?_))) (kx_x C h0 he_r)
  refine s_astore C (Nat.le_of_ble_eq_true rfl) [0] rfl rfl dX1_areAlike_11 13 rfl ?_
  refine s_aload_n C rfl 1 rfl dX1_areAlike_13 14 rfl ?_
  refine x_ck (fun hb_ hb0_ => ?_)
  refine x_callV (enc := en_j) C 12 0 [] 2 (ctX2_liveOnes C.2.2.2.2.2.2.2.2.1 N m2 x1) hb_ hb0_ rfl rfl q2916 q2776 q2777 q85 q2778 hdX2_liveOnes (Nat.le_of_ble_eq_true rfl) (Nat.le_of_ble_eq_true rfl) rfl (Nat.le_of_ble_eq_true rfl) dX1_areAlike_14 17 rfl rfl hen_j (kk_j (fun x3 m3 k1 n1 => ?_)) (kx_n he_j)
  refine s_aload C 0 rfl dX1_areAlike_17 19 rfl ?_
  refine x_ck (fun hb_ hb0_ => ?_)
  refine x_callV (enc := en_j) C 12 0 [] 2 (ctX2_liveOnes C.2.2.2.2.2.2.2.2.1 N m3 x2) hb_ hb0_ rfl rfl q2916 q2776 q2777 q85 q2778 hdX2_liveOnes (Nat.le_of_ble_eq_true rfl) (Nat.le_of_ble_eq_true rfl) rfl (Nat.le_of_ble_eq_true rfl) dX1_areAlike_19 22 rfl rfl hen_j (kk_j (fun x4 m4 k1 n1 => ?_)) (kx_n he_j)
  refine s_lcmp C dX1_areAlike_22 23 rfl ?_
  refine s_if_ne C dX1_areAlike_23 30 rfl 26 rfl (fun c_ => ?_) (fun c_ => ?_)
  · refine s_iconst C 1 rfl dX1_areAlike_26 27 rfl ?_
    refine s_goto C (off := 4) 31 dX1_areAlike_27 rfl ?_
    refine Sm_sub [1, 0] rfl ?_
    exact wX1_areAlike_b31 C hret h0 hin N _ _ _ _ _ _
  · refine s_iconst C 0 rfl dX1_areAlike_30 31 rfl ?_
    refine Sm_sub [1, 0] rfl ?_
    exact wX1_areAlike_b31 C hret h0 hin N _ _ _ _ _ _
theorem hdX1_areAlike : ((⟨"MasterTree", "areAlike", "(II)Z"⟩ : MethodName)).cls ≠ "java/lang/invoke/MethodHandle" ∧ ((⟨"MasterTree", "areAlike", "(II)Z"⟩ : MethodName)).cls ≠ "java/lang/invoke/VarHandle" ∧ (parseMethodDescriptor ((⟨"MasterTree", "areAlike", "(II)Z"⟩ : MethodName)).desc).map (fun d => d.parameters.length) = some 2 := ⟨by decide +kernel, by decide +kernel, by decide +kernel⟩
theorem ctX1_areAlike {l : Launch} {g : GG} (hst : l.stackTraces = false) (N : Nat) (m : Mm) (v0 : Option Nat) (v1 : Int32) (v2 : Int32) : ∀ v m' k n, fX1_areAlike (gE_ g) N m v0 v1 v2 = some (v, m', k, n) → Ct_ l g (⟨"MasterTree", "areAlike", "(II)Z"⟩ : MethodName) (ws_ (⟨"MasterTree", "areAlike", "(II)Z"⟩ : MethodName) cX1_areAlike 7 (Option.some Jvm.ClassFile.FieldType.boolean)) 20 [vr_ v0, vi_ v1, vi_ v2] m ((xe_ en_i) v) m' k n :=
  Ct_of (by decide +kernel) rfl hst (Nat.le_of_ble_eq_true rfl) rfl (fun E C hret h0 hin => wX1_areAlike C hret h0 hin N m v0 v1 v2 0 0)
theorem wX0_areAlike_b16 {l : Launch} {g : GG} {E : Me_} (C : Cx_ l g E "MasterTreeLaw" cX0_areAlike 5 21) (hret : (eT_ E).sig.returnType = (Option.some Jvm.ClassFile.FieldType.int)) (h0 : (eC_ E).exceptionTable.toList = tableOf [(0, 17, 20, 19)]) (hin : (eT_ E).name = "areAlike") (N : Nat) : ∀ (m : Mm) (s0 : Option Nat) (s1 : Int32) (s2 : Int64) (k n : Nat), Sm_ l g E 5 en_i (fX0_areAlike_b16 (gE_ g) N m s0 s1 s2) k n 16 [] [vj_ s2, vi_ s1, vr_ s0] m := by
  intro m s0 s1 s2 k n
  unfold fX0_areAlike_b16
  refine x_bj3 C 203 rfl dX0_areAlike_16 17 rfl (fun m1 => ?_)
  refine s_goto C (off := 7) 24 dX0_areAlike_17 rfl ?_
  refine s_iconst C 0 rfl dX0_areAlike_24 25 rfl ?_
  exact x_iret C hret rfl dX0_areAlike_25
theorem wX0_areAlike {l : Launch} {g : GG} {E : Me_} (C : Cx_ l g E "MasterTreeLaw" cX0_areAlike 5 21) (hret : (eT_ E).sig.returnType = (Option.some Jvm.ClassFile.FieldType.int)) (h0 : (eC_ E).exceptionTable.toList = tableOf [(0, 17, 20, 19)]) (hin : (eT_ E).name = "areAlike") (N : Nat) : ∀ (m : Mm) (v0 : Option Nat) (v1 : Int32) (v2 : Int32) (v3 : Option Nat) (k n : Nat), Sm_ l g E 5 en_i (fX0_areAlike (gE_ g) N m v0 v1 v2 v3) k n 0 [(0, vr_ v0), (1, vi_ v1), (2, vi_ v2), (3, vr_ v3)] [] m := by
  intro m v0 v1 v2 v3 k n
  unfold fX0_areAlike
  refine s_aload_n C rfl 3 rfl dX0_areAlike_0 1 rfl ?_
  refine s_iconst C 0 rfl dX0_areAlike_1 2 rfl ?_
  refine s_aload_n C rfl 0 rfl dX0_areAlike_2 3 rfl ?_
  refine s_iload_n C rfl 1 rfl dX0_areAlike_3 4 rfl ?_
  refine s_iload_n C rfl 2 rfl dX0_areAlike_4 5 rfl ?_
  refine x_ck (fun hb_ hb0_ => ?_)
  refine x_callV (enc := (xe_ en_i)) C 20 2 [vi_ v1, vi_ v2] 1 (ctX1_areAlike C.2.2.2.2.2.2.2.2.1 N m v0 v1 v2) hb_ hb0_ rfl rfl q3032 q3033 q3034 q81 q3035 hdX1_areAlike (Nat.le_of_ble_eq_true rfl) (Nat.le_of_ble_eq_true rfl) rfl (Nat.le_of_ble_eq_true rfl) dX0_areAlike_5 8 rfl rfl (hen_x hen_i) (kk_c (kk_i (fun x1 m1 k1 n1 => ?_))) (kx_c he_i (fun i_ m0 k0 n0 => ?_))
  · refine s_if_eq C dX0_areAlike_8 15 rfl 11 rfl (fun c_ => ?_) (fun c_ => ?_)
    · refine s_lconst C 0 rfl dX0_areAlike_15 16 rfl ?_
      refine Sm_sub [] rfl ?_
      exact wX0_areAlike_b16 C hret h0 hin N _ _ _ _ _ _
    · refine s_lconst C 1 rfl dX0_areAlike_11 12 rfl ?_
      refine s_goto C (off := 4) 16 dX0_areAlike_12 rfl ?_
      refine Sm_sub [] rfl ?_
      exact wX0_areAlike_b16 C hret h0 hin N _ _ _ _ _ _
  · refine Sx_if ?_ ?_
    · refine Sx_ctch C h0 0 [] ({ startPc := 0, endPc := 17, handlerPc := 20, catchType := 19 } : ExceptionTableEntry) [] rfl (fun z hz => by cases hz) (by decide) (by decide) q600 q638 20 rfl (fun q_ => ?_)
      refine s_astore C (Nat.le_of_ble_eq_true rfl) [] rfl rfl dX0_areAlike_20 22 rfl ?_
      refine s_iconst C 1 rfl dX0_areAlike_22 23 rfl ?_
      exact x_iret C hret rfl dX0_areAlike_23
    exact Sx_none
theorem hdX0_areAlike : ((⟨"MasterTreeLaw", "areAlike", "(LMasterTree;II[J)I"⟩ : MethodName)).cls ≠ "java/lang/invoke/MethodHandle" ∧ ((⟨"MasterTreeLaw", "areAlike", "(LMasterTree;II[J)I"⟩ : MethodName)).cls ≠ "java/lang/invoke/VarHandle" ∧ (parseMethodDescriptor ((⟨"MasterTreeLaw", "areAlike", "(LMasterTree;II[J)I"⟩ : MethodName)).desc).map (fun d => d.parameters.length) = some 4 := ⟨by decide +kernel, by decide +kernel, by decide +kernel⟩
theorem ctX0_areAlike {l : Launch} {g : GG} (hst : l.stackTraces = false) (N : Nat) (m : Mm) (v0 : Option Nat) (v1 : Int32) (v2 : Int32) (v3 : Option Nat) : ∀ v m' k n, fX0_areAlike (gE_ g) N m v0 v1 v2 v3 = some (v, m', k, n) → Ct_ l g (⟨"MasterTreeLaw", "areAlike", "(LMasterTree;II[J)I"⟩ : MethodName) (wsW_ (⟨"MasterTreeLaw", "areAlike", "(LMasterTree;II[J)I"⟩ : MethodName) cX0_areAlike 5 (Option.some Jvm.ClassFile.FieldType.int) [(0, 17, 20, 19)]) 21 [vr_ v0, vi_ v1, vi_ v2, vr_ v3] m (en_i v) m' k n :=
  Ct_ofW (by decide +kernel) rfl hst (Nat.le_of_ble_eq_true rfl) rfl (fun E C hret h0 hin => wX0_areAlike C hret h0 hin N m v0 v1 v2 v3 0 0)
theorem wX4_init {l : Launch} {g : GG} {E : Me_} (C : Cx_ l g E "MasterTreeModel" cX4_init 1 10) (hret : (eT_ E).sig.returnType = (Option.none : Option Jvm.ClassFile.FieldType)) (h0 : ∀ x ∈ (eC_ E).exceptionTable.toList, False) (hin : (eT_ E).name = "<init>") (N : Nat) : ∀ (m : Mm) (v0 : Option Nat) (k n : Nat), Sm_ l g E 1 en_v (fX4_init (gE_ g) N m v0) k n 0 [(0, vr_ v0)] [] m := by
  intro m v0 k n
  unfold fX4_init
  refine s_aload_n C rfl 0 rfl dX4_init_0 1 rfl ?_
  refine x_ok (fun hb_ => ?_)
  refine x_obj C hb_ q3154 q152 q153 (by decide) (Nat.le_of_ble_eq_true rfl) dX4_init_1 4 rfl ?_
  refine s_aload_n C rfl 0 rfl dX4_init_4 5 rfl ?_
  refine s_bipush C 10 rfl dX4_init_5 7 rfl ?_
  refine x_naZ C dX4_init_7 9 rfl (fun x1 m1 => ?_)
  refine x_prF C hin 3 (RX4, TX4, 67) rfl 2 (Nat.le_of_ble_eq_true rfl) rfl q3157 rfl rfl trivial 4 rfl dX4_init_9 12 rfl (fun m2 => ?_)
  refine s_aload_n C rfl 0 rfl dX4_init_12 13 rfl ?_
  refine s_bipush C 10 rfl dX4_init_13 15 rfl ?_
  refine x_naZ C dX4_init_15 17 rfl (fun x2 m3 => ?_)
  refine x_prF C hin 3 (RX4, TX4, 67) rfl 3 (Nat.le_of_ble_eq_true rfl) rfl q3158 rfl rfl trivial 4 rfl dX4_init_17 20 rfl (fun m4 => ?_)
  refine s_aload_n C rfl 0 rfl dX4_init_20 21 rfl ?_
  refine s_bipush C 8 rfl dX4_init_21 23 rfl ?_
  refine x_naI C dX4_init_23 25 rfl (fun x3 m5 => ?_)
  refine x_prF C hin 3 (RX4, TX4, 67) rfl 5 (Nat.le_of_ble_eq_true rfl) rfl q3160 rfl rfl trivial 4 rfl dX4_init_25 28 rfl (fun m6 => ?_)
  refine s_aload_n C rfl 0 rfl dX4_init_28 29 rfl ?_
  refine s_bipush C 8 rfl dX4_init_29 31 rfl ?_
  refine x_naI C dX4_init_31 33 rfl (fun x4 m7 => ?_)
  refine x_prF C hin 3 (RX4, TX4, 67) rfl 6 (Nat.le_of_ble_eq_true rfl) rfl q3161 rfl rfl trivial 4 rfl dX4_init_33 36 rfl (fun m8 => ?_)
  refine s_aload_n C rfl 0 rfl dX4_init_36 37 rfl ?_
  refine s_bipush C 8 rfl dX4_init_37 39 rfl ?_
  refine x_naI C dX4_init_39 41 rfl (fun x5 m9 => ?_)
  refine x_prF C hin 3 (RX4, TX4, 67) rfl 7 (Nat.le_of_ble_eq_true rfl) rfl q3162 rfl rfl trivial 4 rfl dX4_init_41 44 rfl (fun m10 => ?_)
  refine s_aload_n C rfl 0 rfl dX4_init_44 45 rfl ?_
  refine s_bipush C 12 rfl dX4_init_45 47 rfl ?_
  refine x_naI C dX4_init_47 49 rfl (fun x6 m11 => ?_)
  refine x_prF C hin 3 (RX4, TX4, 67) rfl 9 (Nat.le_of_ble_eq_true rfl) rfl q3164 rfl rfl trivial 4 rfl dX4_init_49 52 rfl (fun m12 => ?_)
  refine s_aload_n C rfl 0 rfl dX4_init_52 53 rfl ?_
  refine s_bipush C 12 rfl dX4_init_53 55 rfl ?_
  refine x_naI C dX4_init_55 57 rfl (fun x7 m13 => ?_)
  refine x_prF C hin 3 (RX4, TX4, 67) rfl 10 (Nat.le_of_ble_eq_true rfl) rfl q3165 rfl rfl trivial 4 rfl dX4_init_57 60 rfl (fun m14 => ?_)
  refine s_aload_n C rfl 0 rfl dX4_init_60 61 rfl ?_
  refine s_bipush C 15 rfl dX4_init_61 63 rfl ?_
  refine x_naI C dX4_init_63 65 rfl (fun x8 m15 => ?_)
  refine x_prF C hin 3 (RX4, TX4, 67) rfl 12 (Nat.le_of_ble_eq_true rfl) rfl q3167 rfl rfl trivial 4 rfl dX4_init_65 68 rfl (fun m16 => ?_)
  refine s_aload_n C rfl 0 rfl dX4_init_68 69 rfl ?_
  refine s_bipush C 15 rfl dX4_init_69 71 rfl ?_
  refine x_naI C dX4_init_71 73 rfl (fun x9 m17 => ?_)
  refine x_prF C hin 3 (RX4, TX4, 67) rfl 13 (Nat.le_of_ble_eq_true rfl) rfl q3168 rfl rfl trivial 4 rfl dX4_init_73 76 rfl (fun m18 => ?_)
  refine s_aload_n C rfl 0 rfl dX4_init_76 77 rfl ?_
  refine s_bipush C 15 rfl dX4_init_77 79 rfl ?_
  refine x_naI C dX4_init_79 81 rfl (fun x10 m19 => ?_)
  refine x_prF C hin 3 (RX4, TX4, 67) rfl 14 (Nat.le_of_ble_eq_true rfl) rfl q3169 rfl rfl trivial 4 rfl dX4_init_81 84 rfl (fun m20 => ?_)
  refine s_aload_n C rfl 0 rfl dX4_init_84 85 rfl ?_
  refine s_bipush C 15 rfl dX4_init_85 87 rfl ?_
  refine x_naZ C dX4_init_87 89 rfl (fun x11 m21 => ?_)
  refine x_prF C hin 3 (RX4, TX4, 67) rfl 15 (Nat.le_of_ble_eq_true rfl) rfl q3170 rfl rfl trivial 4 rfl dX4_init_89 92 rfl (fun m22 => ?_)
  refine s_aload_n C rfl 0 rfl dX4_init_92 93 rfl ?_
  refine s_bipush C 8 rfl dX4_init_93 95 rfl ?_
  refine x_naI C dX4_init_95 97 rfl (fun x12 m23 => ?_)
  refine x_prF C hin 3 (RX4, TX4, 67) rfl 17 (Nat.le_of_ble_eq_true rfl) rfl q3172 rfl rfl trivial 4 rfl dX4_init_97 100 rfl (fun m24 => ?_)
  refine s_aload_n C rfl 0 rfl dX4_init_100 101 rfl ?_
  refine s_iconst C 4 rfl dX4_init_101 102 rfl ?_
  refine x_naI C dX4_init_102 104 rfl (fun x13 m25 => ?_)
  refine x_prF C hin 3 (RX4, TX4, 67) rfl 18 (Nat.le_of_ble_eq_true rfl) rfl q3173 rfl rfl trivial 4 rfl dX4_init_104 107 rfl (fun m26 => ?_)
  refine s_aload_n C rfl 0 rfl dX4_init_107 108 rfl ?_
  refine s_bipush C 64 rfl dX4_init_108 110 rfl ?_
  refine x_naI C dX4_init_110 112 rfl (fun x14 m27 => ?_)
  refine x_prF C hin 3 (RX4, TX4, 67) rfl 19 (Nat.le_of_ble_eq_true rfl) rfl q3174 rfl rfl trivial 4 rfl dX4_init_112 115 rfl (fun m28 => ?_)
  refine s_aload_n C rfl 0 rfl dX4_init_115 116 rfl ?_
  refine s_sipush C 192 rfl dX4_init_116 119 rfl ?_
  refine x_naZ C dX4_init_119 121 rfl (fun x15 m29 => ?_)
  refine x_prF C hin 3 (RX4, TX4, 67) rfl 20 (Nat.le_of_ble_eq_true rfl) rfl q3175 rfl rfl trivial 4 rfl dX4_init_121 124 rfl (fun m30 => ?_)
  refine s_aload_n C rfl 0 rfl dX4_init_124 125 rfl ?_
  refine s_iconst C 1 rfl dX4_init_125 126 rfl ?_
  refine x_pi C 3 (RX4, TX4, 67) rfl 21 (Nat.le_of_ble_eq_true rfl) rfl q3176 (Or.inl rfl) rfl trivial 4 rfl dX4_init_126 129 rfl (fun m31 => ?_)
  refine s_aload_n C rfl 0 rfl dX4_init_129 130 rfl ?_
  refine s_sipush C 250 rfl dX4_init_130 133 rfl ?_
  refine x_naI C dX4_init_133 135 rfl (fun x16 m32 => ?_)
  refine x_prF C hin 3 (RX4, TX4, 67) rfl 23 (Nat.le_of_ble_eq_true rfl) rfl q3178 rfl rfl trivial 4 rfl dX4_init_135 138 rfl (fun m33 => ?_)
  refine s_aload_n C rfl 0 rfl dX4_init_138 139 rfl ?_
  refine s_sipush C 250 rfl dX4_init_139 142 rfl ?_
  refine x_naI C dX4_init_142 144 rfl (fun x17 m34 => ?_)
  refine x_prF C hin 3 (RX4, TX4, 67) rfl 24 (Nat.le_of_ble_eq_true rfl) rfl q3179 rfl rfl trivial 4 rfl dX4_init_144 147 rfl (fun m35 => ?_)
  refine s_aload_n C rfl 0 rfl dX4_init_147 148 rfl ?_
  refine s_sipush C 250 rfl dX4_init_148 151 rfl ?_
  refine x_naI C dX4_init_151 153 rfl (fun x18 m36 => ?_)
  refine x_prF C hin 3 (RX4, TX4, 67) rfl 25 (Nat.le_of_ble_eq_true rfl) rfl q3180 rfl rfl trivial 4 rfl dX4_init_153 156 rfl (fun m37 => ?_)
  refine s_aload_n C rfl 0 rfl dX4_init_156 157 rfl ?_
  refine s_sipush C 250 rfl dX4_init_157 160 rfl ?_
  refine x_naI C dX4_init_160 162 rfl (fun x19 m38 => ?_)
  refine x_prF C hin 3 (RX4, TX4, 67) rfl 26 (Nat.le_of_ble_eq_true rfl) rfl q3181 rfl rfl trivial 4 rfl dX4_init_162 165 rfl (fun m39 => ?_)
  refine s_aload_n C rfl 0 rfl dX4_init_165 166 rfl ?_
  refine s_sipush C 250 rfl dX4_init_166 169 rfl ?_
  refine x_naI C dX4_init_169 171 rfl (fun x20 m40 => ?_)
  refine x_prF C hin 3 (RX4, TX4, 67) rfl 27 (Nat.le_of_ble_eq_true rfl) rfl q3182 rfl rfl trivial 4 rfl dX4_init_171 174 rfl (fun m41 => ?_)
  refine s_aload_n C rfl 0 rfl dX4_init_174 175 rfl ?_
  refine s_sipush C 250 rfl dX4_init_175 178 rfl ?_
  refine x_naI C dX4_init_178 180 rfl (fun x21 m42 => ?_)
  refine x_prF C hin 3 (RX4, TX4, 67) rfl 28 (Nat.le_of_ble_eq_true rfl) rfl q3183 rfl rfl trivial 4 rfl dX4_init_180 183 rfl (fun m43 => ?_)
  refine s_aload_n C rfl 0 rfl dX4_init_183 184 rfl ?_
  refine s_sipush C 250 rfl dX4_init_184 187 rfl ?_
  refine x_naI C dX4_init_187 189 rfl (fun x22 m44 => ?_)
  refine x_prF C hin 3 (RX4, TX4, 67) rfl 29 (Nat.le_of_ble_eq_true rfl) rfl q3184 rfl rfl trivial 4 rfl dX4_init_189 192 rfl (fun m45 => ?_)
  refine s_aload_n C rfl 0 rfl dX4_init_192 193 rfl ?_
  refine s_sipush C 250 rfl dX4_init_193 196 rfl ?_
  refine x_naI C dX4_init_196 198 rfl (fun x23 m46 => ?_)
  refine x_prF C hin 3 (RX4, TX4, 67) rfl 30 (Nat.le_of_ble_eq_true rfl) rfl q3185 rfl rfl trivial 4 rfl dX4_init_198 201 rfl (fun m47 => ?_)
  refine s_aload_n C rfl 0 rfl dX4_init_201 202 rfl ?_
  refine s_sipush C 250 rfl dX4_init_202 205 rfl ?_
  refine x_naI C dX4_init_205 207 rfl (fun x24 m48 => ?_)
  refine x_prF C hin 3 (RX4, TX4, 67) rfl 32 (Nat.le_of_ble_eq_true rfl) rfl q3187 rfl rfl trivial 4 rfl dX4_init_207 210 rfl (fun m49 => ?_)
  refine s_aload_n C rfl 0 rfl dX4_init_210 211 rfl ?_
  refine s_sipush C 250 rfl dX4_init_211 214 rfl ?_
  refine x_naI C dX4_init_214 216 rfl (fun x25 m50 => ?_)
  refine x_prF C hin 3 (RX4, TX4, 67) rfl 33 (Nat.le_of_ble_eq_true rfl) rfl q3188 rfl rfl trivial 4 rfl dX4_init_216 219 rfl (fun m51 => ?_)
  refine s_aload_n C rfl 0 rfl dX4_init_219 220 rfl ?_
  refine s_sipush C 600 rfl dX4_init_220 223 rfl ?_
  refine x_naI C dX4_init_223 225 rfl (fun x26 m52 => ?_)
  refine x_prF C hin 3 (RX4, TX4, 67) rfl 34 (Nat.le_of_ble_eq_true rfl) rfl q3189 rfl rfl trivial 4 rfl dX4_init_225 228 rfl (fun m53 => ?_)
  refine s_aload_n C rfl 0 rfl dX4_init_228 229 rfl ?_
  refine s_sipush C 600 rfl dX4_init_229 232 rfl ?_
  refine x_naI C dX4_init_232 234 rfl (fun x27 m54 => ?_)
  refine x_prF C hin 3 (RX4, TX4, 67) rfl 35 (Nat.le_of_ble_eq_true rfl) rfl q3190 rfl rfl trivial 4 rfl dX4_init_234 237 rfl (fun m55 => ?_)
  refine s_aload_n C rfl 0 rfl dX4_init_237 238 rfl ?_
  refine s_sipush C 250 rfl dX4_init_238 241 rfl ?_
  refine x_naI C dX4_init_241 243 rfl (fun x28 m56 => ?_)
  refine x_prF C hin 3 (RX4, TX4, 67) rfl 36 (Nat.le_of_ble_eq_true rfl) rfl q3191 rfl rfl trivial 4 rfl dX4_init_243 246 rfl (fun m57 => ?_)
  refine s_aload_n C rfl 0 rfl dX4_init_246 247 rfl ?_
  refine s_iconst C (-1) rfl dX4_init_247 248 rfl ?_
  refine x_pi C 3 (RX4, TX4, 67) rfl 37 (Nat.le_of_ble_eq_true rfl) rfl q3192 (Or.inl rfl) rfl trivial 4 rfl dX4_init_248 251 rfl (fun m58 => ?_)
  refine s_aload_n C rfl 0 rfl dX4_init_251 252 rfl ?_
  refine s_bipush C 48 rfl dX4_init_252 254 rfl ?_
  refine x_naZ C dX4_init_254 256 rfl (fun x29 m59 => ?_)
  refine x_prF C hin 3 (RX4, TX4, 67) rfl 38 (Nat.le_of_ble_eq_true rfl) rfl q3193 rfl rfl trivial 4 rfl dX4_init_256 259 rfl (fun m60 => ?_)
  refine s_aload_n C rfl 0 rfl dX4_init_259 260 rfl ?_
  refine s_bipush C 48 rfl dX4_init_260 262 rfl ?_
  refine x_naZ C dX4_init_262 264 rfl (fun x30 m61 => ?_)
  refine x_prF C hin 3 (RX4, TX4, 67) rfl 39 (Nat.le_of_ble_eq_true rfl) rfl q3194 rfl rfl trivial 4 rfl dX4_init_264 267 rfl (fun m62 => ?_)
  refine s_aload_n C rfl 0 rfl dX4_init_267 268 rfl ?_
  refine s_bipush C 48 rfl dX4_init_268 270 rfl ?_
  refine x_naI C dX4_init_270 272 rfl (fun x31 m63 => ?_)
  refine x_prF C hin 3 (RX4, TX4, 67) rfl 40 (Nat.le_of_ble_eq_true rfl) rfl q3195 rfl rfl trivial 4 rfl dX4_init_272 275 rfl (fun m64 => ?_)
  refine s_aload_n C rfl 0 rfl dX4_init_275 276 rfl ?_
  refine s_bipush C 48 rfl dX4_init_276 278 rfl ?_
  refine x_naI C dX4_init_278 280 rfl (fun x32 m65 => ?_)
  refine x_prF C hin 3 (RX4, TX4, 67) rfl 41 (Nat.le_of_ble_eq_true rfl) rfl q3196 rfl rfl trivial 4 rfl dX4_init_280 283 rfl (fun m66 => ?_)
  refine s_aload_n C rfl 0 rfl dX4_init_283 284 rfl ?_
  refine s_bipush C 48 rfl dX4_init_284 286 rfl ?_
  refine x_naI C dX4_init_286 288 rfl (fun x33 m67 => ?_)
  refine x_prF C hin 3 (RX4, TX4, 67) rfl 42 (Nat.le_of_ble_eq_true rfl) rfl q3197 rfl rfl trivial 4 rfl dX4_init_288 291 rfl (fun m68 => ?_)
  refine s_aload_n C rfl 0 rfl dX4_init_291 292 rfl ?_
  refine s_bipush C 48 rfl dX4_init_292 294 rfl ?_
  refine x_naI C dX4_init_294 296 rfl (fun x34 m69 => ?_)
  refine x_prF C hin 3 (RX4, TX4, 67) rfl 43 (Nat.le_of_ble_eq_true rfl) rfl q3198 rfl rfl trivial 4 rfl dX4_init_296 299 rfl (fun m70 => ?_)
  refine s_aload_n C rfl 0 rfl dX4_init_299 300 rfl ?_
  refine s_bipush C 48 rfl dX4_init_300 302 rfl ?_
  refine x_naI C dX4_init_302 304 rfl (fun x35 m71 => ?_)
  refine x_prF C hin 3 (RX4, TX4, 67) rfl 44 (Nat.le_of_ble_eq_true rfl) rfl q3199 rfl rfl trivial 4 rfl dX4_init_304 307 rfl (fun m72 => ?_)
  refine s_aload_n C rfl 0 rfl dX4_init_307 308 rfl ?_
  refine s_bipush C 48 rfl dX4_init_308 310 rfl ?_
  refine x_naI C dX4_init_310 312 rfl (fun x36 m73 => ?_)
  refine x_prF C hin 3 (RX4, TX4, 67) rfl 45 (Nat.le_of_ble_eq_true rfl) rfl q3200 rfl rfl trivial 4 rfl dX4_init_312 315 rfl (fun m74 => ?_)
  refine s_aload_n C rfl 0 rfl dX4_init_315 316 rfl ?_
  refine s_bipush C 48 rfl dX4_init_316 318 rfl ?_
  refine x_naI C dX4_init_318 320 rfl (fun x37 m75 => ?_)
  refine x_prF C hin 3 (RX4, TX4, 67) rfl 46 (Nat.le_of_ble_eq_true rfl) rfl q3201 rfl rfl trivial 4 rfl dX4_init_320 323 rfl (fun m76 => ?_)
  refine s_aload_n C rfl 0 rfl dX4_init_323 324 rfl ?_
  refine s_sipush C 900 rfl dX4_init_324 327 rfl ?_
  refine x_naI C dX4_init_327 329 rfl (fun x38 m77 => ?_)
  refine x_prF C hin 3 (RX4, TX4, 67) rfl 48 (Nat.le_of_ble_eq_true rfl) rfl q3203 rfl rfl trivial 4 rfl dX4_init_329 332 rfl (fun m78 => ?_)
  refine s_aload_n C rfl 0 rfl dX4_init_332 333 rfl ?_
  refine s_sipush C 900 rfl dX4_init_333 336 rfl ?_
  refine x_naI C dX4_init_336 338 rfl (fun x39 m79 => ?_)
  refine x_prF C hin 3 (RX4, TX4, 67) rfl 49 (Nat.le_of_ble_eq_true rfl) rfl q3204 rfl rfl trivial 4 rfl dX4_init_338 341 rfl (fun m80 => ?_)
  refine s_aload_n C rfl 0 rfl dX4_init_341 342 rfl ?_
  refine s_sipush C 900 rfl dX4_init_342 345 rfl ?_
  refine x_naI C dX4_init_345 347 rfl (fun x40 m81 => ?_)
  refine x_prF C hin 3 (RX4, TX4, 67) rfl 50 (Nat.le_of_ble_eq_true rfl) rfl q3205 rfl rfl trivial 4 rfl dX4_init_347 350 rfl (fun m82 => ?_)
  refine s_aload_n C rfl 0 rfl dX4_init_350 351 rfl ?_
  refine s_sipush C 15840 rfl dX4_init_351 354 rfl ?_
  refine x_naI C dX4_init_354 356 rfl (fun x41 m83 => ?_)
  refine x_prF C hin 3 (RX4, TX4, 67) rfl 51 (Nat.le_of_ble_eq_true rfl) rfl q3206 rfl rfl trivial 4 rfl dX4_init_356 359 rfl (fun m84 => ?_)
  refine s_aload_n C rfl 0 rfl dX4_init_359 360 rfl ?_
  refine s_sipush C 192 rfl dX4_init_360 363 rfl ?_
  refine x_naI C dX4_init_363 365 rfl (fun x42 m85 => ?_)
  refine x_prF C hin 3 (RX4, TX4, 67) rfl 53 (Nat.le_of_ble_eq_true rfl) rfl q3208 rfl rfl trivial 4 rfl dX4_init_365 368 rfl (fun m86 => ?_)
  refine s_aload_n C rfl 0 rfl dX4_init_368 369 rfl ?_
  refine s_sipush C 400 rfl dX4_init_369 372 rfl ?_
  refine x_naI C dX4_init_372 374 rfl (fun x43 m87 => ?_)
  refine x_prF C hin 3 (RX4, TX4, 67) rfl 55 (Nat.le_of_ble_eq_true rfl) rfl q3210 rfl rfl trivial 4 rfl dX4_init_374 377 rfl (fun m88 => ?_)
  refine s_aload_n C rfl 0 rfl dX4_init_377 378 rfl ?_
  refine s_sipush C 192 rfl dX4_init_378 381 rfl ?_
  refine x_naZ C dX4_init_381 383 rfl (fun x44 m89 => ?_)
  refine x_prF C hin 3 (RX4, TX4, 67) rfl 56 (Nat.le_of_ble_eq_true rfl) rfl q3211 rfl rfl trivial 4 rfl dX4_init_383 386 rfl (fun m90 => ?_)
  refine s_aload_n C rfl 0 rfl dX4_init_386 387 rfl ?_
  refine s_bipush C 48 rfl dX4_init_387 389 rfl ?_
  refine x_naZ C dX4_init_389 391 rfl (fun x45 m91 => ?_)
  refine x_prF C hin 3 (RX4, TX4, 67) rfl 57 (Nat.le_of_ble_eq_true rfl) rfl q3212 rfl rfl trivial 4 rfl dX4_init_391 394 rfl (fun m92 => ?_)
  refine s_aload_n C rfl 0 rfl dX4_init_394 395 rfl ?_
  refine s_bipush C 48 rfl dX4_init_395 397 rfl ?_
  refine x_naI C dX4_init_397 399 rfl (fun x46 m93 => ?_)
  refine x_prF C hin 3 (RX4, TX4, 67) rfl 58 (Nat.le_of_ble_eq_true rfl) rfl q3213 rfl rfl trivial 4 rfl dX4_init_399 402 rfl (fun m94 => ?_)
  refine s_aload_n C rfl 0 rfl dX4_init_402 403 rfl ?_
  refine s_bipush C 48 rfl dX4_init_403 405 rfl ?_
  refine x_naI C dX4_init_405 407 rfl (fun x47 m95 => ?_)
  refine x_prF C hin 3 (RX4, TX4, 67) rfl 59 (Nat.le_of_ble_eq_true rfl) rfl q3214 rfl rfl trivial 4 rfl dX4_init_407 410 rfl (fun m96 => ?_)
  refine s_aload_n C rfl 0 rfl dX4_init_410 411 rfl ?_
  refine s_bipush C 48 rfl dX4_init_411 413 rfl ?_
  refine x_naI C dX4_init_413 415 rfl (fun x48 m97 => ?_)
  refine x_prF C hin 3 (RX4, TX4, 67) rfl 60 (Nat.le_of_ble_eq_true rfl) rfl q3215 rfl rfl trivial 4 rfl dX4_init_415 418 rfl (fun m98 => ?_)
  refine s_aload_n C rfl 0 rfl dX4_init_418 419 rfl ?_
  refine s_bipush C 48 rfl dX4_init_419 421 rfl ?_
  refine x_naI C dX4_init_421 423 rfl (fun x49 m99 => ?_)
  refine x_prF C hin 3 (RX4, TX4, 67) rfl 61 (Nat.le_of_ble_eq_true rfl) rfl q3216 rfl rfl trivial 4 rfl dX4_init_423 426 rfl (fun m100 => ?_)
  refine s_aload_n C rfl 0 rfl dX4_init_426 427 rfl ?_
  refine s_sipush C 900 rfl dX4_init_427 430 rfl ?_
  refine x_naI C dX4_init_430 432 rfl (fun x50 m101 => ?_)
  refine x_prF C hin 3 (RX4, TX4, 67) rfl 63 (Nat.le_of_ble_eq_true rfl) rfl q3218 rfl rfl trivial 4 rfl dX4_init_432 435 rfl (fun m102 => ?_)
  refine s_aload_n C rfl 0 rfl dX4_init_435 436 rfl ?_
  refine s_sipush C 900 rfl dX4_init_436 439 rfl ?_
  refine x_naI C dX4_init_439 441 rfl (fun x51 m103 => ?_)
  refine x_prF C hin 3 (RX4, TX4, 67) rfl 64 (Nat.le_of_ble_eq_true rfl) rfl q3219 rfl rfl trivial 4 rfl dX4_init_441 444 rfl (fun m104 => ?_)
  refine s_aload_n C rfl 0 rfl dX4_init_444 445 rfl ?_
  refine s_sipush C 900 rfl dX4_init_445 448 rfl ?_
  refine x_naI C dX4_init_448 450 rfl (fun x52 m105 => ?_)
  refine x_prF C hin 3 (RX4, TX4, 67) rfl 65 (Nat.le_of_ble_eq_true rfl) rfl q3220 rfl rfl trivial 4 rfl dX4_init_450 453 rfl (fun m106 => ?_)
  refine s_aload_n C rfl 0 rfl dX4_init_453 454 rfl ?_
  refine s_sipush C 15840 rfl dX4_init_454 457 rfl ?_
  refine x_naI C dX4_init_457 459 rfl (fun x53 m107 => ?_)
  refine x_prF C hin 3 (RX4, TX4, 67) rfl 66 (Nat.le_of_ble_eq_true rfl) rfl q3221 rfl rfl trivial 4 rfl dX4_init_459 462 rfl (fun m108 => ?_)
  exact x_vret C hret rfl dX4_init_462
theorem hdX4_init : ((⟨"MasterTreeModel", "<init>", "()V"⟩ : MethodName)).cls ≠ "java/lang/invoke/MethodHandle" ∧ ((⟨"MasterTreeModel", "<init>", "()V"⟩ : MethodName)).cls ≠ "java/lang/invoke/VarHandle" ∧ (parseMethodDescriptor ((⟨"MasterTreeModel", "<init>", "()V"⟩ : MethodName)).desc).map (fun d => d.parameters.length) = some 0 := ⟨by decide +kernel, by decide +kernel, by decide +kernel⟩
theorem ctX4_init {l : Launch} {g : GG} (hst : l.stackTraces = false) (N : Nat) (m : Mm) (v0 : Option Nat) : ∀ v m' k n, fX4_init (gE_ g) N m v0 = some (v, m', k, n) → Ct_ l g (⟨"MasterTreeModel", "<init>", "()V"⟩ : MethodName) (ws_ (⟨"MasterTreeModel", "<init>", "()V"⟩ : MethodName) cX4_init 1 (Option.none : Option Jvm.ClassFile.FieldType)) 10 [vr_ v0] m (en_v v) m' k n :=
  Ct_of (by decide +kernel) rfl hst (Nat.le_of_ble_eq_true rfl) rfl (fun E C hret h0 hin => wX4_init C hret h0 hin N m v0 0 0)
theorem wX1_init_b77 {l : Launch} {g : GG} {E : Me_} (C : Cx_ l g E "MasterTree" cX1_init 2 16) (hret : (eT_ E).sig.returnType = (Option.none : Option Jvm.ClassFile.FieldType)) (h0 : ∀ x ∈ (eC_ E).exceptionTable.toList, False) (hin : (eT_ E).name = "<init>") (N : Nat) : ∀ (F : Nat) (m : Mm) (v0 : Option Nat) (v1 : Int32) (k n : Nat), Sm_ l g E 2 en_v (fX1_init_b77 (gE_ g) N F m v0 v1) k n 77 [(0, vr_ v0), (1, vi_ v1)] [] m := by
  intro F
  induction F with
  | zero => intros; exact Sm_none
  | succ F ih =>
    intro m v0 v1 k n
    unfold fX1_init_b77
    refine s_iload_n C rfl 1 rfl dX1_init_77 78 rfl ?_
    refine s_iconst C 4 rfl dX1_init_78 79 rfl ?_
    refine s_icmp_ge C dX1_init_79 114 rfl 82 rfl (fun c_ => ?_) (fun c_ => ?_)
    · refine s_aload_n C rfl 0 rfl dX1_init_82 83 rfl ?_
      refine x_gr C 0 (RX1, TX1, 9) rfl 2 (Nat.le_of_ble_eq_true rfl) q448 (Or.inl rfl) rfl 1 rfl dX1_init_83 86 rfl (fun x1 => ?_)
      refine x_nw C 1 (RX2, TX2, 12) rfl q183 q184 q85 2 12 rfl rfl dX1_init_86 89 rfl (fun x2 m1 => ?_)
      refine s_dup C rfl dX1_init_89 90 rfl ?_
      refine s_iload_n C rfl 1 rfl dX1_init_90 91 rfl ?_
      refine s_aload_n C rfl 0 rfl dX1_init_91 92 rfl ?_
      refine x_gr C 0 (RX1, TX1, 9) rfl 0 (Nat.le_of_ble_eq_true rfl) q445 (Or.inl rfl) rfl 1 rfl dX1_init_92 95 rfl (fun x3 => ?_)
      refine s_aload_n C rfl 0 rfl dX1_init_95 96 rfl ?_
      refine x_gr C 0 (RX1, TX1, 9) rfl 1 (Nat.le_of_ble_eq_true rfl) q446 (Or.inl rfl) rfl 1 rfl dX1_init_96 99 rfl (fun x4 => ?_)
      refine x_callI (enc := en_v) C 14 3 [vi_ v1, vr_ x3, vr_ x4] (ctX2_init C.2.2.2.2.2.2.2.2.1 N m1 (some x2) v1 x3 x4) (fun h => by cases h) rfl q185 q186 q85 q187 rfl hdX2_init (Nat.le_of_ble_eq_true rfl) (Nat.le_of_ble_eq_true rfl) rfl (Nat.le_of_ble_eq_true rfl) dX1_init_99 102 rfl rfl hen_v (kk_v (fun m2 k1 n1 => ?_)) (kx_n he_v)
      refine x_ck (fun hb_ hb0_ => ?_)
      refine x_callF (enc := en_i) C 15 1 [vr_ (some x2)] 13 (ctJ2_add C.2.2.2.2.2.2.2.2.1 N m2 x1 (some x2)) hb_ hb0_ rfl rfl rfl fw_0 q346 q350 q352 q84 q354 hx0 (Nat.le_of_ble_eq_true rfl) (Nat.le_of_ble_eq_true rfl) rfl (Nat.le_of_ble_eq_true rfl) dX1_init_102 107 rfl rfl hen_i (kk_i (fun x5 m3 k1 n1 => ?_)) (kx_n he_i)
      refine s_pop C rfl dX1_init_107 108 rfl ?_
      refine s_iinc C 1 rfl 1 rfl (Nat.le_of_ble_eq_true rfl) [0] rfl rfl dX1_init_108 111 rfl ?_
      refine s_goto C (off := -34) 77 dX1_init_111 rfl ?_
      refine Sm_sub [1, 0] rfl ?_
      exact ih _ _ _ _ _
    · exact x_vret C hret rfl dX1_init_114
theorem wX1_init {l : Launch} {g : GG} {E : Me_} (C : Cx_ l g E "MasterTree" cX1_init 2 16) (hret : (eT_ E).sig.returnType = (Option.none : Option Jvm.ClassFile.FieldType)) (h0 : ∀ x ∈ (eC_ E).exceptionTable.toList, False) (hin : (eT_ E).name = "<init>") (N : Nat) : ∀ (m : Mm) (v0 : Option Nat) (k n : Nat), Sm_ l g E 2 en_v (fX1_init (gE_ g) N m v0) k n 0 [(0, vr_ v0)] [] m := by
  intro m v0 k n
  unfold fX1_init
  refine s_aload_n C rfl 0 rfl dX1_init_0 1 rfl ?_
  refine x_ok (fun hb_ => ?_)
  refine x_obj C hb_ q151 q152 q153 (by decide) (Nat.le_of_ble_eq_true rfl) dX1_init_1 4 rfl ?_
  refine s_aload_n C rfl 0 rfl dX1_init_4 5 rfl ?_
  refine x_nw C 12 (RJ2, TJ2, 3) rfl q154 q155 q84 13 3 rfl rfl dX1_init_5 8 rfl (fun x1 m1 => ?_)
  refine s_dup C rfl dX1_init_8 9 rfl ?_
  refine x_callI (enc := en_v) C 12 0 [] (ctJ2_init C.2.2.2.2.2.2.2.2.1 N m1 (some x1)) (fun h => by cases h) rfl q156 q157 q84 q158 rfl hdJ2_init (Nat.le_of_ble_eq_true rfl) (Nat.le_of_ble_eq_true rfl) rfl (Nat.le_of_ble_eq_true rfl) dX1_init_9 12 rfl rfl hen_v (kk_v (fun m2 k1 n1 => ?_)) (kx_n he_v)
  refine x_prF C hin 0 (RX1, TX1, 9) rfl 0 (Nat.le_of_ble_eq_true rfl) rfl q445 rfl rfl trivial 1 rfl dX1_init_12 15 rfl (fun m3 => ?_)
  refine s_aload_n C rfl 0 rfl dX1_init_15 16 rfl ?_
  refine x_nw C 12 (RJ2, TJ2, 3) rfl q154 q155 q84 13 3 rfl rfl dX1_init_16 19 rfl (fun x2 m4 => ?_)
  refine s_dup C rfl dX1_init_19 20 rfl ?_
  refine x_callI (enc := en_v) C 12 0 [] (ctJ2_init C.2.2.2.2.2.2.2.2.1 N m4 (some x2)) (fun h => by cases h) rfl q156 q157 q84 q158 rfl hdJ2_init (Nat.le_of_ble_eq_true rfl) (Nat.le_of_ble_eq_true rfl) rfl (Nat.le_of_ble_eq_true rfl) dX1_init_20 23 rfl rfl hen_v (kk_v (fun m5 k1 n1 => ?_)) (kx_n he_v)
  refine x_prF C hin 0 (RX1, TX1, 9) rfl 1 (Nat.le_of_ble_eq_true rfl) rfl q446 rfl rfl trivial 1 rfl dX1_init_23 26 rfl (fun m6 => ?_)
  refine s_aload_n C rfl 0 rfl dX1_init_26 27 rfl ?_
  refine x_nw C 12 (RJ2, TJ2, 3) rfl q154 q155 q84 13 3 rfl rfl dX1_init_27 30 rfl (fun x3 m7 => ?_)
  refine s_dup C rfl dX1_init_30 31 rfl ?_
  refine x_callI (enc := en_v) C 12 0 [] (ctJ2_init C.2.2.2.2.2.2.2.2.1 N m7 (some x3)) (fun h => by cases h) rfl q156 q157 q84 q158 rfl hdJ2_init (Nat.le_of_ble_eq_true rfl) (Nat.le_of_ble_eq_true rfl) rfl (Nat.le_of_ble_eq_true rfl) dX1_init_31 34 rfl rfl hen_v (kk_v (fun m8 k1 n1 => ?_)) (kx_n he_v)
  refine x_prF C hin 0 (RX1, TX1, 9) rfl 2 (Nat.le_of_ble_eq_true rfl) rfl q448 rfl rfl trivial 1 rfl dX1_init_34 37 rfl (fun m9 => ?_)
  refine s_aload_n C rfl 0 rfl dX1_init_37 38 rfl ?_
  refine x_nw C 12 (RJ2, TJ2, 3) rfl q154 q155 q84 13 3 rfl rfl dX1_init_38 41 rfl (fun x4 m10 => ?_)
  refine s_dup C rfl dX1_init_41 42 rfl ?_
  refine x_callI (enc := en_v) C 12 0 [] (ctJ2_init C.2.2.2.2.2.2.2.2.1 N m10 (some x4)) (fun h => by cases h) rfl q156 q157 q84 q158 rfl hdJ2_init (Nat.le_of_ble_eq_true rfl) (Nat.le_of_ble_eq_true rfl) rfl (Nat.le_of_ble_eq_true rfl) dX1_init_42 45 rfl rfl hen_v (kk_v (fun m11 k1 n1 => ?_)) (kx_n he_v)
  refine x_prF C hin 0 (RX1, TX1, 9) rfl 3 (Nat.le_of_ble_eq_true rfl) rfl q449 rfl rfl trivial 1 rfl dX1_init_45 48 rfl (fun m12 => ?_)
  refine s_aload_n C rfl 0 rfl dX1_init_48 49 rfl ?_
  refine x_nw C 12 (RJ2, TJ2, 3) rfl q154 q155 q84 13 3 rfl rfl dX1_init_49 52 rfl (fun x5 m13 => ?_)
  refine s_dup C rfl dX1_init_52 53 rfl ?_
  refine x_callI (enc := en_v) C 12 0 [] (ctJ2_init C.2.2.2.2.2.2.2.2.1 N m13 (some x5)) (fun h => by cases h) rfl q156 q157 q84 q158 rfl hdJ2_init (Nat.le_of_ble_eq_true rfl) (Nat.le_of_ble_eq_true rfl) rfl (Nat.le_of_ble_eq_true rfl) dX1_init_53 56 rfl rfl hen_v (kk_v (fun m14 k1 n1 => ?_)) (kx_n he_v)
  refine x_prF C hin 0 (RX1, TX1, 9) rfl 4 (Nat.le_of_ble_eq_true rfl) rfl q450 rfl rfl trivial 1 rfl dX1_init_56 59 rfl (fun m15 => ?_)
  refine s_aload_n C rfl 0 rfl dX1_init_59 60 rfl ?_
  refine s_iconst C 1 rfl dX1_init_60 61 rfl ?_
  refine x_pi C 0 (RX1, TX1, 9) rfl 6 (Nat.le_of_ble_eq_true rfl) rfl q452 (Or.inl rfl) rfl trivial 1 rfl dX1_init_61 64 rfl (fun m16 => ?_)
  refine s_aload_n C rfl 0 rfl dX1_init_64 65 rfl ?_
  refine x_nw C 12 (RJ2, TJ2, 3) rfl q154 q155 q84 13 3 rfl rfl dX1_init_65 68 rfl (fun x6 m17 => ?_)
  refine s_dup C rfl dX1_init_68 69 rfl ?_
  refine x_callI (enc := en_v) C 12 0 [] (ctJ2_init C.2.2.2.2.2.2.2.2.1 N m17 (some x6)) (fun h => by cases h) rfl q156 q157 q84 q158 rfl hdJ2_init (Nat.le_of_ble_eq_true rfl) (Nat.le_of_ble_eq_true rfl) rfl (Nat.le_of_ble_eq_true rfl) dX1_init_69 72 rfl rfl hen_v (kk_v (fun m18 k1 n1 => ?_)) (kx_n he_v)
  refine x_prF C hin 0 (RX1, TX1, 9) rfl 8 (Nat.le_of_ble_eq_true rfl) rfl q455 rfl rfl trivial 1 rfl dX1_init_72 75 rfl (fun m19 => ?_)
  refine s_iconst C 0 rfl dX1_init_75 76 rfl ?_
  refine s_istore_n C rfl (Nat.le_of_ble_eq_true rfl) [0] rfl rfl dX1_init_76 77 rfl ?_
  refine Sm_sub [1, 0] rfl ?_
  exact wX1_init_b77 C hret h0 hin N N _ _ _ _ _
theorem hdX1_init : ((⟨"MasterTree", "<init>", "()V"⟩ : MethodName)).cls ≠ "java/lang/invoke/MethodHandle" ∧ ((⟨"MasterTree", "<init>", "()V"⟩ : MethodName)).cls ≠ "java/lang/invoke/VarHandle" ∧ (parseMethodDescriptor ((⟨"MasterTree", "<init>", "()V"⟩ : MethodName)).desc).map (fun d => d.parameters.length) = some 0 := ⟨by decide +kernel, by decide +kernel, by decide +kernel⟩
theorem ctX1_init {l : Launch} {g : GG} (hst : l.stackTraces = false) (N : Nat) (m : Mm) (v0 : Option Nat) : ∀ v m' k n, fX1_init (gE_ g) N m v0 = some (v, m', k, n) → Ct_ l g (⟨"MasterTree", "<init>", "()V"⟩ : MethodName) (ws_ (⟨"MasterTree", "<init>", "()V"⟩ : MethodName) cX1_init 2 (Option.none : Option Jvm.ClassFile.FieldType)) 16 [vr_ v0] m (en_v v) m' k n :=
  Ct_of (by decide +kernel) rfl hst (Nat.le_of_ble_eq_true rfl) rfl (fun E C hret h0 hin => wX1_init C hret h0 hin N m v0 0 0)
theorem wX1_undraft {l : Launch} {g : GG} {E : Me_} (C : Cx_ l g E "MasterTree" cX1_undraft 2 11) (hret : (eT_ E).sig.returnType = (Option.some Jvm.ClassFile.FieldType.int)) (h0 : ∀ x ∈ (eC_ E).exceptionTable.toList, False) (hin : (eT_ E).name = "undraft") (N : Nat) : ∀ (m : Mm) (v0 : Option Nat) (k n : Nat), Sm_ l g E 2 en_i (fX1_undraft (gE_ g) N m v0) k n 0 [(0, vr_ v0)] [] m := by
  intro m v0 k n
  unfold fX1_undraft
  refine s_aload_n C rfl 0 rfl dX1_undraft_0 1 rfl ?_
  refine x_gr C 0 (RX1, TX1, 9) rfl 3 (Nat.le_of_ble_eq_true rfl) q449 (Or.inl rfl) rfl 1 rfl dX1_undraft_1 4 rfl (fun x1 => ?_)
  refine x_ck (fun hb_ hb0_ => ?_)
  refine x_callF (enc := en_i) C 10 0 [] 13 (ctJ2_size C.2.2.2.2.2.2.2.2.1 N m x1) hb_ hb0_ rfl rfl rfl fw_1 q480 q483 q485 q84 q487 hx1 (Nat.le_of_ble_eq_true rfl) (Nat.le_of_ble_eq_true rfl) rfl (Nat.le_of_ble_eq_true rfl) dX1_undraft_4 9 rfl rfl hen_i (kk_i (fun x2 m1 k1 n1 => ?_)) (kx_n he_i)
  refine s_istore_n C rfl (Nat.le_of_ble_eq_true rfl) [0] rfl rfl dX1_undraft_9 10 rfl ?_
  refine s_aload_n C rfl 1 rfl dX1_undraft_10 11 rfl ?_
  refine x_gr C 0 (RX1, TX1, 9) rfl 3 (Nat.le_of_ble_eq_true rfl) q449 (Or.inl rfl) rfl 1 rfl dX1_undraft_11 14 rfl (fun x3 => ?_)
  refine x_ck (fun hb_ hb0_ => ?_)
  refine x_callF (enc := en_v) C 10 0 [] 13 (ctJ2_clear C.2.2.2.2.2.2.2.2.1 N m1 x3) hb_ hb0_ rfl rfl rfl fw_2 q489 q492 q494 q84 q496 hx4 (Nat.le_of_ble_eq_true rfl) (Nat.le_of_ble_eq_true rfl) rfl (Nat.le_of_ble_eq_true rfl) dX1_undraft_14 19 rfl rfl hen_v (kk_v (fun m2 k1 n1 => ?_)) (kx_n he_v)
  refine s_iload_n C rfl 0 rfl dX1_undraft_19 20 rfl ?_
  exact x_iret C hret rfl dX1_undraft_20
theorem hdX1_undraft : ((⟨"MasterTree", "undraft", "()I"⟩ : MethodName)).cls ≠ "java/lang/invoke/MethodHandle" ∧ ((⟨"MasterTree", "undraft", "()I"⟩ : MethodName)).cls ≠ "java/lang/invoke/VarHandle" ∧ (parseMethodDescriptor ((⟨"MasterTree", "undraft", "()I"⟩ : MethodName)).desc).map (fun d => d.parameters.length) = some 0 := ⟨by decide +kernel, by decide +kernel, by decide +kernel⟩
theorem ctX1_undraft {l : Launch} {g : GG} (hst : l.stackTraces = false) (N : Nat) (m : Mm) (v0 : Option Nat) : ∀ v m' k n, fX1_undraft (gE_ g) N m v0 = some (v, m', k, n) → Ct_ l g (⟨"MasterTree", "undraft", "()I"⟩ : MethodName) (ws_ (⟨"MasterTree", "undraft", "()I"⟩ : MethodName) cX1_undraft 2 (Option.some Jvm.ClassFile.FieldType.int)) 11 [vr_ v0] m (en_i v) m' k n :=
  Ct_of (by decide +kernel) rfl hst (Nat.le_of_ble_eq_true rfl) rfl (fun E C hret h0 hin => wX1_undraft C hret h0 hin N m v0 0 0)
theorem wX1_wipe {l : Launch} {g : GG} {E : Me_} (C : Cx_ l g E "MasterTree" cX1_wipe 2 11) (hret : (eT_ E).sig.returnType = (Option.some Jvm.ClassFile.FieldType.int)) (h0 : ∀ x ∈ (eC_ E).exceptionTable.toList, False) (hin : (eT_ E).name = "wipe") (N : Nat) : ∀ (m : Mm) (v0 : Option Nat) (k n : Nat), Sm_ l g E 2 en_i (fX1_wipe (gE_ g) N m v0) k n 0 [(0, vr_ v0)] [] m := by
  intro m v0 k n
  unfold fX1_wipe
  refine s_aload_n C rfl 0 rfl dX1_wipe_0 1 rfl ?_
  refine x_gi C 0 (RX1, TX1, 9) rfl 5 (Nat.le_of_ble_eq_true rfl) q451 (Or.inl rfl) rfl 1 rfl dX1_wipe_1 4 rfl (fun x1 => ?_)
  refine s_istore_n C rfl (Nat.le_of_ble_eq_true rfl) [0] rfl rfl dX1_wipe_4 5 rfl ?_
  refine s_aload_n C rfl 1 rfl dX1_wipe_5 6 rfl ?_
  refine x_gr C 0 (RX1, TX1, 9) rfl 4 (Nat.le_of_ble_eq_true rfl) q450 (Or.inl rfl) rfl 1 rfl dX1_wipe_6 9 rfl (fun x2 => ?_)
  refine x_ck (fun hb_ hb0_ => ?_)
  refine x_callF (enc := en_v) C 10 0 [] 13 (ctJ2_clear C.2.2.2.2.2.2.2.2.1 N m x2) hb_ hb0_ rfl rfl rfl fw_2 q489 q492 q494 q84 q496 hx4 (Nat.le_of_ble_eq_true rfl) (Nat.le_of_ble_eq_true rfl) rfl (Nat.le_of_ble_eq_true rfl) dX1_wipe_9 14 rfl rfl hen_v (kk_v (fun m1 k1 n1 => ?_)) (kx_n he_v)
  refine s_aload_n C rfl 1 rfl dX1_wipe_14 15 rfl ?_
  refine s_iconst C 0 rfl dX1_wipe_15 16 rfl ?_
  refine x_pi C 0 (RX1, TX1, 9) rfl 5 (Nat.le_of_ble_eq_true rfl) rfl q451 (Or.inl rfl) rfl trivial 1 rfl dX1_wipe_16 19 rfl (fun m2 => ?_)
  refine s_iload_n C rfl 0 rfl dX1_wipe_19 20 rfl ?_
  exact x_iret C hret rfl dX1_wipe_20
theorem hdX1_wipe : ((⟨"MasterTree", "wipe", "()I"⟩ : MethodName)).cls ≠ "java/lang/invoke/MethodHandle" ∧ ((⟨"MasterTree", "wipe", "()I"⟩ : MethodName)).cls ≠ "java/lang/invoke/VarHandle" ∧ (parseMethodDescriptor ((⟨"MasterTree", "wipe", "()I"⟩ : MethodName)).desc).map (fun d => d.parameters.length) = some 0 := ⟨by decide +kernel, by decide +kernel, by decide +kernel⟩
theorem ctX1_wipe {l : Launch} {g : GG} (hst : l.stackTraces = false) (N : Nat) (m : Mm) (v0 : Option Nat) : ∀ v m' k n, fX1_wipe (gE_ g) N m v0 = some (v, m', k, n) → Ct_ l g (⟨"MasterTree", "wipe", "()I"⟩ : MethodName) (ws_ (⟨"MasterTree", "wipe", "()I"⟩ : MethodName) cX1_wipe 2 (Option.some Jvm.ClassFile.FieldType.int)) 11 [vr_ v0] m (en_i v) m' k n :=
  Ct_of (by decide +kernel) rfl hst (Nat.le_of_ble_eq_true rfl) rfl (fun E C hret h0 hin => wX1_wipe C hret h0 hin N m v0 0 0)
theorem wX11_among_b44 {l : Launch} {g : GG} {E : Me_} (C : Cx_ l g E "MasterTree$Combined" cX11_among 2 35) (hret : (eT_ E).sig.returnType = (Option.some Jvm.ClassFile.FieldType.long)) (h0 : ∀ x ∈ (eC_ E).exceptionTable.toList, False) (hin : (eT_ E).name = "among") (N : Nat) : ∀ (m : Mm) (s0 : Int64) (k n : Nat), Sm_ l g E 2 en_j (fX11_among_b44 (gE_ g) N m s0) k n 44 [] [vj_ s0] m := by
  intro m s0 k n
  unfold fX11_among_b44
  exact x_lret C hret rfl dX11_among_44
theorem wX11_among {l : Launch} {g : GG} {E : Me_} (C : Cx_ l g E "MasterTree$Combined" cX11_among 2 35) (hret : (eT_ E).sig.returnType = (Option.some Jvm.ClassFile.FieldType.long)) (h0 : ∀ x ∈ (eC_ E).exceptionTable.toList, False) (hin : (eT_ E).name = "among") (N : Nat) : ∀ (m : Mm) (v0 : Option Nat) (v1 : Option Nat) (k n : Nat), Sm_ l g E 2 en_j (fX11_among (gE_ g) N m v0 v1) k n 0 [(0, vr_ v0), (1, vr_ v1)] [] m := by
  intro m v0 v1 k n
  unfold fX11_among
  refine s_aload_n C rfl 0 rfl dX11_among_0 1 rfl ?_
  refine x_gi C 9 (RX11, TX11, 3) rfl 2 (Nat.le_of_ble_eq_true rfl) q2642 (Or.inl rfl) rfl 10 rfl dX11_among_1 4 rfl (fun x1 => ?_)
  refine s_if_eq C dX11_among_4 27 rfl 7 rfl (fun c_ => ?_) (fun c_ => ?_)
  · refine s_aload_n C rfl 0 rfl dX11_among_27 28 rfl ?_
    refine x_gr C 9 (RX11, TX11, 3) rfl 0 (Nat.le_of_ble_eq_true rfl) q2640 (Or.inl rfl) rfl 10 rfl dX11_among_28 31 rfl (fun x2 => ?_)
    refine s_aload_n C rfl 1 rfl dX11_among_31 32 rfl ?_
    refine x_wj [] 35 (fun kk_ => ?_) (fun x3 m1 k1 n1 => ?_)
    · refine x_csr (kd := 8) (fun hb_ hb0_ => ?_) ?_
      · exact x_callA (enc := en_j) (owner := "MasterTree$Filter") C 19 1 [vr_ v1] 8 (ctX9_among C.2.2.2.2.2.2.2.2.1 N m x2 v1) hb_ hb0_ rfl rfl q2772 q2688 q2701 q2702 q139 q2703 q2687 ⟨by decide +kernel, by decide +kernel, by decide +kernel⟩ (Nat.le_of_ble_eq_true rfl) (Nat.le_of_ble_eq_true rfl) rfl (Nat.le_of_ble_eq_true rfl) dX11_among_32 35 rfl rfl hen_j (kk_j kk_) (kx_n he_j)
      refine x_csr (kd := 9) (fun hb_ hb0_ => ?_) ?_
      · exact x_callA (enc := en_j) (owner := "MasterTree$Filter") C 13 1 [vr_ v1] 9 (ctX10_among C.2.2.2.2.2.2.2.2.1 N m x2 v1) hb_ hb0_ rfl rfl q2772 q2688 q2689 q2690 q140 q2691 q2687 ⟨by decide +kernel, by decide +kernel, by decide +kernel⟩ (Nat.le_of_ble_eq_true rfl) (Nat.le_of_ble_eq_true rfl) rfl (Nat.le_of_ble_eq_true rfl) dX11_among_32 35 rfl rfl hen_j (kk_j kk_) (kx_n he_j)
      refine x_csr (kd := 10) (fun hb_ hb0_ => ?_) ?_
      · exact x_callA (enc := en_j) (owner := "MasterTree$Filter") C 34 1 [vr_ v1] 10 (ctX11_among_d14 C.2.2.2.2.2.2.2.2.1 N m x2 v1) hb_ hb0_ rfl rfl q2772 q2688 q2769 q2770 q141 q2771 q2687 ⟨by decide +kernel, by decide +kernel, by decide +kernel⟩ (Nat.le_of_ble_eq_true rfl) (Nat.le_of_ble_eq_true rfl) rfl (Nat.le_of_ble_eq_true rfl) dX11_among_32 35 rfl rfl hen_j (kk_j kk_) (kx_n he_j)
      refine x_csr (kd := 11) (fun hb_ hb0_ => ?_) ?_
      · exact x_callA (enc := en_j) (owner := "MasterTree$Filter") C 34 1 [vr_ v1] 11 (ctX12_among_d14 C.2.2.2.2.2.2.2.2.1 N m x2 v1) hb_ hb0_ rfl rfl q2772 q2688 q2781 q2773 q142 q2774 q2687 ⟨by decide +kernel, by decide +kernel, by decide +kernel⟩ (Nat.le_of_ble_eq_true rfl) (Nat.le_of_ble_eq_true rfl) rfl (Nat.le_of_ble_eq_true rfl) dX11_among_32 35 rfl rfl hen_j (kk_j kk_) (kx_n he_j)
      exact Sm_bn
    refine s_aload_n C rfl 0 rfl dX11_among_35 36 rfl ?_
    refine x_gr C 9 (RX11, TX11, 3) rfl 1 (Nat.le_of_ble_eq_true rfl) q2641 (Or.inl rfl) rfl 10 rfl dX11_among_36 39 rfl (fun x8 => ?_)
    refine s_aload_n C rfl 1 rfl dX11_among_39 40 rfl ?_
    refine x_wj [vj_ x3] 43 (fun kk_ => ?_) (fun x9 m6 k1 n1 => ?_)
    · refine x_csr (kd := 8) (fun hb_ hb0_ => ?_) ?_
      · exact x_callA (enc := en_j) (owner := "MasterTree$Filter") C 19 1 [vr_ v1] 8 (ctX9_among C.2.2.2.2.2.2.2.2.1 N m1 x8 v1) hb_ hb0_ rfl rfl q2772 q2688 q2701 q2702 q139 q2703 q2687 ⟨by decide +kernel, by decide +kernel, by decide +kernel⟩ (Nat.le_of_ble_eq_true rfl) (Nat.le_of_ble_eq_true rfl) rfl (Nat.le_of_ble_eq_true rfl) dX11_among_40 43 rfl rfl hen_j (kk_j kk_) (kx_n he_j)
      refine x_csr (kd := 9) (fun hb_ hb0_ => ?_) ?_
      · exact x_callA (enc := en_j) (owner := "MasterTree$Filter") C 13 1 [vr_ v1] 9 (ctX10_among C.2.2.2.2.2.2.2.2.1 N m1 x8 v1) hb_ hb0_ rfl rfl q2772 q2688 q2689 q2690 q140 q2691 q2687 ⟨by decide +kernel, by decide +kernel, by decide +kernel⟩ (Nat.le_of_ble_eq_true rfl) (Nat.le_of_ble_eq_true rfl) rfl (Nat.le_of_ble_eq_true rfl) dX11_among_40 43 rfl rfl hen_j (kk_j kk_) (kx_n he_j)
      refine x_csr (kd := 10) (fun hb_ hb0_ => ?_) ?_
      · exact x_callA (enc := en_j) (owner := "MasterTree$Filter") C 34 1 [vr_ v1] 10 (ctX11_among_d14 C.2.2.2.2.2.2.2.2.1 N m1 x8 v1) hb_ hb0_ rfl rfl q2772 q2688 q2769 q2770 q141 q2771 q2687 ⟨by decide +kernel, by decide +kernel, by decide +kernel⟩ (Nat.le_of_ble_eq_true rfl) (Nat.le_of_ble_eq_true rfl) rfl (Nat.le_of_ble_eq_true rfl) dX11_among_40 43 rfl rfl hen_j (kk_j kk_) (kx_n he_j)
      refine x_csr (kd := 11) (fun hb_ hb0_ => ?_) ?_
      · exact x_callA (enc := en_j) (owner := "MasterTree$Filter") C 34 1 [vr_ v1] 11 (ctX12_among_d14 C.2.2.2.2.2.2.2.2.1 N m1 x8 v1) hb_ hb0_ rfl rfl q2772 q2688 q2781 q2773 q142 q2774 q2687 ⟨by decide +kernel, by decide +kernel, by decide +kernel⟩ (Nat.le_of_ble_eq_true rfl) (Nat.le_of_ble_eq_true rfl) rfl (Nat.le_of_ble_eq_true rfl) dX11_among_40 43 rfl rfl hen_j (kk_j kk_) (kx_n he_j)
      exact Sm_bn
    refine s_lor C dX11_among_43 44 rfl ?_
    refine Sm_sub [] rfl ?_
    exact wX11_among_b44 C hret h0 hin N _ _ _ _
  · refine s_aload_n C rfl 0 rfl dX11_among_7 8 rfl ?_
    refine x_gr C 9 (RX11, TX11, 3) rfl 0 (Nat.le_of_ble_eq_true rfl) q2640 (Or.inl rfl) rfl 10 rfl dX11_among_8 11 rfl (fun x14 => ?_)
    refine s_aload_n C rfl 1 rfl dX11_among_11 12 rfl ?_
    refine x_wj [] 15 (fun kk_ => ?_) (fun x15 m11 k1 n1 => ?_)
    · refine x_csr (kd := 8) (fun hb_ hb0_ => ?_) ?_
      · exact x_callA (enc := en_j) (owner := "MasterTree$Filter") C 19 1 [vr_ v1] 8 (ctX9_among C.2.2.2.2.2.2.2.2.1 N m x14 v1) hb_ hb0_ rfl rfl q2772 q2688 q2701 q2702 q139 q2703 q2687 ⟨by decide +kernel, by decide +kernel, by decide +kernel⟩ (Nat.le_of_ble_eq_true rfl) (Nat.le_of_ble_eq_true rfl) rfl (Nat.le_of_ble_eq_true rfl) dX11_among_12 15 rfl rfl hen_j (kk_j kk_) (kx_n he_j)
      refine x_csr (kd := 9) (fun hb_ hb0_ => ?_) ?_
      · exact x_callA (enc := en_j) (owner := "MasterTree$Filter") C 13 1 [vr_ v1] 9 (ctX10_among C.2.2.2.2.2.2.2.2.1 N m x14 v1) hb_ hb0_ rfl rfl q2772 q2688 q2689 q2690 q140 q2691 q2687 ⟨by decide +kernel, by decide +kernel, by decide +kernel⟩ (Nat.le_of_ble_eq_true rfl) (Nat.le_of_ble_eq_true rfl) rfl (Nat.le_of_ble_eq_true rfl) dX11_among_12 15 rfl rfl hen_j (kk_j kk_) (kx_n he_j)
      refine x_csr (kd := 10) (fun hb_ hb0_ => ?_) ?_
      · exact x_callA (enc := en_j) (owner := "MasterTree$Filter") C 34 1 [vr_ v1] 10 (ctX11_among_d14 C.2.2.2.2.2.2.2.2.1 N m x14 v1) hb_ hb0_ rfl rfl q2772 q2688 q2769 q2770 q141 q2771 q2687 ⟨by decide +kernel, by decide +kernel, by decide +kernel⟩ (Nat.le_of_ble_eq_true rfl) (Nat.le_of_ble_eq_true rfl) rfl (Nat.le_of_ble_eq_true rfl) dX11_among_12 15 rfl rfl hen_j (kk_j kk_) (kx_n he_j)
      refine x_csr (kd := 11) (fun hb_ hb0_ => ?_) ?_
      · exact x_callA (enc := en_j) (owner := "MasterTree$Filter") C 34 1 [vr_ v1] 11 (ctX12_among_d14 C.2.2.2.2.2.2.2.2.1 N m x14 v1) hb_ hb0_ rfl rfl q2772 q2688 q2781 q2773 q142 q2774 q2687 ⟨by decide +kernel, by decide +kernel, by decide +kernel⟩ (Nat.le_of_ble_eq_true rfl) (Nat.le_of_ble_eq_true rfl) rfl (Nat.le_of_ble_eq_true rfl) dX11_among_12 15 rfl rfl hen_j (kk_j kk_) (kx_n he_j)
      exact Sm_bn
    refine s_aload_n C rfl 0 rfl dX11_among_15 16 rfl ?_
    refine x_gr C 9 (RX11, TX11, 3) rfl 1 (Nat.le_of_ble_eq_true rfl) q2641 (Or.inl rfl) rfl 10 rfl dX11_among_16 19 rfl (fun x20 => ?_)
    refine s_aload_n C rfl 1 rfl dX11_among_19 20 rfl ?_
    refine x_wj [vj_ x15] 23 (fun kk_ => ?_) (fun x21 m16 k1 n1 => ?_)
    · refine x_csr (kd := 8) (fun hb_ hb0_ => ?_) ?_
      · exact x_callA (enc := en_j) (owner := "MasterTree$Filter") C 19 1 [vr_ v1] 8 (ctX9_among C.2.2.2.2.2.2.2.2.1 N m11 x20 v1) hb_ hb0_ rfl rfl q2772 q2688 q2701 q2702 q139 q2703 q2687 ⟨by decide +kernel, by decide +kernel, by decide +kernel⟩ (Nat.le_of_ble_eq_true rfl) (Nat.le_of_ble_eq_true rfl) rfl (Nat.le_of_ble_eq_true rfl) dX11_among_20 23 rfl rfl hen_j (kk_j kk_) (kx_n he_j)
      refine x_csr (kd := 9) (fun hb_ hb0_ => ?_) ?_
      · exact x_callA (enc := en_j) (owner := "MasterTree$Filter") C 13 1 [vr_ v1] 9 (ctX10_among C.2.2.2.2.2.2.2.2.1 N m11 x20 v1) hb_ hb0_ rfl rfl q2772 q2688 q2689 q2690 q140 q2691 q2687 ⟨by decide +kernel, by decide +kernel, by decide +kernel⟩ (Nat.le_of_ble_eq_true rfl) (Nat.le_of_ble_eq_true rfl) rfl (Nat.le_of_ble_eq_true rfl) dX11_among_20 23 rfl rfl hen_j (kk_j kk_) (kx_n he_j)
      refine x_csr (kd := 10) (fun hb_ hb0_ => ?_) ?_
      · exact x_callA (enc := en_j) (owner := "MasterTree$Filter") C 34 1 [vr_ v1] 10 (ctX11_among_d14 C.2.2.2.2.2.2.2.2.1 N m11 x20 v1) hb_ hb0_ rfl rfl q2772 q2688 q2769 q2770 q141 q2771 q2687 ⟨by decide +kernel, by decide +kernel, by decide +kernel⟩ (Nat.le_of_ble_eq_true rfl) (Nat.le_of_ble_eq_true rfl) rfl (Nat.le_of_ble_eq_true rfl) dX11_among_20 23 rfl rfl hen_j (kk_j kk_) (kx_n he_j)
      refine x_csr (kd := 11) (fun hb_ hb0_ => ?_) ?_
      · exact x_callA (enc := en_j) (owner := "MasterTree$Filter") C 34 1 [vr_ v1] 11 (ctX12_among_d14 C.2.2.2.2.2.2.2.2.1 N m11 x20 v1) hb_ hb0_ rfl rfl q2772 q2688 q2781 q2773 q142 q2774 q2687 ⟨by decide +kernel, by decide +kernel, by decide +kernel⟩ (Nat.le_of_ble_eq_true rfl) (Nat.le_of_ble_eq_true rfl) rfl (Nat.le_of_ble_eq_true rfl) dX11_among_20 23 rfl rfl hen_j (kk_j kk_) (kx_n he_j)
      exact Sm_bn
    refine s_land C dX11_among_23 24 rfl ?_
    refine s_goto C (off := 20) 44 dX11_among_24 rfl ?_
    refine Sm_sub [] rfl ?_
    exact wX11_among_b44 C hret h0 hin N _ _ _ _
theorem hdX11_among : ((⟨"MasterTree$Combined", "among", "(LMasterTree$Master;)J"⟩ : MethodName)).cls ≠ "java/lang/invoke/MethodHandle" ∧ ((⟨"MasterTree$Combined", "among", "(LMasterTree$Master;)J"⟩ : MethodName)).cls ≠ "java/lang/invoke/VarHandle" ∧ (parseMethodDescriptor ((⟨"MasterTree$Combined", "among", "(LMasterTree$Master;)J"⟩ : MethodName)).desc).map (fun d => d.parameters.length) = some 1 := ⟨by decide +kernel, by decide +kernel, by decide +kernel⟩
theorem ctX11_among {l : Launch} {g : GG} (hst : l.stackTraces = false) (N : Nat) (m : Mm) (v0 : Option Nat) (v1 : Option Nat) : ∀ v m' k n, fX11_among (gE_ g) N m v0 v1 = some (v, m', k, n) → Ct_ l g (⟨"MasterTree$Combined", "among", "(LMasterTree$Master;)J"⟩ : MethodName) (ws_ (⟨"MasterTree$Combined", "among", "(LMasterTree$Master;)J"⟩ : MethodName) cX11_among 2 (Option.some Jvm.ClassFile.FieldType.long)) 35 [vr_ v0, vr_ v1] m (en_j v) m' k n :=
  Ct_of (by decide +kernel) rfl hst (Nat.le_of_ble_eq_true rfl) rfl (fun E C hret h0 hin => wX11_among C hret h0 hin N m v0 v1 0 0)
theorem wX11_applies_b68 {l : Launch} {g : GG} {E : Me_} (C : Cx_ l g E "MasterTree$Combined" cX11_applies 3 35) (hret : (eT_ E).sig.returnType = (Option.some Jvm.ClassFile.FieldType.boolean)) (h0 : ∀ x ∈ (eC_ E).exceptionTable.toList, False) (hin : (eT_ E).name = "applies") (N : Nat) : ∀ (m : Mm) (s0 : Int32) (k n : Nat), Sm_ l g E 3 en_i (fX11_applies_b68 (gE_ g) N m s0) k n 68 [] [vi_ s0] m := by
  intro m s0 k n
  unfold fX11_applies_b68
  exact x_zret C hret rfl dX11_applies_68
theorem wX11_applies_b35 {l : Launch} {g : GG} {E : Me_} (C : Cx_ l g E "MasterTree$Combined" cX11_applies 3 35) (hret : (eT_ E).sig.returnType = (Option.some Jvm.ClassFile.FieldType.boolean)) (h0 : ∀ x ∈ (eC_ E).exceptionTable.toList, False) (hin : (eT_ E).name = "applies") (N : Nat) : ∀ (m : Mm) (k n : Nat), Sm_ l g E 3 en_i (fX11_applies_b35 (gE_ g) N m) k n 35 [] [] m := by
  intro m k n
  unfold fX11_applies_b35
  refine s_iconst C 0 rfl dX11_applies_35 36 rfl ?_
  refine s_goto C (off := 32) 68 dX11_applies_36 rfl ?_
  exact wX11_applies_b68 C hret h0 hin N _ _ _ _
theorem wX11_applies_b63 {l : Launch} {g : GG} {E : Me_} (C : Cx_ l g E "MasterTree$Combined" cX11_applies 3 35) (hret : (eT_ E).sig.returnType = (Option.some Jvm.ClassFile.FieldType.boolean)) (h0 : ∀ x ∈ (eC_ E).exceptionTable.toList, False) (hin : (eT_ E).name = "applies") (N : Nat) : ∀ (m : Mm) (k n : Nat), Sm_ l g E 3 en_i (fX11_applies_b63 (gE_ g) N m) k n 63 [] [] m := by
  intro m k n
  unfold fX11_applies_b63
  refine s_iconst C 1 rfl dX11_applies_63 64 rfl ?_
  refine s_goto C (off := 4) 68 dX11_applies_64 rfl ?_
  exact wX11_applies_b68 C hret h0 hin N _ _ _ _
theorem wX11_applies {l : Launch} {g : GG} {E : Me_} (C : Cx_ l g E "MasterTree$Combined" cX11_applies 3 35) (hret : (eT_ E).sig.returnType = (Option.some Jvm.ClassFile.FieldType.boolean)) (h0 : ∀ x ∈ (eC_ E).exceptionTable.toList, False) (hin : (eT_ E).name = "applies") (N : Nat) : ∀ (m : Mm) (v0 : Option Nat) (v1 : Option Nat) (v2 : Option Nat) (k n : Nat), Sm_ l g E 3 en_i (fX11_applies (gE_ g) N m v0 v1 v2) k n 0 [(0, vr_ v0), (1, vr_ v1), (2, vr_ v2)] [] m := by
  intro m v0 v1 v2 k n
  unfold fX11_applies
  refine s_aload_n C rfl 0 rfl dX11_applies_0 1 rfl ?_
  refine x_gi C 9 (RX11, TX11, 3) rfl 2 (Nat.le_of_ble_eq_true rfl) q2642 (Or.inl rfl) rfl 10 rfl dX11_applies_1 4 rfl (fun x1 => ?_)
  refine s_if_eq C dX11_applies_4 39 rfl 7 rfl (fun c_ => ?_) (fun c_ => ?_)
  · refine s_aload_n C rfl 0 rfl dX11_applies_39 40 rfl ?_
    refine x_gr C 9 (RX11, TX11, 3) rfl 0 (Nat.le_of_ble_eq_true rfl) q2640 (Or.inl rfl) rfl 10 rfl dX11_applies_40 43 rfl (fun x2 => ?_)
    refine s_aload_n C rfl 1 rfl dX11_applies_43 44 rfl ?_
    refine s_aload_n C rfl 2 rfl dX11_applies_44 45 rfl ?_
    refine x_wi [] 48 (fun kk_ => ?_) (fun x3 m1 k1 n1 => ?_)
    · refine x_csr (kd := 8) (fun hb_ hb0_ => ?_) ?_
      · exact x_callA (enc := en_i) (owner := "MasterTree$Filter") C 19 2 [vr_ v1, vr_ v2] 8 (ctX9_applies C.2.2.2.2.2.2.2.2.1 N m x2 v1 v2) hb_ hb0_ rfl rfl q2831 q2797 q2801 q2802 q139 q2803 q2796 ⟨by decide +kernel, by decide +kernel, by decide +kernel⟩ (Nat.le_of_ble_eq_true rfl) (Nat.le_of_ble_eq_true rfl) rfl (Nat.le_of_ble_eq_true rfl) dX11_applies_45 48 rfl rfl hen_i (kk_i kk_) (kx_n he_i)
      refine x_csr (kd := 9) (fun hb_ hb0_ => ?_) ?_
      · exact x_callA (enc := en_i) (owner := "MasterTree$Filter") C 13 2 [vr_ v1, vr_ v2] 9 (ctX10_applies C.2.2.2.2.2.2.2.2.1 N m x2 v1 v2) hb_ hb0_ rfl rfl q2831 q2797 q2798 q2799 q140 q2800 q2796 ⟨by decide +kernel, by decide +kernel, by decide +kernel⟩ (Nat.le_of_ble_eq_true rfl) (Nat.le_of_ble_eq_true rfl) rfl (Nat.le_of_ble_eq_true rfl) dX11_applies_45 48 rfl rfl hen_i (kk_i kk_) (kx_n he_i)
      refine x_csr (kd := 10) (fun hb_ hb0_ => ?_) ?_
      · exact x_callA (enc := en_i) (owner := "MasterTree$Filter") C 34 2 [vr_ v1, vr_ v2] 10 (ctX11_applies_d14 C.2.2.2.2.2.2.2.2.1 N m x2 v1 v2) hb_ hb0_ rfl rfl q2831 q2797 q2828 q2829 q141 q2830 q2796 ⟨by decide +kernel, by decide +kernel, by decide +kernel⟩ (Nat.le_of_ble_eq_true rfl) (Nat.le_of_ble_eq_true rfl) rfl (Nat.le_of_ble_eq_true rfl) dX11_applies_45 48 rfl rfl hen_i (kk_i kk_) (kx_n he_i)
      refine x_csr (kd := 11) (fun hb_ hb0_ => ?_) ?_
      · exact x_callA (enc := en_i) (owner := "MasterTree$Filter") C 34 2 [vr_ v1, vr_ v2] 11 (ctX12_applies_d14 C.2.2.2.2.2.2.2.2.1 N m x2 v1 v2) hb_ hb0_ rfl rfl q2831 q2797 q2835 q2832 q142 q2833 q2796 ⟨by decide +kernel, by decide +kernel, by decide +kernel⟩ (Nat.le_of_ble_eq_true rfl) (Nat.le_of_ble_eq_true rfl) rfl (Nat.le_of_ble_eq_true rfl) dX11_applies_45 48 rfl rfl hen_i (kk_i kk_) (kx_n he_i)
      exact Sm_bn
    refine s_if_ne C dX11_applies_48 63 rfl 51 rfl (fun c_ => ?_) (fun c_ => ?_)
    · refine s_aload_n C rfl 0 rfl dX11_applies_51 52 rfl ?_
      refine x_gr C 9 (RX11, TX11, 3) rfl 1 (Nat.le_of_ble_eq_true rfl) q2641 (Or.inl rfl) rfl 10 rfl dX11_applies_52 55 rfl (fun x8 => ?_)
      refine s_aload_n C rfl 1 rfl dX11_applies_55 56 rfl ?_
      refine s_aload_n C rfl 2 rfl dX11_applies_56 57 rfl ?_
      refine x_wi [] 60 (fun kk_ => ?_) (fun x9 m6 k1 n1 => ?_)
      · refine x_csr (kd := 8) (fun hb_ hb0_ => ?_) ?_
        · exact x_callA (enc := en_i) (owner := "MasterTree$Filter") C 19 2 [vr_ v1, vr_ v2] 8 (ctX9_applies C.2.2.2.2.2.2.2.2.1 N m1 x8 v1 v2) hb_ hb0_ rfl rfl q2831 q2797 q2801 q2802 q139 q2803 q2796 ⟨by decide +kernel, by decide +kernel, by decide +kernel⟩ (Nat.le_of_ble_eq_true rfl) (Nat.le_of_ble_eq_true rfl) rfl (Nat.le_of_ble_eq_true rfl) dX11_applies_57 60 rfl rfl hen_i (kk_i kk_) (kx_n he_i)
        refine x_csr (kd := 9) (fun hb_ hb0_ => ?_) ?_
        · exact x_callA (enc := en_i) (owner := "MasterTree$Filter") C 13 2 [vr_ v1, vr_ v2] 9 (ctX10_applies C.2.2.2.2.2.2.2.2.1 N m1 x8 v1 v2) hb_ hb0_ rfl rfl q2831 q2797 q2798 q2799 q140 q2800 q2796 ⟨by decide +kernel, by decide +kernel, by decide +kernel⟩ (Nat.le_of_ble_eq_true rfl) (Nat.le_of_ble_eq_true rfl) rfl (Nat.le_of_ble_eq_true rfl) dX11_applies_57 60 rfl rfl hen_i (kk_i kk_) (kx_n he_i)
        refine x_csr (kd := 10) (fun hb_ hb0_ => ?_) ?_
        · exact x_callA (enc := en_i) (owner := "MasterTree$Filter") C 34 2 [vr_ v1, vr_ v2] 10 (ctX11_applies_d14 C.2.2.2.2.2.2.2.2.1 N m1 x8 v1 v2) hb_ hb0_ rfl rfl q2831 q2797 q2828 q2829 q141 q2830 q2796 ⟨by decide +kernel, by decide +kernel, by decide +kernel⟩ (Nat.le_of_ble_eq_true rfl) (Nat.le_of_ble_eq_true rfl) rfl (Nat.le_of_ble_eq_true rfl) dX11_applies_57 60 rfl rfl hen_i (kk_i kk_) (kx_n he_i)
        refine x_csr (kd := 11) (fun hb_ hb0_ => ?_) ?_
        · exact x_callA (enc := en_i) (owner := "MasterTree$Filter") C 34 2 [vr_ v1, vr_ v2] 11 (ctX12_applies_d14 C.2.2.2.2.2.2.2.2.1 N m1 x8 v1 v2) hb_ hb0_ rfl rfl q2831 q2797 q2835 q2832 q142 q2833 q2796 ⟨by decide +kernel, by decide +kernel, by decide +kernel⟩ (Nat.le_of_ble_eq_true rfl) (Nat.le_of_ble_eq_true rfl) rfl (Nat.le_of_ble_eq_true rfl) dX11_applies_57 60 rfl rfl hen_i (kk_i kk_) (kx_n he_i)
        exact Sm_bn
      refine s_if_eq C dX11_applies_60 67 rfl 63 rfl (fun c_ => ?_) (fun c_ => ?_)
      · refine s_iconst C 0 rfl dX11_applies_67 68 rfl ?_
        refine Sm_sub [] rfl ?_
        exact wX11_applies_b68 C hret h0 hin N _ _ _ _
      · refine Sm_sub [] rfl ?_
        exact wX11_applies_b63 C hret h0 hin N _ _ _
    · refine Sm_sub [] rfl ?_
      exact wX11_applies_b63 C hret h0 hin N _ _ _
  · refine s_aload_n C rfl 0 rfl dX11_applies_7 8 rfl ?_
    refine x_gr C 9 (RX11, TX11, 3) rfl 0 (Nat.le_of_ble_eq_true rfl) q2640 (Or.inl rfl) rfl 10 rfl dX11_applies_8 11 rfl (fun x14 => ?_)
    refine s_aload_n C rfl 1 rfl dX11_applies_11 12 rfl ?_
    refine s_aload_n C rfl 2 rfl dX11_applies_12 13 rfl ?_
    refine x_wi [] 16 (fun kk_ => ?_) (fun x15 m11 k1 n1 => ?_)
    · refine x_csr (kd := 8) (fun hb_ hb0_ => ?_) ?_
      · exact x_callA (enc := en_i) (owner := "MasterTree$Filter") C 19 2 [vr_ v1, vr_ v2] 8 (ctX9_applies C.2.2.2.2.2.2.2.2.1 N m x14 v1 v2) hb_ hb0_ rfl rfl q2831 q2797 q2801 q2802 q139 q2803 q2796 ⟨by decide +kernel, by decide +kernel, by decide +kernel⟩ (Nat.le_of_ble_eq_true rfl) (Nat.le_of_ble_eq_true rfl) rfl (Nat.le_of_ble_eq_true rfl) dX11_applies_13 16 rfl rfl hen_i (kk_i kk_) (kx_n he_i)
      refine x_csr (kd := 9) (fun hb_ hb0_ => ?_) ?_
      · exact x_callA (enc := en_i) (owner := "MasterTree$Filter") C 13 2 [vr_ v1, vr_ v2] 9 (ctX10_applies C.2.2.2.2.2.2.2.2.1 N m x14 v1 v2) hb_ hb0_ rfl rfl q2831 q2797 q2798 q2799 q140 q2800 q2796 ⟨by decide +kernel, by decide +kernel, by decide +kernel⟩ (Nat.le_of_ble_eq_true rfl) (Nat.le_of_ble_eq_true rfl) rfl (Nat.le_of_ble_eq_true rfl) dX11_applies_13 16 rfl rfl hen_i (kk_i kk_) (kx_n he_i)
      refine x_csr (kd := 10) (fun hb_ hb0_ => ?_) ?_
      · exact x_callA (enc := en_i) (owner := "MasterTree$Filter") C 34 2 [vr_ v1, vr_ v2] 10 (ctX11_applies_d14 C.2.2.2.2.2.2.2.2.1 N m x14 v1 v2) hb_ hb0_ rfl rfl q2831 q2797 q2828 q2829 q141 q2830 q2796 ⟨by decide +kernel, by decide +kernel, by decide +kernel⟩ (Nat.le_of_ble_eq_true rfl) (Nat.le_of_ble_eq_true rfl) rfl (Nat.le_of_ble_eq_true rfl) dX11_applies_13 16 rfl rfl hen_i (kk_i kk_) (kx_n he_i)
      refine x_csr (kd := 11) (fun hb_ hb0_ => ?_) ?_
      · exact x_callA (enc := en_i) (owner := "MasterTree$Filter") C 34 2 [vr_ v1, vr_ v2] 11 (ctX12_applies_d14 C.2.2.2.2.2.2.2.2.1 N m x14 v1 v2) hb_ hb0_ rfl rfl q2831 q2797 q2835 q2832 q142 q2833 q2796 ⟨by decide +kernel, by decide +kernel, by decide +kernel⟩ (Nat.le_of_ble_eq_true rfl) (Nat.le_of_ble_eq_true rfl) rfl (Nat.le_of_ble_eq_true rfl) dX11_applies_13 16 rfl rfl hen_i (kk_i kk_) (kx_n he_i)
      exact Sm_bn
    refine s_if_eq C dX11_applies_16 35 rfl 19 rfl (fun c_ => ?_) (fun c_ => ?_)
    · refine Sm_sub [] rfl ?_
      exact wX11_applies_b35 C hret h0 hin N _ _ _
    · refine s_aload_n C rfl 0 rfl dX11_applies_19 20 rfl ?_
      refine x_gr C 9 (RX11, TX11, 3) rfl 1 (Nat.le_of_ble_eq_true rfl) q2641 (Or.inl rfl) rfl 10 rfl dX11_applies_20 23 rfl (fun x20 => ?_)
      refine s_aload_n C rfl 1 rfl dX11_applies_23 24 rfl ?_
      refine s_aload_n C rfl 2 rfl dX11_applies_24 25 rfl ?_
      refine x_wi [] 28 (fun kk_ => ?_) (fun x21 m16 k1 n1 => ?_)
      · refine x_csr (kd := 8) (fun hb_ hb0_ => ?_) ?_
        · exact x_callA (enc := en_i) (owner := "MasterTree$Filter") C 19 2 [vr_ v1, vr_ v2] 8 (ctX9_applies C.2.2.2.2.2.2.2.2.1 N m11 x20 v1 v2) hb_ hb0_ rfl rfl q2831 q2797 q2801 q2802 q139 q2803 q2796 ⟨by decide +kernel, by decide +kernel, by decide +kernel⟩ (Nat.le_of_ble_eq_true rfl) (Nat.le_of_ble_eq_true rfl) rfl (Nat.le_of_ble_eq_true rfl) dX11_applies_25 28 rfl rfl hen_i (kk_i kk_) (kx_n he_i)
        refine x_csr (kd := 9) (fun hb_ hb0_ => ?_) ?_
        · exact x_callA (enc := en_i) (owner := "MasterTree$Filter") C 13 2 [vr_ v1, vr_ v2] 9 (ctX10_applies C.2.2.2.2.2.2.2.2.1 N m11 x20 v1 v2) hb_ hb0_ rfl rfl q2831 q2797 q2798 q2799 q140 q2800 q2796 ⟨by decide +kernel, by decide +kernel, by decide +kernel⟩ (Nat.le_of_ble_eq_true rfl) (Nat.le_of_ble_eq_true rfl) rfl (Nat.le_of_ble_eq_true rfl) dX11_applies_25 28 rfl rfl hen_i (kk_i kk_) (kx_n he_i)
        refine x_csr (kd := 10) (fun hb_ hb0_ => ?_) ?_
        · exact x_callA (enc := en_i) (owner := "MasterTree$Filter") C 34 2 [vr_ v1, vr_ v2] 10 (ctX11_applies_d14 C.2.2.2.2.2.2.2.2.1 N m11 x20 v1 v2) hb_ hb0_ rfl rfl q2831 q2797 q2828 q2829 q141 q2830 q2796 ⟨by decide +kernel, by decide +kernel, by decide +kernel⟩ (Nat.le_of_ble_eq_true rfl) (Nat.le_of_ble_eq_true rfl) rfl (Nat.le_of_ble_eq_true rfl) dX11_applies_25 28 rfl rfl hen_i (kk_i kk_) (kx_n he_i)
        refine x_csr (kd := 11) (fun hb_ hb0_ => ?_) ?_
        · exact x_callA (enc := en_i) (owner := "MasterTree$Filter") C 34 2 [vr_ v1, vr_ v2] 11 (ctX12_applies_d14 C.2.2.2.2.2.2.2.2.1 N m11 x20 v1 v2) hb_ hb0_ rfl rfl q2831 q2797 q2835 q2832 q142 q2833 q2796 ⟨by decide +kernel, by decide +kernel, by decide +kernel⟩ (Nat.le_of_ble_eq_true rfl) (Nat.le_of_ble_eq_true rfl) rfl (Nat.le_of_ble_eq_true rfl) dX11_applies_25 28 rfl rfl hen_i (kk_i kk_) (kx_n he_i)
        exact Sm_bn
      refine s_if_eq C dX11_applies_28 35 rfl 31 rfl (fun c_ => ?_) (fun c_ => ?_)
      · refine Sm_sub [] rfl ?_
        exact wX11_applies_b35 C hret h0 hin N _ _ _
      · refine s_iconst C 1 rfl dX11_applies_31 32 rfl ?_
        refine s_goto C (off := 36) 68 dX11_applies_32 rfl ?_
        refine Sm_sub [] rfl ?_
        exact wX11_applies_b68 C hret h0 hin N _ _ _ _
theorem hdX11_applies : ((⟨"MasterTree$Combined", "applies", "(LMasterTree$Master;LMasterTree$Entry;)Z"⟩ : MethodName)).cls ≠ "java/lang/invoke/MethodHandle" ∧ ((⟨"MasterTree$Combined", "applies", "(LMasterTree$Master;LMasterTree$Entry;)Z"⟩ : MethodName)).cls ≠ "java/lang/invoke/VarHandle" ∧ (parseMethodDescriptor ((⟨"MasterTree$Combined", "applies", "(LMasterTree$Master;LMasterTree$Entry;)Z"⟩ : MethodName)).desc).map (fun d => d.parameters.length) = some 2 := ⟨by decide +kernel, by decide +kernel, by decide +kernel⟩
theorem ctX11_applies {l : Launch} {g : GG} (hst : l.stackTraces = false) (N : Nat) (m : Mm) (v0 : Option Nat) (v1 : Option Nat) (v2 : Option Nat) : ∀ v m' k n, fX11_applies (gE_ g) N m v0 v1 v2 = some (v, m', k, n) → Ct_ l g (⟨"MasterTree$Combined", "applies", "(LMasterTree$Master;LMasterTree$Entry;)Z"⟩ : MethodName) (ws_ (⟨"MasterTree$Combined", "applies", "(LMasterTree$Master;LMasterTree$Entry;)Z"⟩ : MethodName) cX11_applies 3 (Option.some Jvm.ClassFile.FieldType.boolean)) 35 [vr_ v0, vr_ v1, vr_ v2] m (en_i v) m' k n :=
  Ct_of (by decide +kernel) rfl hst (Nat.le_of_ble_eq_true rfl) rfl (fun E C hret h0 hin => wX11_applies C hret h0 hin N m v0 v1 v2 0 0)
theorem wX12_among {l : Launch} {g : GG} {E : Me_} (C : Cx_ l g E "MasterTree$Not" cX12_among 2 35) (hret : (eT_ E).sig.returnType = (Option.some Jvm.ClassFile.FieldType.long)) (h0 : ∀ x ∈ (eC_ E).exceptionTable.toList, False) (hin : (eT_ E).name = "among") (N : Nat) : ∀ (m : Mm) (v0 : Option Nat) (v1 : Option Nat) (k n : Nat), Sm_ l g E 2 en_j (fX12_among (gE_ g) N m v0 v1) k n 0 [(0, vr_ v0), (1, vr_ v1)] [] m := by
  intro m v0 v1 k n
  unfold fX12_among
  refine s_aload_n C rfl 1 rfl dX12_among_0 1 rfl ?_
  refine x_ck (fun hb_ hb0_ => ?_)
  refine x_callV (enc := en_j) C 12 0 [] 2 (ctX2_liveOnes C.2.2.2.2.2.2.2.2.1 N m v1) hb_ hb0_ rfl rfl q2775 q2776 q2777 q85 q2778 hdX2_liveOnes (Nat.le_of_ble_eq_true rfl) (Nat.le_of_ble_eq_true rfl) rfl (Nat.le_of_ble_eq_true rfl) dX12_among_1 4 rfl rfl hen_j (kk_j (fun x1 m1 k1 n1 => ?_)) (kx_n he_j)
  refine s_aload_n C rfl 0 rfl dX12_among_4 5 rfl ?_
  refine x_gr C 10 (RX12, TX12, 1) rfl 0 (Nat.le_of_ble_eq_true rfl) q2666 (Or.inl rfl) rfl 11 rfl dX12_among_5 8 rfl (fun x2 => ?_)
  refine s_aload_n C rfl 1 rfl dX12_among_8 9 rfl ?_
  refine x_wj [vj_ x1] 12 (fun kk_ => ?_) (fun x3 m2 k1 n1 => ?_)
  · refine x_csr (kd := 8) (fun hb_ hb0_ => ?_) ?_
    · exact x_callA (enc := en_j) (owner := "MasterTree$Filter") C 19 1 [vr_ v1] 8 (ctX9_among C.2.2.2.2.2.2.2.2.1 N m1 x2 v1) hb_ hb0_ rfl rfl q2779 q2688 q2701 q2702 q139 q2703 q2687 ⟨by decide +kernel, by decide +kernel, by decide +kernel⟩ (Nat.le_of_ble_eq_true rfl) (Nat.le_of_ble_eq_true rfl) rfl (Nat.le_of_ble_eq_true rfl) dX12_among_9 12 rfl rfl hen_j (kk_j kk_) (kx_n he_j)
    refine x_csr (kd := 9) (fun hb_ hb0_ => ?_) ?_
    · exact x_callA (enc := en_j) (owner := "MasterTree$Filter") C 13 1 [vr_ v1] 9 (ctX10_among C.2.2.2.2.2.2.2.2.1 N m1 x2 v1) hb_ hb0_ rfl rfl q2779 q2688 q2689 q2690 q140 q2691 q2687 ⟨by decide +kernel, by decide +kernel, by decide +kernel⟩ (Nat.le_of_ble_eq_true rfl) (Nat.le_of_ble_eq_true rfl) rfl (Nat.le_of_ble_eq_true rfl) dX12_among_9 12 rfl rfl hen_j (kk_j kk_) (kx_n he_j)
    refine x_csr (kd := 10) (fun hb_ hb0_ => ?_) ?_
    · exact x_callA (enc := en_j) (owner := "MasterTree$Filter") C 34 1 [vr_ v1] 10 (ctX11_among_d14 C.2.2.2.2.2.2.2.2.1 N m1 x2 v1) hb_ hb0_ rfl rfl q2779 q2688 q2769 q2770 q141 q2771 q2687 ⟨by decide +kernel, by decide +kernel, by decide +kernel⟩ (Nat.le_of_ble_eq_true rfl) (Nat.le_of_ble_eq_true rfl) rfl (Nat.le_of_ble_eq_true rfl) dX12_among_9 12 rfl rfl hen_j (kk_j kk_) (kx_n he_j)
    refine x_csr (kd := 11) (fun hb_ hb0_ => ?_) ?_
    · exact x_callA (enc := en_j) (owner := "MasterTree$Filter") C 34 1 [vr_ v1] 11 (ctX12_among_d14 C.2.2.2.2.2.2.2.2.1 N m1 x2 v1) hb_ hb0_ rfl rfl q2779 q2688 q2781 q2773 q142 q2774 q2687 ⟨by decide +kernel, by decide +kernel, by decide +kernel⟩ (Nat.le_of_ble_eq_true rfl) (Nat.le_of_ble_eq_true rfl) rfl (Nat.le_of_ble_eq_true rfl) dX12_among_9 12 rfl rfl hen_j (kk_j kk_) (kx_n he_j)
    exact Sm_bn
  refine s_ldc2 C (-1) q2780 dX12_among_12 15 rfl ?_
  refine s_lxor C dX12_among_15 16 rfl ?_
  refine s_land C dX12_among_16 17 rfl ?_
  exact x_lret C hret rfl dX12_among_17
theorem hdX12_among : ((⟨"MasterTree$Not", "among", "(LMasterTree$Master;)J"⟩ : MethodName)).cls ≠ "java/lang/invoke/MethodHandle" ∧ ((⟨"MasterTree$Not", "among", "(LMasterTree$Master;)J"⟩ : MethodName)).cls ≠ "java/lang/invoke/VarHandle" ∧ (parseMethodDescriptor ((⟨"MasterTree$Not", "among", "(LMasterTree$Master;)J"⟩ : MethodName)).desc).map (fun d => d.parameters.length) = some 1 := ⟨by decide +kernel, by decide +kernel, by decide +kernel⟩
theorem ctX12_among {l : Launch} {g : GG} (hst : l.stackTraces = false) (N : Nat) (m : Mm) (v0 : Option Nat) (v1 : Option Nat) : ∀ v m' k n, fX12_among (gE_ g) N m v0 v1 = some (v, m', k, n) → Ct_ l g (⟨"MasterTree$Not", "among", "(LMasterTree$Master;)J"⟩ : MethodName) (ws_ (⟨"MasterTree$Not", "among", "(LMasterTree$Master;)J"⟩ : MethodName) cX12_among 2 (Option.some Jvm.ClassFile.FieldType.long)) 35 [vr_ v0, vr_ v1] m (en_j v) m' k n :=
  Ct_of (by decide +kernel) rfl hst (Nat.le_of_ble_eq_true rfl) rfl (fun E C hret h0 hin => wX12_among C hret h0 hin N m v0 v1 0 0)
theorem wX12_applies_b17 {l : Launch} {g : GG} {E : Me_} (C : Cx_ l g E "MasterTree$Not" cX12_applies 3 35) (hret : (eT_ E).sig.returnType = (Option.some Jvm.ClassFile.FieldType.boolean)) (h0 : ∀ x ∈ (eC_ E).exceptionTable.toList, False) (hin : (eT_ E).name = "applies") (N : Nat) : ∀ (m : Mm) (s0 : Int32) (k n : Nat), Sm_ l g E 3 en_i (fX12_applies_b17 (gE_ g) N m s0) k n 17 [] [vi_ s0] m := by
  intro m s0 k n
  unfold fX12_applies_b17
  exact x_zret C hret rfl dX12_applies_17
theorem wX12_applies {l : Launch} {g : GG} {E : Me_} (C : Cx_ l g E "MasterTree$Not" cX12_applies 3 35) (hret : (eT_ E).sig.returnType = (Option.some Jvm.ClassFile.FieldType.boolean)) (h0 : ∀ x ∈ (eC_ E).exceptionTable.toList, False) (hin : (eT_ E).name = "applies") (N : Nat) : ∀ (m : Mm) (v0 : Option Nat) (v1 : Option Nat) (v2 : Option Nat) (k n : Nat), Sm_ l g E 3 en_i (fX12_applies (gE_ g) N m v0 v1 v2) k n 0 [(0, vr_ v0), (1, vr_ v1), (2, vr_ v2)] [] m := by
  intro m v0 v1 v2 k n
  unfold fX12_applies
  refine s_aload_n C rfl 0 rfl dX12_applies_0 1 rfl ?_
  refine x_gr C 10 (RX12, TX12, 1) rfl 0 (Nat.le_of_ble_eq_true rfl) q2666 (Or.inl rfl) rfl 11 rfl dX12_applies_1 4 rfl (fun x1 => ?_)
  refine s_aload_n C rfl 1 rfl dX12_applies_4 5 rfl ?_
  refine s_aload_n C rfl 2 rfl dX12_applies_5 6 rfl ?_
  refine x_wi [] 9 (fun kk_ => ?_) (fun x2 m1 k1 n1 => ?_)
  · refine x_csr (kd := 8) (fun hb_ hb0_ => ?_) ?_
    · exact x_callA (enc := en_i) (owner := "MasterTree$Filter") C 19 2 [vr_ v1, vr_ v2] 8 (ctX9_applies C.2.2.2.2.2.2.2.2.1 N m x1 v1 v2) hb_ hb0_ rfl rfl q2834 q2797 q2801 q2802 q139 q2803 q2796 ⟨by decide +kernel, by decide +kernel, by decide +kernel⟩ (Nat.le_of_ble_eq_true rfl) (Nat.le_of_ble_eq_true rfl) rfl (Nat.le_of_ble_eq_true rfl) dX12_applies_6 9 rfl rfl hen_i (kk_i kk_) (kx_n he_i)
    refine x_csr (kd := 9) (fun hb_ hb0_ => ?_) ?_
    · exact x_callA (enc := en_i) (owner := "MasterTree$Filter") C 13 2 [vr_ v1, vr_ v2] 9 (ctX10_applies C.2.2.2.2.2.2.2.2.1 N m x1 v1 v2) hb_ hb0_ rfl rfl q2834 q2797 q2798 q2799 q140 q2800 q2796 ⟨by decide +kernel, by decide +kernel, by decide +kernel⟩ (Nat.le_of_ble_eq_true rfl) (Nat.le_of_ble_eq_true rfl) rfl (Nat.le_of_ble_eq_true rfl) dX12_applies_6 9 rfl rfl hen_i (kk_i kk_) (kx_n he_i)
    refine x_csr (kd := 10) (fun hb_ hb0_ => ?_) ?_
    · exact x_callA (enc := en_i) (owner := "MasterTree$Filter") C 34 2 [vr_ v1, vr_ v2] 10 (ctX11_applies_d14 C.2.2.2.2.2.2.2.2.1 N m x1 v1 v2) hb_ hb0_ rfl rfl q2834 q2797 q2828 q2829 q141 q2830 q2796 ⟨by decide +kernel, by decide +kernel, by decide +kernel⟩ (Nat.le_of_ble_eq_true rfl) (Nat.le_of_ble_eq_true rfl) rfl (Nat.le_of_ble_eq_true rfl) dX12_applies_6 9 rfl rfl hen_i (kk_i kk_) (kx_n he_i)
    refine x_csr (kd := 11) (fun hb_ hb0_ => ?_) ?_
    · exact x_callA (enc := en_i) (owner := "MasterTree$Filter") C 34 2 [vr_ v1, vr_ v2] 11 (ctX12_applies_d14 C.2.2.2.2.2.2.2.2.1 N m x1 v1 v2) hb_ hb0_ rfl rfl q2834 q2797 q2835 q2832 q142 q2833 q2796 ⟨by decide +kernel, by decide +kernel, by decide +kernel⟩ (Nat.le_of_ble_eq_true rfl) (Nat.le_of_ble_eq_true rfl) rfl (Nat.le_of_ble_eq_true rfl) dX12_applies_6 9 rfl rfl hen_i (kk_i kk_) (kx_n he_i)
    exact Sm_bn
  refine s_if_ne C dX12_applies_9 16 rfl 12 rfl (fun c_ => ?_) (fun c_ => ?_)
  · refine s_iconst C 1 rfl dX12_applies_12 13 rfl ?_
    refine s_goto C (off := 4) 17 dX12_applies_13 rfl ?_
    refine Sm_sub [] rfl ?_
    exact wX12_applies_b17 C hret h0 hin N _ _ _ _
  · refine s_iconst C 0 rfl dX12_applies_16 17 rfl ?_
    refine Sm_sub [] rfl ?_
    exact wX12_applies_b17 C hret h0 hin N _ _ _ _
theorem hdX12_applies : ((⟨"MasterTree$Not", "applies", "(LMasterTree$Master;LMasterTree$Entry;)Z"⟩ : MethodName)).cls ≠ "java/lang/invoke/MethodHandle" ∧ ((⟨"MasterTree$Not", "applies", "(LMasterTree$Master;LMasterTree$Entry;)Z"⟩ : MethodName)).cls ≠ "java/lang/invoke/VarHandle" ∧ (parseMethodDescriptor ((⟨"MasterTree$Not", "applies", "(LMasterTree$Master;LMasterTree$Entry;)Z"⟩ : MethodName)).desc).map (fun d => d.parameters.length) = some 2 := ⟨by decide +kernel, by decide +kernel, by decide +kernel⟩
theorem ctX12_applies {l : Launch} {g : GG} (hst : l.stackTraces = false) (N : Nat) (m : Mm) (v0 : Option Nat) (v1 : Option Nat) (v2 : Option Nat) : ∀ v m' k n, fX12_applies (gE_ g) N m v0 v1 v2 = some (v, m', k, n) → Ct_ l g (⟨"MasterTree$Not", "applies", "(LMasterTree$Master;LMasterTree$Entry;)Z"⟩ : MethodName) (ws_ (⟨"MasterTree$Not", "applies", "(LMasterTree$Master;LMasterTree$Entry;)Z"⟩ : MethodName) cX12_applies 3 (Option.some Jvm.ClassFile.FieldType.boolean)) 35 [vr_ v0, vr_ v1, vr_ v2] m (en_i v) m' k n :=
  Ct_of (by decide +kernel) rfl hst (Nat.le_of_ble_eq_true rfl) rfl (fun E C hret h0 hin => wX12_applies C hret h0 hin N m v0 v1 v2 0 0)
