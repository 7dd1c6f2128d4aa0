set_option maxRecDepth 100000
abbrev cJ38_size : ByteArray := prog_87_method_25_code
def yJ38_size : MethodName := ⟨RJ38, "size", "()I"⟩
def dkwJ38_size_1 : List UInt8 := [42, 182, 0, 94, 185, 0, 105, 1, 0, 172]
abbrev dktJ38_size_1 : List UInt8 := dkwJ38_size_1 ++ []
def dkwJ38_size_0 : List UInt8 := [42, 180, 0, 26, 153, 0, 20, 42, 180, 0, 37, 153, 0, 13, 42, 180, 0, 20, 182, 0, 101, 167, 0, 12]
abbrev dktJ38_size_0 : List UInt8 := dkwJ38_size_0 ++ dktJ38_size_1
theorem dksJ38_size_0 : cJ38_size.data.toList.drop 0 = dktJ38_size_0 := by decide +kernel
theorem dksJ38_size_1 : cJ38_size.data.toList.drop 24 = dktJ38_size_1 := dk_seg dksJ38_size_0 24 rfl rfl
theorem dJ38_size_0 : decode cJ38_size 0 = .ok (.aload_n 0, 1) := dk_42 (dk_at dksJ38_size_0 0 rfl rfl)
theorem dJ38_size_1 : decode cJ38_size 1 = .ok (.getfield 26, 3) := dk_180 0 26 (dk_at dksJ38_size_0 1 rfl rfl)
theorem dJ38_size_4 : decode cJ38_size 4 = .ok (.ifCond .eq 20, 3) := dk_153 0 20 (dk_at dksJ38_size_0 4 rfl rfl)
theorem dJ38_size_7 : decode cJ38_size 7 = .ok (.aload_n 0, 1) := dk_42 (dk_at dksJ38_size_0 7 rfl rfl)
theorem dJ38_size_8 : decode cJ38_size 8 = .ok (.getfield 37, 3) := dk_180 0 37 (dk_at dksJ38_size_0 8 rfl rfl)
theorem dJ38_size_11 : decode cJ38_size 11 = .ok (.ifCond .eq 13, 3) := dk_153 0 13 (dk_at dksJ38_size_0 11 rfl rfl)
theorem dJ38_size_14 : decode cJ38_size 14 = .ok (.aload_n 0, 1) := dk_42 (dk_at dksJ38_size_0 14 rfl rfl)
theorem dJ38_size_15 : decode cJ38_size 15 = .ok (.getfield 20, 3) := dk_180 0 20 (dk_at dksJ38_size_0 15 rfl rfl)
theorem dJ38_size_18 : decode cJ38_size 18 = .ok (.invokevirtual 101, 3) := dk_182 0 101 (dk_at dksJ38_size_0 18 rfl rfl)
theorem dJ38_size_21 : decode cJ38_size 21 = .ok (.goto 12, 3) := dk_167 0 12 (dk_at dksJ38_size_0 21 rfl rfl)
theorem dJ38_size_24 : decode cJ38_size 24 = .ok (.aload_n 0, 1) := dk_42 (dk_at dksJ38_size_1 0 rfl rfl)
theorem dJ38_size_25 : decode cJ38_size 25 = .ok (.invokevirtual 94, 3) := dk_182 0 94 (dk_at dksJ38_size_1 1 rfl rfl)
theorem dJ38_size_28 : decode cJ38_size 28 = .ok (.invokeinterface 105 1, 5) := by decide +kernel
theorem dJ38_size_33 : decode cJ38_size 33 = .ok (.ireturn, 1) := dk_172 (dk_at dksJ38_size_1 9 rfl rfl)
def fJ38_size_t21_b33 (e : Nat → Nat) (N : Nat) (m : Mm) (s0 : Int32) : Rs (Int32) := rt_ s0 m
def fJ38_size_t21_b24 (e : Nat → Nat) (N : Nat) (m : Mm) (v0 : Option Nat) : Rs (Int32) := ck_ m v0 21 (bd_ (fJ39_entrySet e N m v0) (fun x1 m1 => ck_ m1 x1 22 (bd_ (fJ40_size_t22 e N m1 x1) (fun x2 m2 => fJ38_size_t21_b33 e N m2 x2))))
def fJ38_size_t21 (e : Nat → Nat) (N : Nat) (m : Mm) (v0 : Option Nat) : Rs (Int32) := gi_ m v0 21 3 (fun x1 => if x1 = 0 then (fJ38_size_t21_b24 e N m v0) else (gi_ m v0 21 4 (fun x2 => if x2 = 0 then (fJ38_size_t21_b24 e N m v0) else (gr_ m v0 21 0 (fun x3 => ck_ m x3 15 (bd_ (fJ4_size e N m x3) (fun x4 m1 => fJ38_size_t21_b33 e N m1 x4)))))))
abbrev cX1_changeable : ByteArray := prog_1_method_8_code
def yX1_changeable : MethodName := ⟨RX1, "changeable", "(LMasterTree$Master;I)LMasterTree$Entry;"⟩
def dkwX1_changeable_0 : List UInt8 := [27, 154, 0, 13, 187, 0, 84, 89, 18, 131, 183, 0, 104, 191, 42, 27, 184, 0, 133, 176]
abbrev dktX1_changeable_0 : List UInt8 := dkwX1_changeable_0 ++ []
theorem dksX1_changeable_0 : cX1_changeable.data.toList.drop 0 = dktX1_changeable_0 := by decide +kernel
theorem dX1_changeable_0 : decode cX1_changeable 0 = .ok (.iload_n 1, 1) := dk_27 (dk_at dksX1_changeable_0 0 rfl rfl)
theorem dX1_changeable_1 : decode cX1_changeable 1 = .ok (.ifCond .ne 13, 3) := dk_154 0 13 (dk_at dksX1_changeable_0 1 rfl rfl)
theorem dX1_changeable_4 : decode cX1_changeable 4 = .ok (.new 84, 3) := dk_187 0 84 (dk_at dksX1_changeable_0 4 rfl rfl)
theorem dX1_changeable_7 : decode cX1_changeable 7 = .ok (.dup, 1) := dk_89 (dk_at dksX1_changeable_0 7 rfl rfl)
theorem dX1_changeable_8 : decode cX1_changeable 8 = .ok (.ldc 131, 2) := dk_18 131 (dk_at dksX1_changeable_0 8 rfl rfl)
theorem dX1_changeable_10 : decode cX1_changeable 10 = .ok (.invokespecial 104, 3) := dk_183 0 104 (dk_at dksX1_changeable_0 10 rfl rfl)
theorem dX1_changeable_13 : decode cX1_changeable 13 = .ok (.athrow, 1) := dk_191 (dk_at dksX1_changeable_0 13 rfl rfl)
theorem dX1_changeable_14 : decode cX1_changeable 14 = .ok (.aload_n 0, 1) := dk_42 (dk_at dksX1_changeable_0 14 rfl rfl)
theorem dX1_changeable_15 : decode cX1_changeable 15 = .ok (.iload_n 1, 1) := dk_27 (dk_at dksX1_changeable_0 15 rfl rfl)
theorem dX1_changeable_16 : decode cX1_changeable 16 = .ok (.invokestatic 133, 3) := dk_184 0 133 (dk_at dksX1_changeable_0 16 rfl rfl)
theorem dX1_changeable_19 : decode cX1_changeable 19 = .ok (.areturn, 1) := dk_176 (dk_at dksX1_changeable_0 19 rfl rfl)
def fX1_changeable (e : Nat → Nat) (N : Nat) (m : Mm) (v0 : Option Nat) (v1 : Int32) : Rs ((Option Nat) ⊕ Nat) := if v1 = 0 then (nx_ m 0 (fun x1 m1 => xi_ m1 x1 0 (fun m2 => at_ m2 (some x1) 0 (.inr 0)))) else (bd_ (fX1_liveAt e N m v0 v1) (xf_ (fun x2 m3 => rt_ (.inl x2) m3)))
abbrev cX1_isIn : ByteArray := prog_1_method_24_code
def yX1_isIn : MethodName := ⟨RX1, "isIn", "(LMasterTree$Entry;IZ)Z"⟩
def dkwX1_isIn_2 : List UInt8 := [4, 167, 0, 4, 3, 172]
abbrev dktX1_isIn_2 : List UInt8 := dkwX1_isIn_2 ++ []
def dkwX1_isIn_1 : List UInt8 := [153, 0, 11, 25, 4, 180, 0, 246, 167, 0, 8, 25, 4, 180, 0, 235, 28, 122, 4, 126, 4, 160, 0, 7]
abbrev dktX1_isIn_1 : List UInt8 := dkwX1_isIn_1 ++ dktX1_isIn_2
def dkwX1_isIn_0 : List UInt8 := [42, 180, 0, 57, 43, 180, 1, 6, 180, 1, 12, 185, 0, 113, 2, 0, 192, 0, 147, 58, 4, 29]
abbrev dktX1_isIn_0 : List UInt8 := dkwX1_isIn_0 ++ dktX1_isIn_1
theorem dksX1_isIn_0 : cX1_isIn.data.toList.drop 0 = dktX1_isIn_0 := by decide +kernel
theorem dksX1_isIn_1 : cX1_isIn.data.toList.drop 22 = dktX1_isIn_1 := dk_seg dksX1_isIn_0 22 rfl rfl
theorem dksX1_isIn_2 : cX1_isIn.data.toList.drop 46 = dktX1_isIn_2 := dk_seg dksX1_isIn_1 24 rfl rfl
theorem dX1_isIn_0 : decode cX1_isIn 0 = .ok (.aload_n 0, 1) := dk_42 (dk_at dksX1_isIn_0 0 rfl rfl)
theorem dX1_isIn_1 : decode cX1_isIn 1 = .ok (.getfield 57, 3) := dk_180 0 57 (dk_at dksX1_isIn_0 1 rfl rfl)
theorem dX1_isIn_4 : decode cX1_isIn 4 = .ok (.aload_n 1, 1) := dk_43 (dk_at dksX1_isIn_0 4 rfl rfl)
theorem dX1_isIn_5 : decode cX1_isIn 5 = .ok (.getfield 262, 3) := dk_180 1 6 (dk_at dksX1_isIn_0 5 rfl rfl)
theorem dX1_isIn_8 : decode cX1_isIn 8 = .ok (.getfield 268, 3) := dk_180 1 12 (dk_at dksX1_isIn_0 8 rfl rfl)
theorem dX1_isIn_11 : decode cX1_isIn 11 = .ok (.invokeinterface 113 2, 5) := by decide +kernel
theorem dX1_isIn_16 : decode cX1_isIn 16 = .ok (.checkcast 147, 3) := dk_192 0 147 (dk_at dksX1_isIn_0 16 rfl rfl)
theorem dX1_isIn_19 : decode cX1_isIn 19 = .ok (.astore 4, 2) := dk_58 4 (dk_at dksX1_isIn_0 19 rfl rfl)
theorem dX1_isIn_21 : decode cX1_isIn 21 = .ok (.iload_n 3, 1) := dk_29 (dk_at dksX1_isIn_0 21 rfl rfl)
theorem dX1_isIn_22 : decode cX1_isIn 22 = .ok (.ifCond .eq 11, 3) := dk_153 0 11 (dk_at dksX1_isIn_1 0 rfl rfl)
theorem dX1_isIn_25 : decode cX1_isIn 25 = .ok (.aload 4, 2) := dk_25 4 (dk_at dksX1_isIn_1 3 rfl rfl)
theorem dX1_isIn_27 : decode cX1_isIn 27 = .ok (.getfield 246, 3) := dk_180 0 246 (dk_at dksX1_isIn_1 5 rfl rfl)
theorem dX1_isIn_30 : decode cX1_isIn 30 = .ok (.goto 8, 3) := dk_167 0 8 (dk_at dksX1_isIn_1 8 rfl rfl)
theorem dX1_isIn_33 : decode cX1_isIn 33 = .ok (.aload 4, 2) := dk_25 4 (dk_at dksX1_isIn_1 11 rfl rfl)
theorem dX1_isIn_35 : decode cX1_isIn 35 = .ok (.getfield 235, 3) := dk_180 0 235 (dk_at dksX1_isIn_1 13 rfl rfl)
theorem dX1_isIn_38 : decode cX1_isIn 38 = .ok (.iload_n 2, 1) := dk_28 (dk_at dksX1_isIn_1 16 rfl rfl)
theorem dX1_isIn_39 : decode cX1_isIn 39 = .ok (.ishr, 1) := dk_122 (dk_at dksX1_isIn_1 17 rfl rfl)
theorem dX1_isIn_40 : decode cX1_isIn 40 = .ok (.iconst 1, 1) := dk_4 (dk_at dksX1_isIn_1 18 rfl rfl)
theorem dX1_isIn_41 : decode cX1_isIn 41 = .ok (.iand, 1) := dk_126 (dk_at dksX1_isIn_1 19 rfl rfl)
theorem dX1_isIn_42 : decode cX1_isIn 42 = .ok (.iconst 1, 1) := dk_4 (dk_at dksX1_isIn_1 20 rfl rfl)
theorem dX1_isIn_43 : decode cX1_isIn 43 = .ok (.if_icmp .ne 7, 3) := dk_160 0 7 (dk_at dksX1_isIn_1 21 rfl rfl)
theorem dX1_isIn_46 : decode cX1_isIn 46 = .ok (.iconst 1, 1) := dk_4 (dk_at dksX1_isIn_2 0 rfl rfl)
theorem dX1_isIn_47 : decode cX1_isIn 47 = .ok (.goto 4, 3) := dk_167 0 4 (dk_at dksX1_isIn_2 1 rfl rfl)
theorem dX1_isIn_50 : decode cX1_isIn 50 = .ok (.iconst 0, 1) := dk_3 (dk_at dksX1_isIn_2 4 rfl rfl)
theorem dX1_isIn_51 : decode cX1_isIn 51 = .ok (.ireturn, 1) := dk_172 (dk_at dksX1_isIn_2 5 rfl rfl)
def fX1_isIn_b51 (e : Nat → Nat) (N : Nat) (m : Mm) (s0 : Int32) : Rs (Int32) := rz_ s0 s0 m
def fX1_isIn_b38 (e : Nat → Nat) (N : Nat) (m : Mm) (v2 : Int32) (s0 : Int32) : Rs (Int32) := if ((s0 >>> (v2 &&& 31)) &&& 1) = 1 then (fX1_isIn_b51 e N m 1) else (fX1_isIn_b51 e N m 0)
def fX1_isIn (e : Nat → Nat) (N : Nat) (m : Mm) (v0 : Option Nat) (v1 : Option Nat) (v2 : Int32) (v3 : Int32) : Rs (Int32) := gr_ m v0 1 1 (fun x1 => gr_ m v1 3 3 (fun x2 => gi_ m x2 7 7 (fun x3 => ck_ m x1 13 (bd_ (fJ2_get e N m x1 x3) (fun x4 m1 => cc_ m1 x4 [6] (if v3 = 0 then (gi_ m1 x4 6 2 (fun x5 => fX1_isIn_b38 e N m1 v2 x5)) else (gi_ m1 x4 6 1 (fun x6 => fX1_isIn_b38 e N m1 v2 x6))))))))
abbrev cJ40_isEmpty : ByteArray := prog_88_method_3_code
def yJ40_isEmpty : MethodName := ⟨RJ40, "isEmpty", "()Z"⟩
def dkwJ40_isEmpty_1 : List UInt8 := [153, 0, 7, 4, 167, 0, 4, 3, 172]
abbrev dktJ40_isEmpty_1 : List UInt8 := dkwJ40_isEmpty_1 ++ []
def dkwJ40_isEmpty_0 : List UInt8 := [42, 180, 0, 1, 182, 0, 55, 76, 43, 198, 0, 17, 42, 180, 0, 1, 43, 180, 0, 59, 182, 0, 65]
abbrev dktJ40_isEmpty_0 : List UInt8 := dkwJ40_isEmpty_0 ++ dktJ40_isEmpty_1
theorem dksJ40_isEmpty_0 : cJ40_isEmpty.data.toList.drop 0 = dktJ40_isEmpty_0 := by decide +kernel
theorem dksJ40_isEmpty_1 : cJ40_isEmpty.data.toList.drop 23 = dktJ40_isEmpty_1 := dk_seg dksJ40_isEmpty_0 23 rfl rfl
theorem dJ40_isEmpty_0 : decode cJ40_isEmpty 0 = .ok (.aload_n 0, 1) := dk_42 (dk_at dksJ40_isEmpty_0 0 rfl rfl)
theorem dJ40_isEmpty_1 : decode cJ40_isEmpty 1 = .ok (.getfield 1, 3) := dk_180 0 1 (dk_at dksJ40_isEmpty_0 1 rfl rfl)
theorem dJ40_isEmpty_4 : decode cJ40_isEmpty 4 = .ok (.invokevirtual 55, 3) := dk_182 0 55 (dk_at dksJ40_isEmpty_0 4 rfl rfl)
theorem dJ40_isEmpty_7 : decode cJ40_isEmpty 7 = .ok (.astore_n 1, 1) := dk_76 (dk_at dksJ40_isEmpty_0 7 rfl rfl)
theorem dJ40_isEmpty_8 : decode cJ40_isEmpty 8 = .ok (.aload_n 1, 1) := dk_43 (dk_at dksJ40_isEmpty_0 8 rfl rfl)
theorem dJ40_isEmpty_9 : decode cJ40_isEmpty 9 = .ok (.ifnull 17, 3) := dk_198 0 17 (dk_at dksJ40_isEmpty_0 9 rfl rfl)
theorem dJ40_isEmpty_12 : decode cJ40_isEmpty 12 = .ok (.aload_n 0, 1) := dk_42 (dk_at dksJ40_isEmpty_0 12 rfl rfl)
theorem dJ40_isEmpty_13 : decode cJ40_isEmpty 13 = .ok (.getfield 1, 3) := dk_180 0 1 (dk_at dksJ40_isEmpty_0 13 rfl rfl)
theorem dJ40_isEmpty_16 : decode cJ40_isEmpty 16 = .ok (.aload_n 1, 1) := dk_43 (dk_at dksJ40_isEmpty_0 16 rfl rfl)
theorem dJ40_isEmpty_17 : decode cJ40_isEmpty 17 = .ok (.getfield 59, 3) := dk_180 0 59 (dk_at dksJ40_isEmpty_0 17 rfl rfl)
theorem dJ40_isEmpty_20 : decode cJ40_isEmpty 20 = .ok (.invokevirtual 65, 3) := dk_182 0 65 (dk_at dksJ40_isEmpty_0 20 rfl rfl)
theorem dJ40_isEmpty_23 : decode cJ40_isEmpty 23 = .ok (.ifCond .eq 7, 3) := dk_153 0 7 (dk_at dksJ40_isEmpty_1 0 rfl rfl)
theorem dJ40_isEmpty_26 : decode cJ40_isEmpty 26 = .ok (.iconst 1, 1) := dk_4 (dk_at dksJ40_isEmpty_1 3 rfl rfl)
theorem dJ40_isEmpty_27 : decode cJ40_isEmpty 27 = .ok (.goto 4, 3) := dk_167 0 4 (dk_at dksJ40_isEmpty_1 4 rfl rfl)
theorem dJ40_isEmpty_30 : decode cJ40_isEmpty 30 = .ok (.iconst 0, 1) := dk_3 (dk_at dksJ40_isEmpty_1 7 rfl rfl)
theorem dJ40_isEmpty_31 : decode cJ40_isEmpty 31 = .ok (.ireturn, 1) := dk_172 (dk_at dksJ40_isEmpty_1 8 rfl rfl)
def fJ40_isEmpty_t22_b31 (e : Nat → Nat) (N : Nat) (m : Mm) (s0 : Int32) : Rs (Int32) := rz_ s0 s0 m
def fJ40_isEmpty_t22_b26 (e : Nat → Nat) (N : Nat) (m : Mm) : Rs (Int32) := fJ40_isEmpty_t22_b31 e N m 1
def fJ40_isEmpty_t22 (e : Nat → Nat) (N : Nat) (m : Mm) (v0 : Option Nat) : Rs (Int32) := gr_ m v0 22 2 (fun x1 => ck_ m x1 21 (bd_ (fJ38_absLowest_t21 e N m x1) (fun x2 m1 => if x2 = none then (fJ40_isEmpty_t22_b26 e N m1) else (gr_ m1 v0 22 2 (fun x3 => gr_ m1 x2 16 0 (fun x4 => ck_ m1 x3 21 (bd_ (fJ38_tooHigh_t21 e N m1 x3 x4) (fun x5 m2 => if x5 = 0 then (fJ40_isEmpty_t22_b31 e N m2 0) else (fJ40_isEmpty_t22_b26 e N m2)))))))))
abbrev cJ3_isEmpty : ByteArray := prog_55_method_3_code
def yJ3_isEmpty : MethodName := ⟨RJ3, "isEmpty", "()Z"⟩
def dkwJ3_isEmpty_0 : List UInt8 := [42, 182, 0, 19, 154, 0, 7, 4, 167, 0, 4, 3, 172]
abbrev dktJ3_isEmpty_0 : List UInt8 := dkwJ3_isEmpty_0 ++ []
theorem dksJ3_isEmpty_0 : cJ3_isEmpty.data.toList.drop 0 = dktJ3_isEmpty_0 := by decide +kernel
theorem dJ3_isEmpty_0 : decode cJ3_isEmpty 0 = .ok (.aload_n 0, 1) := dk_42 (dk_at dksJ3_isEmpty_0 0 rfl rfl)
theorem dJ3_isEmpty_1 : decode cJ3_isEmpty 1 = .ok (.invokevirtual 19, 3) := dk_182 0 19 (dk_at dksJ3_isEmpty_0 1 rfl rfl)
theorem dJ3_isEmpty_4 : decode cJ3_isEmpty 4 = .ok (.ifCond .ne 7, 3) := dk_154 0 7 (dk_at dksJ3_isEmpty_0 4 rfl rfl)
theorem dJ3_isEmpty_7 : decode cJ3_isEmpty 7 = .ok (.iconst 1, 1) := dk_4 (dk_at dksJ3_isEmpty_0 7 rfl rfl)
theorem dJ3_isEmpty_8 : decode cJ3_isEmpty 8 = .ok (.goto 4, 3) := dk_167 0 4 (dk_at dksJ3_isEmpty_0 8 rfl rfl)
theorem dJ3_isEmpty_11 : decode cJ3_isEmpty 11 = .ok (.iconst 0, 1) := dk_3 (dk_at dksJ3_isEmpty_0 11 rfl rfl)
theorem dJ3_isEmpty_12 : decode cJ3_isEmpty 12 = .ok (.ireturn, 1) := dk_172 (dk_at dksJ3_isEmpty_0 12 rfl rfl)
def fJ3_isEmpty_t15_b12 (e : Nat → Nat) (N : Nat) (m : Mm) (s0 : Int32) : Rs (Int32) := rz_ s0 s0 m
def fJ3_isEmpty_t15 (e : Nat → Nat) (N : Nat) (m : Mm) (v0 : Option Nat) : Rs (Int32) := ck_ m v0 15 (bd_ (fJ4_size e N m v0) (fun x1 m1 => if x1 = 0 then (fJ3_isEmpty_t15_b12 e N m1 1) else (fJ3_isEmpty_t15_b12 e N m1 0)))
abbrev cJ38_isEmpty : ByteArray := prog_87_method_24_code
def yJ38_isEmpty : MethodName := ⟨RJ38, "isEmpty", "()Z"⟩
def dkwJ38_isEmpty_1 : List UInt8 := [42, 182, 0, 94, 185, 0, 98, 1, 0, 172]
abbrev dktJ38_isEmpty_1 : List UInt8 := dkwJ38_isEmpty_1 ++ []
def dkwJ38_isEmpty_0 : List UInt8 := [42, 180, 0, 26, 153, 0, 20, 42, 180, 0, 37, 153, 0, 13, 42, 180, 0, 20, 182, 0, 90, 167, 0, 12]
abbrev dktJ38_isEmpty_0 : List UInt8 := dkwJ38_isEmpty_0 ++ dktJ38_isEmpty_1
theorem dksJ38_isEmpty_0 : cJ38_isEmpty.data.toList.drop 0 = dktJ38_isEmpty_0 := by decide +kernel
theorem dksJ38_isEmpty_1 : cJ38_isEmpty.data.toList.drop 24 = dktJ38_isEmpty_1 := dk_seg dksJ38_isEmpty_0 24 rfl rfl
theorem dJ38_isEmpty_0 : decode cJ38_isEmpty 0 = .ok (.aload_n 0, 1) := dk_42 (dk_at dksJ38_isEmpty_0 0 rfl rfl)
theorem dJ38_isEmpty_1 : decode cJ38_isEmpty 1 = .ok (.getfield 26, 3) := dk_180 0 26 (dk_at dksJ38_isEmpty_0 1 rfl rfl)
theorem dJ38_isEmpty_4 : decode cJ38_isEmpty 4 = .ok (.ifCond .eq 20, 3) := dk_153 0 20 (dk_at dksJ38_isEmpty_0 4 rfl rfl)
theorem dJ38_isEmpty_7 : decode cJ38_isEmpty 7 = .ok (.aload_n 0, 1) := dk_42 (dk_at dksJ38_isEmpty_0 7 rfl rfl)
theorem dJ38_isEmpty_8 : decode cJ38_isEmpty 8 = .ok (.getfield 37, 3) := dk_180 0 37 (dk_at dksJ38_isEmpty_0 8 rfl rfl)
theorem dJ38_isEmpty_11 : decode cJ38_isEmpty 11 = .ok (.ifCond .eq 13, 3) := dk_153 0 13 (dk_at dksJ38_isEmpty_0 11 rfl rfl)
theorem dJ38_isEmpty_14 : decode cJ38_isEmpty 14 = .ok (.aload_n 0, 1) := dk_42 (dk_at dksJ38_isEmpty_0 14 rfl rfl)
theorem dJ38_isEmpty_15 : decode cJ38_isEmpty 15 = .ok (.getfield 20, 3) := dk_180 0 20 (dk_at dksJ38_isEmpty_0 15 rfl rfl)
theorem dJ38_isEmpty_18 : decode cJ38_isEmpty 18 = .ok (.invokevirtual 90, 3) := dk_182 0 90 (dk_at dksJ38_isEmpty_0 18 rfl rfl)
theorem dJ38_isEmpty_21 : decode cJ38_isEmpty 21 = .ok (.goto 12, 3) := dk_167 0 12 (dk_at dksJ38_isEmpty_0 21 rfl rfl)
theorem dJ38_isEmpty_24 : decode cJ38_isEmpty 24 = .ok (.aload_n 0, 1) := dk_42 (dk_at dksJ38_isEmpty_1 0 rfl rfl)
theorem dJ38_isEmpty_25 : decode cJ38_isEmpty 25 = .ok (.invokevirtual 94, 3) := dk_182 0 94 (dk_at dksJ38_isEmpty_1 1 rfl rfl)
theorem dJ38_isEmpty_28 : decode cJ38_isEmpty 28 = .ok (.invokeinterface 98 1, 5) := by decide +kernel
theorem dJ38_isEmpty_33 : decode cJ38_isEmpty 33 = .ok (.ireturn, 1) := dk_172 (dk_at dksJ38_isEmpty_1 9 rfl rfl)
def fJ38_isEmpty_t21_b33 (e : Nat → Nat) (N : Nat) (m : Mm) (s0 : Int32) : Rs (Int32) := rz_ s0 s0 m
def fJ38_isEmpty_t21_b24 (e : Nat → Nat) (N : Nat) (m : Mm) (v0 : Option Nat) : Rs (Int32) := ck_ m v0 21 (bd_ (fJ39_entrySet e N m v0) (fun x1 m1 => ck_ m1 x1 22 (bd_ (fJ40_isEmpty_t22 e N m1 x1) (fun x2 m2 => fJ38_isEmpty_t21_b33 e N m2 x2))))
def fJ38_isEmpty_t21 (e : Nat → Nat) (N : Nat) (m : Mm) (v0 : Option Nat) : Rs (Int32) := gi_ m v0 21 3 (fun x1 => if x1 = 0 then (fJ38_isEmpty_t21_b24 e N m v0) else (gi_ m v0 21 4 (fun x2 => if x2 = 0 then (fJ38_isEmpty_t21_b24 e N m v0) else (gr_ m v0 21 0 (fun x3 => ck_ m x3 15 (bd_ (fJ3_isEmpty_t15 e N m x3) (fun x4 m1 => fJ38_isEmpty_t21_b33 e N m1 x4)))))))
abbrev cX1_addValue : ByteArray := prog_1_method_25_code
def yX1_addValue : MethodName := ⟨RX1, "addValue", "(IIII)I"⟩
def dkwX1_addValue_5 : List UInt8 := [185, 1, 43, 1, 0, 172]
abbrev dktX1_addValue_5 : List UInt8 := dkwX1_addValue_5 ++ []
def dkwX1_addValue_4 : List UInt8 := [184, 0, 165, 42, 25, 5, 178, 1, 37, 28, 29, 21, 4, 182, 1, 40, 25, 6, 29, 182, 1, 26]
abbrev dktX1_addValue_4 : List UInt8 := dkwX1_addValue_4 ++ dktX1_addValue_5
def dkwX1_addValue_3 : List UInt8 := [29, 182, 1, 26, 185, 1, 30, 1, 0, 153, 0, 7, 4, 167, 0, 4, 3, 54, 8, 21, 8, 19, 1, 35]
abbrev dktX1_addValue_3 : List UInt8 := dkwX1_addValue_3 ++ dktX1_addValue_4
def dkwX1_addValue_2 : List UInt8 := [153, 0, 40, 25, 6, 29, 21, 4, 182, 1, 22, 154, 0, 29, 25, 7, 180, 0, 238, 153, 0, 17, 25, 6]
abbrev dktX1_addValue_2 : List UInt8 := dkwX1_addValue_2 ++ dktX1_addValue_3
def dkwX1_addValue_1 : List UInt8 := [3, 17, 3, 231, 184, 0, 195, 42, 25, 5, 28, 182, 0, 249, 42, 25, 6, 29, 3, 182, 1, 18]
abbrev dktX1_addValue_1 : List UInt8 := dkwX1_addValue_1 ++ dktX1_addValue_2
def dkwX1_addValue_0 : List UInt8 := [42, 27, 182, 0, 183, 58, 5, 25, 5, 28, 184, 1, 15, 58, 6, 42, 29, 182, 0, 191, 58, 7, 21, 4]
abbrev dktX1_addValue_0 : List UInt8 := dkwX1_addValue_0 ++ dktX1_addValue_1
theorem dksX1_addValue_0 : cX1_addValue.data.toList.drop 0 = dktX1_addValue_0 := by decide +kernel
theorem dksX1_addValue_1 : cX1_addValue.data.toList.drop 24 = dktX1_addValue_1 := dk_seg dksX1_addValue_0 24 rfl rfl
theorem dksX1_addValue_2 : cX1_addValue.data.toList.drop 46 = dktX1_addValue_2 := dk_seg dksX1_addValue_1 22 rfl rfl
theorem dksX1_addValue_3 : cX1_addValue.data.toList.drop 70 = dktX1_addValue_3 := dk_seg dksX1_addValue_2 24 rfl rfl
theorem dksX1_addValue_4 : cX1_addValue.data.toList.drop 94 = dktX1_addValue_4 := dk_seg dksX1_addValue_3 24 rfl rfl
theorem dksX1_addValue_5 : cX1_addValue.data.toList.drop 116 = dktX1_addValue_5 := dk_seg dksX1_addValue_4 22 rfl rfl
theorem dX1_addValue_0 : decode cX1_addValue 0 = .ok (.aload_n 0, 1) := dk_42 (dk_at dksX1_addValue_0 0 rfl rfl)
theorem dX1_addValue_1 : decode cX1_addValue 1 = .ok (.iload_n 1, 1) := dk_27 (dk_at dksX1_addValue_0 1 rfl rfl)
theorem dX1_addValue_2 : decode cX1_addValue 2 = .ok (.invokevirtual 183, 3) := dk_182 0 183 (dk_at dksX1_addValue_0 2 rfl rfl)
theorem dX1_addValue_5 : decode cX1_addValue 5 = .ok (.astore 5, 2) := dk_58 5 (dk_at dksX1_addValue_0 5 rfl rfl)
theorem dX1_addValue_7 : decode cX1_addValue 7 = .ok (.aload 5, 2) := dk_25 5 (dk_at dksX1_addValue_0 7 rfl rfl)
theorem dX1_addValue_9 : decode cX1_addValue 9 = .ok (.iload_n 2, 1) := dk_28 (dk_at dksX1_addValue_0 9 rfl rfl)
theorem dX1_addValue_10 : decode cX1_addValue 10 = .ok (.invokestatic 271, 3) := dk_184 1 15 (dk_at dksX1_addValue_0 10 rfl rfl)
theorem dX1_addValue_13 : decode cX1_addValue 13 = .ok (.astore 6, 2) := dk_58 6 (dk_at dksX1_addValue_0 13 rfl rfl)
theorem dX1_addValue_15 : decode cX1_addValue 15 = .ok (.aload_n 0, 1) := dk_42 (dk_at dksX1_addValue_0 15 rfl rfl)
theorem dX1_addValue_16 : decode cX1_addValue 16 = .ok (.iload_n 3, 1) := dk_29 (dk_at dksX1_addValue_0 16 rfl rfl)
theorem dX1_addValue_17 : decode cX1_addValue 17 = .ok (.invokevirtual 191, 3) := dk_182 0 191 (dk_at dksX1_addValue_0 17 rfl rfl)
theorem dX1_addValue_20 : decode cX1_addValue 20 = .ok (.astore 7, 2) := dk_58 7 (dk_at dksX1_addValue_0 20 rfl rfl)
theorem dX1_addValue_22 : decode cX1_addValue 22 = .ok (.iload 4, 2) := dk_21 4 (dk_at dksX1_addValue_0 22 rfl rfl)
theorem dX1_addValue_24 : decode cX1_addValue 24 = .ok (.iconst 0, 1) := dk_3 (dk_at dksX1_addValue_1 0 rfl rfl)
theorem dX1_addValue_25 : decode cX1_addValue 25 = .ok (.sipush 999, 3) := dk_17 3 231 (dk_at dksX1_addValue_1 1 rfl rfl)
theorem dX1_addValue_28 : decode cX1_addValue 28 = .ok (.invokestatic 195, 3) := dk_184 0 195 (dk_at dksX1_addValue_1 4 rfl rfl)
theorem dX1_addValue_31 : decode cX1_addValue 31 = .ok (.aload_n 0, 1) := dk_42 (dk_at dksX1_addValue_1 7 rfl rfl)
theorem dX1_addValue_32 : decode cX1_addValue 32 = .ok (.aload 5, 2) := dk_25 5 (dk_at dksX1_addValue_1 8 rfl rfl)
theorem dX1_addValue_34 : decode cX1_addValue 34 = .ok (.iload_n 2, 1) := dk_28 (dk_at dksX1_addValue_1 10 rfl rfl)
theorem dX1_addValue_35 : decode cX1_addValue 35 = .ok (.invokevirtual 249, 3) := dk_182 0 249 (dk_at dksX1_addValue_1 11 rfl rfl)
theorem dX1_addValue_38 : decode cX1_addValue 38 = .ok (.aload_n 0, 1) := dk_42 (dk_at dksX1_addValue_1 14 rfl rfl)
theorem dX1_addValue_39 : decode cX1_addValue 39 = .ok (.aload 6, 2) := dk_25 6 (dk_at dksX1_addValue_1 15 rfl rfl)
theorem dX1_addValue_41 : decode cX1_addValue 41 = .ok (.iload_n 3, 1) := dk_29 (dk_at dksX1_addValue_1 17 rfl rfl)
theorem dX1_addValue_42 : decode cX1_addValue 42 = .ok (.iconst 0, 1) := dk_3 (dk_at dksX1_addValue_1 18 rfl rfl)
theorem dX1_addValue_43 : decode cX1_addValue 43 = .ok (.invokevirtual 274, 3) := dk_182 1 18 (dk_at dksX1_addValue_1 19 rfl rfl)
theorem dX1_addValue_46 : decode cX1_addValue 46 = .ok (.ifCond .eq 40, 3) := dk_153 0 40 (dk_at dksX1_addValue_2 0 rfl rfl)
theorem dX1_addValue_49 : decode cX1_addValue 49 = .ok (.aload 6, 2) := dk_25 6 (dk_at dksX1_addValue_2 3 rfl rfl)
theorem dX1_addValue_51 : decode cX1_addValue 51 = .ok (.iload_n 3, 1) := dk_29 (dk_at dksX1_addValue_2 5 rfl rfl)
theorem dX1_addValue_52 : decode cX1_addValue 52 = .ok (.iload 4, 2) := dk_21 4 (dk_at dksX1_addValue_2 6 rfl rfl)
theorem dX1_addValue_54 : decode cX1_addValue 54 = .ok (.invokevirtual 278, 3) := dk_182 1 22 (dk_at dksX1_addValue_2 8 rfl rfl)
theorem dX1_addValue_57 : decode cX1_addValue 57 = .ok (.ifCond .ne 29, 3) := dk_154 0 29 (dk_at dksX1_addValue_2 11 rfl rfl)
theorem dX1_addValue_60 : decode cX1_addValue 60 = .ok (.aload 7, 2) := dk_25 7 (dk_at dksX1_addValue_2 14 rfl rfl)
theorem dX1_addValue_62 : decode cX1_addValue 62 = .ok (.getfield 238, 3) := dk_180 0 238 (dk_at dksX1_addValue_2 16 rfl rfl)
theorem dX1_addValue_65 : decode cX1_addValue 65 = .ok (.ifCond .eq 17, 3) := dk_153 0 17 (dk_at dksX1_addValue_2 19 rfl rfl)
theorem dX1_addValue_68 : decode cX1_addValue 68 = .ok (.aload 6, 2) := dk_25 6 (dk_at dksX1_addValue_2 22 rfl rfl)
theorem dX1_addValue_70 : decode cX1_addValue 70 = .ok (.iload_n 3, 1) := dk_29 (dk_at dksX1_addValue_3 0 rfl rfl)
theorem dX1_addValue_71 : decode cX1_addValue 71 = .ok (.invokevirtual 282, 3) := dk_182 1 26 (dk_at dksX1_addValue_3 1 rfl rfl)
theorem dX1_addValue_74 : decode cX1_addValue 74 = .ok (.invokeinterface 286 1, 5) := by decide +kernel
theorem dX1_addValue_79 : decode cX1_addValue 79 = .ok (.ifCond .eq 7, 3) := dk_153 0 7 (dk_at dksX1_addValue_3 9 rfl rfl)
theorem dX1_addValue_82 : decode cX1_addValue 82 = .ok (.iconst 1, 1) := dk_4 (dk_at dksX1_addValue_3 12 rfl rfl)
theorem dX1_addValue_83 : decode cX1_addValue 83 = .ok (.goto 4, 3) := dk_167 0 4 (dk_at dksX1_addValue_3 13 rfl rfl)
theorem dX1_addValue_86 : decode cX1_addValue 86 = .ok (.iconst 0, 1) := dk_3 (dk_at dksX1_addValue_3 16 rfl rfl)
theorem dX1_addValue_87 : decode cX1_addValue 87 = .ok (.istore 8, 2) := dk_54 8 (dk_at dksX1_addValue_3 17 rfl rfl)
theorem dX1_addValue_89 : decode cX1_addValue 89 = .ok (.iload 8, 2) := dk_21 8 (dk_at dksX1_addValue_3 19 rfl rfl)
theorem dX1_addValue_91 : decode cX1_addValue 91 = .ok (.ldc_w 291, 3) := dk_19 1 35 (dk_at dksX1_addValue_3 21 rfl rfl)
theorem dX1_addValue_94 : decode cX1_addValue 94 = .ok (.invokestatic 165, 3) := dk_184 0 165 (dk_at dksX1_addValue_4 0 rfl rfl)
theorem dX1_addValue_97 : decode cX1_addValue 97 = .ok (.aload_n 0, 1) := dk_42 (dk_at dksX1_addValue_4 3 rfl rfl)
theorem dX1_addValue_98 : decode cX1_addValue 98 = .ok (.aload 5, 2) := dk_25 5 (dk_at dksX1_addValue_4 4 rfl rfl)
theorem dX1_addValue_100 : decode cX1_addValue 100 = .ok (.getstatic 293, 3) := dk_178 1 37 (dk_at dksX1_addValue_4 6 rfl rfl)
theorem dX1_addValue_103 : decode cX1_addValue 103 = .ok (.iload_n 2, 1) := dk_28 (dk_at dksX1_addValue_4 9 rfl rfl)
theorem dX1_addValue_104 : decode cX1_addValue 104 = .ok (.iload_n 3, 1) := dk_29 (dk_at dksX1_addValue_4 10 rfl rfl)
theorem dX1_addValue_105 : decode cX1_addValue 105 = .ok (.iload 4, 2) := dk_21 4 (dk_at dksX1_addValue_4 11 rfl rfl)
theorem dX1_addValue_107 : decode cX1_addValue 107 = .ok (.invokevirtual 296, 3) := dk_182 1 40 (dk_at dksX1_addValue_4 13 rfl rfl)
theorem dX1_addValue_110 : decode cX1_addValue 110 = .ok (.aload 6, 2) := dk_25 6 (dk_at dksX1_addValue_4 16 rfl rfl)
theorem dX1_addValue_112 : decode cX1_addValue 112 = .ok (.iload_n 3, 1) := dk_29 (dk_at dksX1_addValue_4 18 rfl rfl)
theorem dX1_addValue_113 : decode cX1_addValue 113 = .ok (.invokevirtual 282, 3) := dk_182 1 26 (dk_at dksX1_addValue_4 19 rfl rfl)
theorem dX1_addValue_116 : decode cX1_addValue 116 = .ok (.invokeinterface 299 1, 5) := by decide +kernel
theorem dX1_addValue_121 : decode cX1_addValue 121 = .ok (.ireturn, 1) := dk_172 (dk_at dksX1_addValue_5 5 rfl rfl)
def fX1_addValue_b87 (e : Nat → Nat) (N : Nat) (m : Mm) (v0 : Option Nat) (v2 : Int32) (v3 : Int32) (v4 : Int32) (v5 : Option Nat) (v6 : Option Nat) (s0 : Int32) : Rs (Int32 ⊕ Nat) := bd_ (fX1_must e N m s0 (some (e (100 + 22)))) (xf_ (fun _ m1 => ck_ m1 v0 1 (bd_ (fX1_makes_2 e N m1 v0 v5 (some (e 7)) v2 v3 v4) (fun _ m2 => ck_ m2 v6 3 (bd_ (fX3_valuesOf e N m2 v6 v3) (fun x1 m3 => ck_ m3 x1 21 (bd_ (fJ38_size_t21 e N m3 x1) (fun x2 m4 => rt_ (.inl x2) m4))))))))
def fX1_addValue_b82 (e : Nat → Nat) (N : Nat) (m : Mm) (v0 : Option Nat) (v2 : Int32) (v3 : Int32) (v4 : Int32) (v5 : Option Nat) (v6 : Option Nat) : Rs (Int32 ⊕ Nat) := fX1_addValue_b87 e N m v0 v2 v3 v4 v5 v6 1
def fX1_addValue_b86 (e : Nat → Nat) (N : Nat) (m : Mm) (v0 : Option Nat) (v2 : Int32) (v3 : Int32) (v4 : Int32) (v5 : Option Nat) (v6 : Option Nat) : Rs (Int32 ⊕ Nat) := fX1_addValue_b87 e N m v0 v2 v3 v4 v5 v6 0
def fX1_addValue (e : Nat → Nat) (N : Nat) (m : Mm) (v0 : Option Nat) (v1 : Int32) (v2 : Int32) (v3 : Int32) (v4 : Int32) : Rs (Int32 ⊕ Nat) := ck_ m v0 1 (bd_ (fX1_at e N m v0 v1) (xf_ (fun x1 m1 => bd_ (fX1_changeable e N m1 x1 v2) (xf_ (fun x2 m2 => ck_ m2 v0 1 (bd_ (fX1_attributeAt e N m2 v0 v3) (xf_ (fun x3 m3 => bd_ (fX1_isWithin e N m3 v4 0 999) (xf_ (fun _ m4 => ck_ m4 v0 1 (bd_ (fX1_mayWrite e N m4 v0 x1 v2) (xf_ (fun _ m5 => ck_ m5 v0 1 (bd_ (fX1_isIn e N m5 v0 x2 v3 0) (fun x4 m6 => if x4 = 0 then (fX1_addValue_b86 e N m6 v0 v2 v3 v4 x1 x2) else (ck_ m6 x2 3 (bd_ (fX3_has e N m6 x2 v3 v4) (fun x5 m7 => if x5 = 0 then (gi_ m7 x3 5 0 (fun x6 => if x6 = 0 then (fX1_addValue_b82 e N m7 v0 v2 v3 v4 x1 x2) else (ck_ m7 x2 3 (bd_ (fX3_valuesOf e N m7 x2 v3) (fun x7 m8 => ck_ m8 x7 21 (bd_ (fJ38_isEmpty_t21 e N m8 x7) (fun x8 m9 => if x8 = 0 then (fX1_addValue_b86 e N m9 v0 v2 v3 v4 x1 x2) else (fX1_addValue_b82 e N m9 v0 v2 v3 v4 x1 x2)))))))) else (fX1_addValue_b86 e N m7 v0 v2 v3 v4 x1 x2)))))))))))))))))))
abbrev cX0_addValue : ByteArray := method_8_code
def yX0_addValue : MethodName := ⟨RX0, "addValue", "(LMasterTree;IIII[J)I"⟩
def dkwX0_addValue_1 : List UInt8 := [172, 58, 6, 6, 172, 3, 172]
abbrev dktX0_addValue_1 : List UInt8 := dkwX0_addValue_1 ++ []
def dkwX0_addValue_0 : List UInt8 := [25, 5, 3, 42, 27, 28, 29, 21, 4, 182, 0, 34, 133, 80, 167, 0, 15, 58, 6, 4, 172, 58, 6, 5]
abbrev dktX0_addValue_0 : List UInt8 := dkwX0_addValue_0 ++ dktX0_addValue_1
theorem dksX0_addValue_0 : cX0_addValue.data.toList.drop 0 = dktX0_addValue_0 := by decide +kernel
theorem dksX0_addValue_1 : cX0_addValue.data.toList.drop 24 = dktX0_addValue_1 := dk_seg dksX0_addValue_0 24 rfl rfl
theorem dX0_addValue_0 : decode cX0_addValue 0 = .ok (.aload 5, 2) := dk_25 5 (dk_at dksX0_addValue_0 0 rfl rfl)
theorem dX0_addValue_2 : decode cX0_addValue 2 = .ok (.iconst 0, 1) := dk_3 (dk_at dksX0_addValue_0 2 rfl rfl)
theorem dX0_addValue_3 : decode cX0_addValue 3 = .ok (.aload_n 0, 1) := dk_42 (dk_at dksX0_addValue_0 3 rfl rfl)
theorem dX0_addValue_4 : decode cX0_addValue 4 = .ok (.iload_n 1, 1) := dk_27 (dk_at dksX0_addValue_0 4 rfl rfl)
theorem dX0_addValue_5 : decode cX0_addValue 5 = .ok (.iload_n 2, 1) := dk_28 (dk_at dksX0_addValue_0 5 rfl rfl)
theorem dX0_addValue_6 : decode cX0_addValue 6 = .ok (.iload_n 3, 1) := dk_29 (dk_at dksX0_addValue_0 6 rfl rfl)
theorem dX0_addValue_7 : decode cX0_addValue 7 = .ok (.iload 4, 2) := dk_21 4 (dk_at dksX0_addValue_0 7 rfl rfl)
theorem dX0_addValue_9 : decode cX0_addValue 9 = .ok (.invokevirtual 34, 3) := dk_182 0 34 (dk_at dksX0_addValue_0 9 rfl rfl)
theorem dX0_addValue_12 : decode cX0_addValue 12 = .ok (.i2l, 1) := dk_133 (dk_at dksX0_addValue_0 12 rfl rfl)
theorem dX0_addValue_13 : decode cX0_addValue 13 = .ok (.lastore, 1) := dk_80 (dk_at dksX0_addValue_0 13 rfl rfl)
theorem dX0_addValue_14 : decode cX0_addValue 14 = .ok (.goto 15, 3) := dk_167 0 15 (dk_at dksX0_addValue_0 14 rfl rfl)
theorem dX0_addValue_17 : decode cX0_addValue 17 = .ok (.astore 6, 2) := dk_58 6 (dk_at dksX0_addValue_0 17 rfl rfl)
theorem dX0_addValue_19 : decode cX0_addValue 19 = .ok (.iconst 1, 1) := dk_4 (dk_at dksX0_addValue_0 19 rfl rfl)
theorem dX0_addValue_20 : decode cX0_addValue 20 = .ok (.ireturn, 1) := dk_172 (dk_at dksX0_addValue_0 20 rfl rfl)
theorem dX0_addValue_21 : decode cX0_addValue 21 = .ok (.astore 6, 2) := dk_58 6 (dk_at dksX0_addValue_0 21 rfl rfl)
theorem dX0_addValue_23 : decode cX0_addValue 23 = .ok (.iconst 2, 1) := dk_5 (dk_at dksX0_addValue_0 23 rfl rfl)
theorem dX0_addValue_24 : decode cX0_addValue 24 = .ok (.ireturn, 1) := dk_172 (dk_at dksX0_addValue_1 0 rfl rfl)
theorem dX0_addValue_25 : decode cX0_addValue 25 = .ok (.astore 6, 2) := dk_58 6 (dk_at dksX0_addValue_1 1 rfl rfl)
theorem dX0_addValue_27 : decode cX0_addValue 27 = .ok (.iconst 3, 1) := dk_6 (dk_at dksX0_addValue_1 3 rfl rfl)
theorem dX0_addValue_28 : decode cX0_addValue 28 = .ok (.ireturn, 1) := dk_172 (dk_at dksX0_addValue_1 4 rfl rfl)
theorem dX0_addValue_29 : decode cX0_addValue 29 = .ok (.iconst 0, 1) := dk_3 (dk_at dksX0_addValue_1 5 rfl rfl)
theorem dX0_addValue_30 : decode cX0_addValue 30 = .ok (.ireturn, 1) := dk_172 (dk_at dksX0_addValue_1 6 rfl rfl)
def fX0_addValue (e : Nat → Nat) (N : Nat) (m : Mm) (v0 : Option Nat) (v1 : Int32) (v2 : Int32) (v3 : Int32) (v4 : Int32) (v5 : Option Nat) : Rs (Int32) := ck_ m v0 1 (bd_ (fX1_addValue e N m v0 v1 v2 v3 v4) (ch_ (fun x1 m1 => bj_ m1 v5 203 0 ((x1 : Int32).toInt64) (fun m2 => rt_ 0 m2)) (fun i_ m0 => if i_ = 0 then rt_ 1 m0 else if i_ = 1 then rt_ 2 m0 else if i_ = 2 then rt_ 3 m0 else none)))
abbrev cX1_removeValue : ByteArray := prog_1_method_26_code
def yX1_removeValue : MethodName := ⟨RX1, "removeValue", "(IIII)I"⟩
def dkwX1_removeValue_4 : List UInt8 := [28, 29, 21, 4, 182, 1, 40, 25, 6, 29, 182, 1, 26, 185, 1, 43, 1, 0, 172]
abbrev dktX1_removeValue_4 : List UInt8 := dkwX1_removeValue_4 ++ []
def dkwX1_removeValue_3 : List UInt8 := [164, 0, 7, 4, 167, 0, 4, 3, 54, 7, 21, 7, 19, 1, 44, 184, 0, 165, 42, 25, 5, 178, 1, 46]
abbrev dktX1_removeValue_3 : List UInt8 := dkwX1_removeValue_3 ++ dktX1_removeValue_4
def dkwX1_removeValue_2 : List UInt8 := [42, 25, 6, 29, 4, 182, 1, 18, 153, 0, 18, 25, 6, 29, 182, 1, 26, 185, 1, 43, 1, 0, 4]
abbrev dktX1_removeValue_2 : List UInt8 := dkwX1_removeValue_2 ++ dktX1_removeValue_3
def dkwX1_removeValue_1 : List UInt8 := [17, 3, 231, 184, 0, 195, 42, 25, 5, 28, 182, 0, 249, 25, 6, 29, 21, 4, 182, 1, 22, 153, 0, 33]
abbrev dktX1_removeValue_1 : List UInt8 := dkwX1_removeValue_1 ++ dktX1_removeValue_2
def dkwX1_removeValue_0 : List UInt8 := [42, 27, 182, 0, 183, 58, 5, 25, 5, 28, 184, 1, 15, 58, 6, 42, 29, 182, 0, 191, 87, 21, 4, 3]
abbrev dktX1_removeValue_0 : List UInt8 := dkwX1_removeValue_0 ++ dktX1_removeValue_1
theorem dksX1_removeValue_0 : cX1_removeValue.data.toList.drop 0 = dktX1_removeValue_0 := by decide +kernel
theorem dksX1_removeValue_1 : cX1_removeValue.data.toList.drop 24 = dktX1_removeValue_1 := dk_seg dksX1_removeValue_0 24 rfl rfl
theorem dksX1_removeValue_2 : cX1_removeValue.data.toList.drop 48 = dktX1_removeValue_2 := dk_seg dksX1_removeValue_1 24 rfl rfl
theorem dksX1_removeValue_3 : cX1_removeValue.data.toList.drop 71 = dktX1_removeValue_3 := dk_seg dksX1_removeValue_2 23 rfl rfl
theorem dksX1_removeValue_4 : cX1_removeValue.data.toList.drop 95 = dktX1_removeValue_4 := dk_seg dksX1_removeValue_3 24 rfl rfl
theorem dX1_removeValue_0 : decode cX1_removeValue 0 = .ok (.aload_n 0, 1) := dk_42 (dk_at dksX1_removeValue_0 0 rfl rfl)
theorem dX1_removeValue_1 : decode cX1_removeValue 1 = .ok (.iload_n 1, 1) := dk_27 (dk_at dksX1_removeValue_0 1 rfl rfl)
theorem dX1_removeValue_2 : decode cX1_removeValue 2 = .ok (.invokevirtual 183, 3) := dk_182 0 183 (dk_at dksX1_removeValue_0 2 rfl rfl)
theorem dX1_removeValue_5 : decode cX1_removeValue 5 = .ok (.astore 5, 2) := dk_58 5 (dk_at dksX1_removeValue_0 5 rfl rfl)
theorem dX1_removeValue_7 : decode cX1_removeValue 7 = .ok (.aload 5, 2) := dk_25 5 (dk_at dksX1_removeValue_0 7 rfl rfl)
theorem dX1_removeValue_9 : decode cX1_removeValue 9 = .ok (.iload_n 2, 1) := dk_28 (dk_at dksX1_removeValue_0 9 rfl rfl)
theorem dX1_removeValue_10 : decode cX1_removeValue 10 = .ok (.invokestatic 271, 3) := dk_184 1 15 (dk_at dksX1_removeValue_0 10 rfl rfl)
theorem dX1_removeValue_13 : decode cX1_removeValue 13 = .ok (.astore 6, 2) := dk_58 6 (dk_at dksX1_removeValue_0 13 rfl rfl)
theorem dX1_removeValue_15 : decode cX1_removeValue 15 = .ok (.aload_n 0, 1) := dk_42 (dk_at dksX1_removeValue_0 15 rfl rfl)
theorem dX1_removeValue_16 : decode cX1_removeValue 16 = .ok (.iload_n 3, 1) := dk_29 (dk_at dksX1_removeValue_0 16 rfl rfl)
theorem dX1_removeValue_17 : decode cX1_removeValue 17 = .ok (.invokevirtual 191, 3) := dk_182 0 191 (dk_at dksX1_removeValue_0 17 rfl rfl)
theorem dX1_removeValue_20 : decode cX1_removeValue 20 = .ok (.pop, 1) := dk_87 (dk_at dksX1_removeValue_0 20 rfl rfl)
theorem dX1_removeValue_21 : decode cX1_removeValue 21 = .ok (.iload 4, 2) := dk_21 4 (dk_at dksX1_removeValue_0 21 rfl rfl)
theorem dX1_removeValue_23 : decode cX1_removeValue 23 = .ok (.iconst 0, 1) := dk_3 (dk_at dksX1_removeValue_0 23 rfl rfl)
theorem dX1_removeValue_24 : decode cX1_removeValue 24 = .ok (.sipush 999, 3) := dk_17 3 231 (dk_at dksX1_removeValue_1 0 rfl rfl)
theorem dX1_removeValue_27 : decode cX1_removeValue 27 = .ok (.invokestatic 195, 3) := dk_184 0 195 (dk_at dksX1_removeValue_1 3 rfl rfl)
theorem dX1_removeValue_30 : decode cX1_removeValue 30 = .ok (.aload_n 0, 1) := dk_42 (dk_at dksX1_removeValue_1 6 rfl rfl)
theorem dX1_removeValue_31 : decode cX1_removeValue 31 = .ok (.aload 5, 2) := dk_25 5 (dk_at dksX1_removeValue_1 7 rfl rfl)
theorem dX1_removeValue_33 : decode cX1_removeValue 33 = .ok (.iload_n 2, 1) := dk_28 (dk_at dksX1_removeValue_1 9 rfl rfl)
theorem dX1_removeValue_34 : decode cX1_removeValue 34 = .ok (.invokevirtual 249, 3) := dk_182 0 249 (dk_at dksX1_removeValue_1 10 rfl rfl)
theorem dX1_removeValue_37 : decode cX1_removeValue 37 = .ok (.aload 6, 2) := dk_25 6 (dk_at dksX1_removeValue_1 13 rfl rfl)
theorem dX1_removeValue_39 : decode cX1_removeValue 39 = .ok (.iload_n 3, 1) := dk_29 (dk_at dksX1_removeValue_1 15 rfl rfl)
theorem dX1_removeValue_40 : decode cX1_removeValue 40 = .ok (.iload 4, 2) := dk_21 4 (dk_at dksX1_removeValue_1 16 rfl rfl)
theorem dX1_removeValue_42 : decode cX1_removeValue 42 = .ok (.invokevirtual 278, 3) := dk_182 1 22 (dk_at dksX1_removeValue_1 18 rfl rfl)
theorem dX1_removeValue_45 : decode cX1_removeValue 45 = .ok (.ifCond .eq 33, 3) := dk_153 0 33 (dk_at dksX1_removeValue_1 21 rfl rfl)
theorem dX1_removeValue_48 : decode cX1_removeValue 48 = .ok (.aload_n 0, 1) := dk_42 (dk_at dksX1_removeValue_2 0 rfl rfl)
theorem dX1_removeValue_49 : decode cX1_removeValue 49 = .ok (.aload 6, 2) := dk_25 6 (dk_at dksX1_removeValue_2 1 rfl rfl)
theorem dX1_removeValue_51 : decode cX1_removeValue 51 = .ok (.iload_n 3, 1) := dk_29 (dk_at dksX1_removeValue_2 3 rfl rfl)
theorem dX1_removeValue_52 : decode cX1_removeValue 52 = .ok (.iconst 1, 1) := dk_4 (dk_at dksX1_removeValue_2 4 rfl rfl)
theorem dX1_removeValue_53 : decode cX1_removeValue 53 = .ok (.invokevirtual 274, 3) := dk_182 1 18 (dk_at dksX1_removeValue_2 5 rfl rfl)
theorem dX1_removeValue_56 : decode cX1_removeValue 56 = .ok (.ifCond .eq 18, 3) := dk_153 0 18 (dk_at dksX1_removeValue_2 8 rfl rfl)
theorem dX1_removeValue_59 : decode cX1_removeValue 59 = .ok (.aload 6, 2) := dk_25 6 (dk_at dksX1_removeValue_2 11 rfl rfl)
theorem dX1_removeValue_61 : decode cX1_removeValue 61 = .ok (.iload_n 3, 1) := dk_29 (dk_at dksX1_removeValue_2 13 rfl rfl)
theorem dX1_removeValue_62 : decode cX1_removeValue 62 = .ok (.invokevirtual 282, 3) := dk_182 1 26 (dk_at dksX1_removeValue_2 14 rfl rfl)
theorem dX1_removeValue_65 : decode cX1_removeValue 65 = .ok (.invokeinterface 299 1, 5) := by decide +kernel
theorem dX1_removeValue_70 : decode cX1_removeValue 70 = .ok (.iconst 1, 1) := dk_4 (dk_at dksX1_removeValue_2 22 rfl rfl)
theorem dX1_removeValue_71 : decode cX1_removeValue 71 = .ok (.if_icmp .le 7, 3) := dk_164 0 7 (dk_at dksX1_removeValue_3 0 rfl rfl)
theorem dX1_removeValue_74 : decode cX1_removeValue 74 = .ok (.iconst 1, 1) := dk_4 (dk_at dksX1_removeValue_3 3 rfl rfl)
theorem dX1_removeValue_75 : decode cX1_removeValue 75 = .ok (.goto 4, 3) := dk_167 0 4 (dk_at dksX1_removeValue_3 4 rfl rfl)
theorem dX1_removeValue_78 : decode cX1_removeValue 78 = .ok (.iconst 0, 1) := dk_3 (dk_at dksX1_removeValue_3 7 rfl rfl)
theorem dX1_removeValue_79 : decode cX1_removeValue 79 = .ok (.istore 7, 2) := dk_54 7 (dk_at dksX1_removeValue_3 8 rfl rfl)
theorem dX1_removeValue_81 : decode cX1_removeValue 81 = .ok (.iload 7, 2) := dk_21 7 (dk_at dksX1_removeValue_3 10 rfl rfl)
theorem dX1_removeValue_83 : decode cX1_removeValue 83 = .ok (.ldc_w 300, 3) := dk_19 1 44 (dk_at dksX1_removeValue_3 12 rfl rfl)
theorem dX1_removeValue_86 : decode cX1_removeValue 86 = .ok (.invokestatic 165, 3) := dk_184 0 165 (dk_at dksX1_removeValue_3 15 rfl rfl)
theorem dX1_removeValue_89 : decode cX1_removeValue 89 = .ok (.aload_n 0, 1) := dk_42 (dk_at dksX1_removeValue_3 18 rfl rfl)
theorem dX1_removeValue_90 : decode cX1_removeValue 90 = .ok (.aload 5, 2) := dk_25 5 (dk_at dksX1_removeValue_3 19 rfl rfl)
theorem dX1_removeValue_92 : decode cX1_removeValue 92 = .ok (.getstatic 302, 3) := dk_178 1 46 (dk_at dksX1_removeValue_3 21 rfl rfl)
theorem dX1_removeValue_95 : decode cX1_removeValue 95 = .ok (.iload_n 2, 1) := dk_28 (dk_at dksX1_removeValue_4 0 rfl rfl)
theorem dX1_removeValue_96 : decode cX1_removeValue 96 = .ok (.iload_n 3, 1) := dk_29 (dk_at dksX1_removeValue_4 1 rfl rfl)
theorem dX1_removeValue_97 : decode cX1_removeValue 97 = .ok (.iload 4, 2) := dk_21 4 (dk_at dksX1_removeValue_4 2 rfl rfl)
theorem dX1_removeValue_99 : decode cX1_removeValue 99 = .ok (.invokevirtual 296, 3) := dk_182 1 40 (dk_at dksX1_removeValue_4 4 rfl rfl)
theorem dX1_removeValue_102 : decode cX1_removeValue 102 = .ok (.aload 6, 2) := dk_25 6 (dk_at dksX1_removeValue_4 7 rfl rfl)
theorem dX1_removeValue_104 : decode cX1_removeValue 104 = .ok (.iload_n 3, 1) := dk_29 (dk_at dksX1_removeValue_4 9 rfl rfl)
theorem dX1_removeValue_105 : decode cX1_removeValue 105 = .ok (.invokevirtual 282, 3) := dk_182 1 26 (dk_at dksX1_removeValue_4 10 rfl rfl)
theorem dX1_removeValue_108 : decode cX1_removeValue 108 = .ok (.invokeinterface 299 1, 5) := by decide +kernel
theorem dX1_removeValue_113 : decode cX1_removeValue 113 = .ok (.ireturn, 1) := dk_172 (dk_at dksX1_removeValue_4 18 rfl rfl)
def fX1_removeValue_b79 (e : Nat → Nat) (N : Nat) (m : Mm) (v0 : Option Nat) (v2 : Int32) (v3 : Int32) (v4 : Int32) (v5 : Option Nat) (v6 : Option Nat) (s0 : Int32) : Rs (Int32 ⊕ Nat) := bd_ (fX1_must e N m s0 (some (e (100 + 23)))) (xf_ (fun _ m1 => ck_ m1 v0 1 (bd_ (fX1_makes_2 e N m1 v0 v5 (some (e 8)) v2 v3 v4) (fun _ m2 => ck_ m2 v6 3 (bd_ (fX3_valuesOf e N m2 v6 v3) (fun x1 m3 => ck_ m3 x1 21 (bd_ (fJ38_size_t21 e N m3 x1) (fun x2 m4 => rt_ (.inl x2) m4))))))))
def fX1_removeValue_b74 (e : Nat → Nat) (N : Nat) (m : Mm) (v0 : Option Nat) (v2 : Int32) (v3 : Int32) (v4 : Int32) (v5 : Option Nat) (v6 : Option Nat) : Rs (Int32 ⊕ Nat) := fX1_removeValue_b79 e N m v0 v2 v3 v4 v5 v6 1
def fX1_removeValue_b78 (e : Nat → Nat) (N : Nat) (m : Mm) (v0 : Option Nat) (v2 : Int32) (v3 : Int32) (v4 : Int32) (v5 : Option Nat) (v6 : Option Nat) : Rs (Int32 ⊕ Nat) := fX1_removeValue_b79 e N m v0 v2 v3 v4 v5 v6 0
def fX1_removeValue (e : Nat → Nat) (N : Nat) (m : Mm) (v0 : Option Nat) (v1 : Int32) (v2 : Int32) (v3 : Int32) (v4 : Int32) : Rs (Int32 ⊕ Nat) := ck_ m v0 1 (bd_ (fX1_at e N m v0 v1) (xf_ (fun x1 m1 => bd_ (fX1_changeable e N m1 x1 v2) (xf_ (fun x2 m2 => ck_ m2 v0 1 (bd_ (fX1_attributeAt e N m2 v0 v3) (xf_ (fun x3 m3 => bd_ (fX1_isWithin e N m3 v4 0 999) (xf_ (fun _ m4 => ck_ m4 v0 1 (bd_ (fX1_mayWrite e N m4 v0 x1 v2) (xf_ (fun _ m5 => ck_ m5 x2 3 (bd_ (fX3_has e N m5 x2 v3 v4) (fun x4 m6 => if x4 = 0 then (fX1_removeValue_b78 e N m6 v0 v2 v3 v4 x1 x2) else (ck_ m6 v0 1 (bd_ (fX1_isIn e N m6 v0 x2 v3 1) (fun x5 m7 => if x5 = 0 then (fX1_removeValue_b74 e N m7 v0 v2 v3 v4 x1 x2) else (ck_ m7 x2 3 (bd_ (fX3_valuesOf e N m7 x2 v3) (fun x6 m8 => ck_ m8 x6 21 (bd_ (fJ38_size_t21 e N m8 x6) (fun x7 m9 => if (1 : Int32) < x7 then (fX1_removeValue_b74 e N m9 v0 v2 v3 v4 x1 x2) else (fX1_removeValue_b78 e N m9 v0 v2 v3 v4 x1 x2))))))))))))))))))))))))
abbrev cX0_removeValue : ByteArray := method_9_code
def yX0_removeValue : MethodName := ⟨RX0, "removeValue", "(LMasterTree;IIII[J)I"⟩
def dkwX0_removeValue_1 : List UInt8 := [172, 58, 6, 6, 172, 3, 172]
abbrev dktX0_removeValue_1 : List UInt8 := dkwX0_removeValue_1 ++ []
def dkwX0_removeValue_0 : List UInt8 := [25, 5, 3, 42, 27, 28, 29, 21, 4, 182, 0, 37, 133, 80, 167, 0, 15, 58, 6, 4, 172, 58, 6, 5]
abbrev dktX0_removeValue_0 : List UInt8 := dkwX0_removeValue_0 ++ dktX0_removeValue_1
theorem dksX0_removeValue_0 : cX0_removeValue.data.toList.drop 0 = dktX0_removeValue_0 := by decide +kernel
theorem dksX0_removeValue_1 : cX0_removeValue.data.toList.drop 24 = dktX0_removeValue_1 := dk_seg dksX0_removeValue_0 24 rfl rfl
theorem dX0_removeValue_0 : decode cX0_removeValue 0 = .ok (.aload 5, 2) := dk_25 5 (dk_at dksX0_removeValue_0 0 rfl rfl)
theorem dX0_removeValue_2 : decode cX0_removeValue 2 = .ok (.iconst 0, 1) := dk_3 (dk_at dksX0_removeValue_0 2 rfl rfl)
theorem dX0_removeValue_3 : decode cX0_removeValue 3 = .ok (.aload_n 0, 1) := dk_42 (dk_at dksX0_removeValue_0 3 rfl rfl)
theorem dX0_removeValue_4 : decode cX0_removeValue 4 = .ok (.iload_n 1, 1) := dk_27 (dk_at dksX0_removeValue_0 4 rfl rfl)
theorem dX0_removeValue_5 : decode cX0_removeValue 5 = .ok (.iload_n 2, 1) := dk_28 (dk_at dksX0_removeValue_0 5 rfl rfl)
theorem dX0_removeValue_6 : decode cX0_removeValue 6 = .ok (.iload_n 3, 1) := dk_29 (dk_at dksX0_removeValue_0 6 rfl rfl)
theorem dX0_removeValue_7 : decode cX0_removeValue 7 = .ok (.iload 4, 2) := dk_21 4 (dk_at dksX0_removeValue_0 7 rfl rfl)
theorem dX0_removeValue_9 : decode cX0_removeValue 9 = .ok (.invokevirtual 37, 3) := dk_182 0 37 (dk_at dksX0_removeValue_0 9 rfl rfl)
theorem dX0_removeValue_12 : decode cX0_removeValue 12 = .ok (.i2l, 1) := dk_133 (dk_at dksX0_removeValue_0 12 rfl rfl)
theorem dX0_removeValue_13 : decode cX0_removeValue 13 = .ok (.lastore, 1) := dk_80 (dk_at dksX0_removeValue_0 13 rfl rfl)
theorem dX0_removeValue_14 : decode cX0_removeValue 14 = .ok (.goto 15, 3) := dk_167 0 15 (dk_at dksX0_removeValue_0 14 rfl rfl)
theorem dX0_removeValue_17 : decode cX0_removeValue 17 = .ok (.astore 6, 2) := dk_58 6 (dk_at dksX0_removeValue_0 17 rfl rfl)
theorem dX0_removeValue_19 : decode cX0_removeValue 19 = .ok (.iconst 1, 1) := dk_4 (dk_at dksX0_removeValue_0 19 rfl rfl)
theorem dX0_removeValue_20 : decode cX0_removeValue 20 = .ok (.ireturn, 1) := dk_172 (dk_at dksX0_removeValue_0 20 rfl rfl)
theorem dX0_removeValue_21 : decode cX0_removeValue 21 = .ok (.astore 6, 2) := dk_58 6 (dk_at dksX0_removeValue_0 21 rfl rfl)
theorem dX0_removeValue_23 : decode cX0_removeValue 23 = .ok (.iconst 2, 1) := dk_5 (dk_at dksX0_removeValue_0 23 rfl rfl)
theorem dX0_removeValue_24 : decode cX0_removeValue 24 = .ok (.ireturn, 1) := dk_172 (dk_at dksX0_removeValue_1 0 rfl rfl)
theorem dX0_removeValue_25 : decode cX0_removeValue 25 = .ok (.astore 6, 2) := dk_58 6 (dk_at dksX0_removeValue_1 1 rfl rfl)
theorem dX0_removeValue_27 : decode cX0_removeValue 27 = .ok (.iconst 3, 1) := dk_6 (dk_at dksX0_removeValue_1 3 rfl rfl)
theorem dX0_removeValue_28 : decode cX0_removeValue 28 = .ok (.ireturn, 1) := dk_172 (dk_at dksX0_removeValue_1 4 rfl rfl)
theorem dX0_removeValue_29 : decode cX0_removeValue 29 = .ok (.iconst 0, 1) := dk_3 (dk_at dksX0_removeValue_1 5 rfl rfl)
theorem dX0_removeValue_30 : decode cX0_removeValue 30 = .ok (.ireturn, 1) := dk_172 (dk_at dksX0_removeValue_1 6 rfl rfl)
def fX0_removeValue (e : Nat → Nat) (N : Nat) (m : Mm) (v0 : Option Nat) (v1 : Int32) (v2 : Int32) (v3 : Int32) (v4 : Int32) (v5 : Option Nat) : Rs (Int32) := ck_ m v0 1 (bd_ (fX1_removeValue e N m v0 v1 v2 v3 v4) (ch_ (fun x1 m1 => bj_ m1 v5 203 0 ((x1 : Int32).toInt64) (fun m2 => rt_ 0 m2)) (fun i_ m0 => if i_ = 0 then rt_ 1 m0 else if i_ = 1 then rt_ 2 m0 else if i_ = 2 then rt_ 3 m0 else none)))
abbrev cX1_replace : ByteArray := prog_1_method_27_code
def yX1_replace : MethodName := ⟨RX1, "replace", "(IIII)I"⟩
def dkwX1_replace_3 : List UInt8 := [21, 4, 182, 1, 40, 21, 7, 172]
abbrev dktX1_replace_3 : List UInt8 := dkwX1_replace_3 ++ []
def dkwX1_replace_2 : List UInt8 := [184, 0, 165, 25, 6, 29, 182, 1, 26, 185, 1, 43, 1, 0, 54, 7, 42, 25, 5, 178, 1, 51, 28, 29]
abbrev dktX1_replace_2 : List UInt8 := dkwX1_replace_2 ++ dktX1_replace_3
def dkwX1_replace_1 : List UInt8 := [17, 3, 231, 184, 0, 195, 42, 25, 5, 28, 182, 0, 249, 42, 25, 6, 29, 3, 182, 1, 18, 19, 1, 49]
abbrev dktX1_replace_1 : List UInt8 := dkwX1_replace_1 ++ dktX1_replace_2
def dkwX1_replace_0 : List UInt8 := [42, 27, 182, 0, 183, 58, 5, 25, 5, 28, 184, 1, 15, 58, 6, 42, 29, 182, 0, 191, 87, 21, 4, 3]
abbrev dktX1_replace_0 : List UInt8 := dkwX1_replace_0 ++ dktX1_replace_1
theorem dksX1_replace_0 : cX1_replace.data.toList.drop 0 = dktX1_replace_0 := by decide +kernel
theorem dksX1_replace_1 : cX1_replace.data.toList.drop 24 = dktX1_replace_1 := dk_seg dksX1_replace_0 24 rfl rfl
theorem dksX1_replace_2 : cX1_replace.data.toList.drop 48 = dktX1_replace_2 := dk_seg dksX1_replace_1 24 rfl rfl
theorem dksX1_replace_3 : cX1_replace.data.toList.drop 72 = dktX1_replace_3 := dk_seg dksX1_replace_2 24 rfl rfl
theorem dX1_replace_0 : decode cX1_replace 0 = .ok (.aload_n 0, 1) := dk_42 (dk_at dksX1_replace_0 0 rfl rfl)
theorem dX1_replace_1 : decode cX1_replace 1 = .ok (.iload_n 1, 1) := dk_27 (dk_at dksX1_replace_0 1 rfl rfl)
theorem dX1_replace_2 : decode cX1_replace 2 = .ok (.invokevirtual 183, 3) := dk_182 0 183 (dk_at dksX1_replace_0 2 rfl rfl)
theorem dX1_replace_5 : decode cX1_replace 5 = .ok (.astore 5, 2) := dk_58 5 (dk_at dksX1_replace_0 5 rfl rfl)
theorem dX1_replace_7 : decode cX1_replace 7 = .ok (.aload 5, 2) := dk_25 5 (dk_at dksX1_replace_0 7 rfl rfl)
theorem dX1_replace_9 : decode cX1_replace 9 = .ok (.iload_n 2, 1) := dk_28 (dk_at dksX1_replace_0 9 rfl rfl)
theorem dX1_replace_10 : decode cX1_replace 10 = .ok (.invokestatic 271, 3) := dk_184 1 15 (dk_at dksX1_replace_0 10 rfl rfl)
theorem dX1_replace_13 : decode cX1_replace 13 = .ok (.astore 6, 2) := dk_58 6 (dk_at dksX1_replace_0 13 rfl rfl)
theorem dX1_replace_15 : decode cX1_replace 15 = .ok (.aload_n 0, 1) := dk_42 (dk_at dksX1_replace_0 15 rfl rfl)
theorem dX1_replace_16 : decode cX1_replace 16 = .ok (.iload_n 3, 1) := dk_29 (dk_at dksX1_replace_0 16 rfl rfl)
theorem dX1_replace_17 : decode cX1_replace 17 = .ok (.invokevirtual 191, 3) := dk_182 0 191 (dk_at dksX1_replace_0 17 rfl rfl)
theorem dX1_replace_20 : decode cX1_replace 20 = .ok (.pop, 1) := dk_87 (dk_at dksX1_replace_0 20 rfl rfl)
theorem dX1_replace_21 : decode cX1_replace 21 = .ok (.iload 4, 2) := dk_21 4 (dk_at dksX1_replace_0 21 rfl rfl)
theorem dX1_replace_23 : decode cX1_replace 23 = .ok (.iconst 0, 1) := dk_3 (dk_at dksX1_replace_0 23 rfl rfl)
theorem dX1_replace_24 : decode cX1_replace 24 = .ok (.sipush 999, 3) := dk_17 3 231 (dk_at dksX1_replace_1 0 rfl rfl)
theorem dX1_replace_27 : decode cX1_replace 27 = .ok (.invokestatic 195, 3) := dk_184 0 195 (dk_at dksX1_replace_1 3 rfl rfl)
theorem dX1_replace_30 : decode cX1_replace 30 = .ok (.aload_n 0, 1) := dk_42 (dk_at dksX1_replace_1 6 rfl rfl)
theorem dX1_replace_31 : decode cX1_replace 31 = .ok (.aload 5, 2) := dk_25 5 (dk_at dksX1_replace_1 7 rfl rfl)
theorem dX1_replace_33 : decode cX1_replace 33 = .ok (.iload_n 2, 1) := dk_28 (dk_at dksX1_replace_1 9 rfl rfl)
theorem dX1_replace_34 : decode cX1_replace 34 = .ok (.invokevirtual 249, 3) := dk_182 0 249 (dk_at dksX1_replace_1 10 rfl rfl)
theorem dX1_replace_37 : decode cX1_replace 37 = .ok (.aload_n 0, 1) := dk_42 (dk_at dksX1_replace_1 13 rfl rfl)
theorem dX1_replace_38 : decode cX1_replace 38 = .ok (.aload 6, 2) := dk_25 6 (dk_at dksX1_replace_1 14 rfl rfl)
theorem dX1_replace_40 : decode cX1_replace 40 = .ok (.iload_n 3, 1) := dk_29 (dk_at dksX1_replace_1 16 rfl rfl)
theorem dX1_replace_41 : decode cX1_replace 41 = .ok (.iconst 0, 1) := dk_3 (dk_at dksX1_replace_1 17 rfl rfl)
theorem dX1_replace_42 : decode cX1_replace 42 = .ok (.invokevirtual 274, 3) := dk_182 1 18 (dk_at dksX1_replace_1 18 rfl rfl)
theorem dX1_replace_45 : decode cX1_replace 45 = .ok (.ldc_w 305, 3) := dk_19 1 49 (dk_at dksX1_replace_1 21 rfl rfl)
theorem dX1_replace_48 : decode cX1_replace 48 = .ok (.invokestatic 165, 3) := dk_184 0 165 (dk_at dksX1_replace_2 0 rfl rfl)
theorem dX1_replace_51 : decode cX1_replace 51 = .ok (.aload 6, 2) := dk_25 6 (dk_at dksX1_replace_2 3 rfl rfl)
theorem dX1_replace_53 : decode cX1_replace 53 = .ok (.iload_n 3, 1) := dk_29 (dk_at dksX1_replace_2 5 rfl rfl)
theorem dX1_replace_54 : decode cX1_replace 54 = .ok (.invokevirtual 282, 3) := dk_182 1 26 (dk_at dksX1_replace_2 6 rfl rfl)
theorem dX1_replace_57 : decode cX1_replace 57 = .ok (.invokeinterface 299 1, 5) := by decide +kernel
theorem dX1_replace_62 : decode cX1_replace 62 = .ok (.istore 7, 2) := dk_54 7 (dk_at dksX1_replace_2 14 rfl rfl)
theorem dX1_replace_64 : decode cX1_replace 64 = .ok (.aload_n 0, 1) := dk_42 (dk_at dksX1_replace_2 16 rfl rfl)
theorem dX1_replace_65 : decode cX1_replace 65 = .ok (.aload 5, 2) := dk_25 5 (dk_at dksX1_replace_2 17 rfl rfl)
theorem dX1_replace_67 : decode cX1_replace 67 = .ok (.getstatic 307, 3) := dk_178 1 51 (dk_at dksX1_replace_2 19 rfl rfl)
theorem dX1_replace_70 : decode cX1_replace 70 = .ok (.iload_n 2, 1) := dk_28 (dk_at dksX1_replace_2 22 rfl rfl)
theorem dX1_replace_71 : decode cX1_replace 71 = .ok (.iload_n 3, 1) := dk_29 (dk_at dksX1_replace_2 23 rfl rfl)
theorem dX1_replace_72 : decode cX1_replace 72 = .ok (.iload 4, 2) := dk_21 4 (dk_at dksX1_replace_3 0 rfl rfl)
theorem dX1_replace_74 : decode cX1_replace 74 = .ok (.invokevirtual 296, 3) := dk_182 1 40 (dk_at dksX1_replace_3 2 rfl rfl)
theorem dX1_replace_77 : decode cX1_replace 77 = .ok (.iload 7, 2) := dk_21 7 (dk_at dksX1_replace_3 5 rfl rfl)
theorem dX1_replace_79 : decode cX1_replace 79 = .ok (.ireturn, 1) := dk_172 (dk_at dksX1_replace_3 7 rfl rfl)
def fX1_replace (e : Nat → Nat) (N : Nat) (m : Mm) (v0 : Option Nat) (v1 : Int32) (v2 : Int32) (v3 : Int32) (v4 : Int32) : Rs (Int32 ⊕ Nat) := ck_ m v0 1 (bd_ (fX1_at e N m v0 v1) (xf_ (fun x1 m1 => bd_ (fX1_changeable e N m1 x1 v2) (xf_ (fun x2 m2 => ck_ m2 v0 1 (bd_ (fX1_attributeAt e N m2 v0 v3) (xf_ (fun x3 m3 => bd_ (fX1_isWithin e N m3 v4 0 999) (xf_ (fun _ m4 => ck_ m4 v0 1 (bd_ (fX1_mayWrite e N m4 v0 x1 v2) (xf_ (fun _ m5 => ck_ m5 v0 1 (bd_ (fX1_isIn e N m5 v0 x2 v3 0) (fun x4 m6 => bd_ (fX1_must e N m6 x4 (some (e (100 + 24)))) (xf_ (fun _ m7 => ck_ m7 x2 3 (bd_ (fX3_valuesOf e N m7 x2 v3) (fun x5 m8 => ck_ m8 x5 21 (bd_ (fJ38_size_t21 e N m8 x5) (fun x6 m9 => ck_ m9 v0 1 (bd_ (fX1_makes_2 e N m9 v0 x1 (some (e 9)) v2 v3 v4) (fun _ m10 => rt_ (.inl x6) m10)))))))))))))))))))))))
abbrev cX0_replace : ByteArray := method_10_code
def yX0_replace : MethodName := ⟨RX0, "replace", "(LMasterTree;IIII[J)I"⟩
def dkwX0_replace_1 : List UInt8 := [172, 58, 6, 6, 172, 3, 172]
abbrev dktX0_replace_1 : List UInt8 := dkwX0_replace_1 ++ []
def dkwX0_replace_0 : List UInt8 := [25, 5, 3, 42, 27, 28, 29, 21, 4, 182, 0, 40, 133, 80, 167, 0, 15, 58, 6, 4, 172, 58, 6, 5]
abbrev dktX0_replace_0 : List UInt8 := dkwX0_replace_0 ++ dktX0_replace_1
theorem dksX0_replace_0 : cX0_replace.data.toList.drop 0 = dktX0_replace_0 := by decide +kernel
theorem dksX0_replace_1 : cX0_replace.data.toList.drop 24 = dktX0_replace_1 := dk_seg dksX0_replace_0 24 rfl rfl
theorem dX0_replace_0 : decode cX0_replace 0 = .ok (.aload 5, 2) := dk_25 5 (dk_at dksX0_replace_0 0 rfl rfl)
theorem dX0_replace_2 : decode cX0_replace 2 = .ok (.iconst 0, 1) := dk_3 (dk_at dksX0_replace_0 2 rfl rfl)
theorem dX0_replace_3 : decode cX0_replace 3 = .ok (.aload_n 0, 1) := dk_42 (dk_at dksX0_replace_0 3 rfl rfl)
theorem dX0_replace_4 : decode cX0_replace 4 = .ok (.iload_n 1, 1) := dk_27 (dk_at dksX0_replace_0 4 rfl rfl)
theorem dX0_replace_5 : decode cX0_replace 5 = .ok (.iload_n 2, 1) := dk_28 (dk_at dksX0_replace_0 5 rfl rfl)
theorem dX0_replace_6 : decode cX0_replace 6 = .ok (.iload_n 3, 1) := dk_29 (dk_at dksX0_replace_0 6 rfl rfl)
theorem dX0_replace_7 : decode cX0_replace 7 = .ok (.iload 4, 2) := dk_21 4 (dk_at dksX0_replace_0 7 rfl rfl)
theorem dX0_replace_9 : decode cX0_replace 9 = .ok (.invokevirtual 40, 3) := dk_182 0 40 (dk_at dksX0_replace_0 9 rfl rfl)
theorem dX0_replace_12 : decode cX0_replace 12 = .ok (.i2l, 1) := dk_133 (dk_at dksX0_replace_0 12 rfl rfl)
theorem dX0_replace_13 : decode cX0_replace 13 = .ok (.lastore, 1) := dk_80 (dk_at dksX0_replace_0 13 rfl rfl)
theorem dX0_replace_14 : decode cX0_replace 14 = .ok (.goto 15, 3) := dk_167 0 15 (dk_at dksX0_replace_0 14 rfl rfl)
theorem dX0_replace_17 : decode cX0_replace 17 = .ok (.astore 6, 2) := dk_58 6 (dk_at dksX0_replace_0 17 rfl rfl)
theorem dX0_replace_19 : decode cX0_replace 19 = .ok (.iconst 1, 1) := dk_4 (dk_at dksX0_replace_0 19 rfl rfl)
theorem dX0_replace_20 : decode cX0_replace 20 = .ok (.ireturn, 1) := dk_172 (dk_at dksX0_replace_0 20 rfl rfl)
theorem dX0_replace_21 : decode cX0_replace 21 = .ok (.astore 6, 2) := dk_58 6 (dk_at dksX0_replace_0 21 rfl rfl)
theorem dX0_replace_23 : decode cX0_replace 23 = .ok (.iconst 2, 1) := dk_5 (dk_at dksX0_replace_0 23 rfl rfl)
theorem dX0_replace_24 : decode cX0_replace 24 = .ok (.ireturn, 1) := dk_172 (dk_at dksX0_replace_1 0 rfl rfl)
theorem dX0_replace_25 : decode cX0_replace 25 = .ok (.astore 6, 2) := dk_58 6 (dk_at dksX0_replace_1 1 rfl rfl)
theorem dX0_replace_27 : decode cX0_replace 27 = .ok (.iconst 3, 1) := dk_6 (dk_at dksX0_replace_1 3 rfl rfl)
theorem dX0_replace_28 : decode cX0_replace 28 = .ok (.ireturn, 1) := dk_172 (dk_at dksX0_replace_1 4 rfl rfl)
theorem dX0_replace_29 : decode cX0_replace 29 = .ok (.iconst 0, 1) := dk_3 (dk_at dksX0_replace_1 5 rfl rfl)
theorem dX0_replace_30 : decode cX0_replace 30 = .ok (.ireturn, 1) := dk_172 (dk_at dksX0_replace_1 6 rfl rfl)
def fX0_replace (e : Nat → Nat) (N : Nat) (m : Mm) (v0 : Option Nat) (v1 : Int32) (v2 : Int32) (v3 : Int32) (v4 : Int32) (v5 : Option Nat) : Rs (Int32) := ck_ m v0 1 (bd_ (fX1_replace e N m v0 v1 v2 v3 v4) (ch_ (fun x1 m1 => bj_ m1 v5 203 0 ((x1 : Int32).toInt64) (fun m2 => rt_ 0 m2)) (fun i_ m0 => if i_ = 0 then rt_ 1 m0 else if i_ = 1 then rt_ 2 m0 else if i_ = 2 then rt_ 3 m0 else none)))
abbrev cX1_rename : ByteArray := prog_1_method_28_code
def yX1_rename : MethodName := ⟨RX1, "rename", "(III)I"⟩
def dkwX1_rename_3 : List UInt8 := [182, 1, 40, 21, 5, 172]
abbrev dktX1_rename_3 : List UInt8 := dkwX1_rename_3 ++ []
def dkwX1_rename_2 : List UInt8 := [3, 19, 1, 57, 184, 0, 165, 25, 4, 28, 182, 1, 59, 54, 5, 42, 25, 4, 178, 1, 62, 28, 29, 3]
abbrev dktX1_rename_2 : List UInt8 := dkwX1_rename_2 ++ dktX1_rename_3
def dkwX1_rename_1 : List UInt8 := [28, 182, 0, 249, 25, 4, 25, 4, 28, 182, 1, 54, 29, 28, 182, 0, 253, 154, 0, 7, 4, 167, 0, 4]
abbrev dktX1_rename_1 : List UInt8 := dkwX1_rename_1 ++ dktX1_rename_2
def dkwX1_rename_0 : List UInt8 := [42, 27, 182, 0, 183, 58, 4, 25, 4, 28, 184, 1, 15, 87, 29, 3, 16, 99, 184, 0, 195, 42, 25, 4]
abbrev dktX1_rename_0 : List UInt8 := dkwX1_rename_0 ++ dktX1_rename_1
theorem dksX1_rename_0 : cX1_rename.data.toList.drop 0 = dktX1_rename_0 := by decide +kernel
theorem dksX1_rename_1 : cX1_rename.data.toList.drop 24 = dktX1_rename_1 := dk_seg dksX1_rename_0 24 rfl rfl
theorem dksX1_rename_2 : cX1_rename.data.toList.drop 48 = dktX1_rename_2 := dk_seg dksX1_rename_1 24 rfl rfl
theorem dksX1_rename_3 : cX1_rename.data.toList.drop 72 = dktX1_rename_3 := dk_seg dksX1_rename_2 24 rfl rfl
theorem dX1_rename_0 : decode cX1_rename 0 = .ok (.aload_n 0, 1) := dk_42 (dk_at dksX1_rename_0 0 rfl rfl)
theorem dX1_rename_1 : decode cX1_rename 1 = .ok (.iload_n 1, 1) := dk_27 (dk_at dksX1_rename_0 1 rfl rfl)
theorem dX1_rename_2 : decode cX1_rename 2 = .ok (.invokevirtual 183, 3) := dk_182 0 183 (dk_at dksX1_rename_0 2 rfl rfl)
theorem dX1_rename_5 : decode cX1_rename 5 = .ok (.astore 4, 2) := dk_58 4 (dk_at dksX1_rename_0 5 rfl rfl)
theorem dX1_rename_7 : decode cX1_rename 7 = .ok (.aload 4, 2) := dk_25 4 (dk_at dksX1_rename_0 7 rfl rfl)
theorem dX1_rename_9 : decode cX1_rename 9 = .ok (.iload_n 2, 1) := dk_28 (dk_at dksX1_rename_0 9 rfl rfl)
theorem dX1_rename_10 : decode cX1_rename 10 = .ok (.invokestatic 271, 3) := dk_184 1 15 (dk_at dksX1_rename_0 10 rfl rfl)
theorem dX1_rename_13 : decode cX1_rename 13 = .ok (.pop, 1) := dk_87 (dk_at dksX1_rename_0 13 rfl rfl)
theorem dX1_rename_14 : decode cX1_rename 14 = .ok (.iload_n 3, 1) := dk_29 (dk_at dksX1_rename_0 14 rfl rfl)
theorem dX1_rename_15 : decode cX1_rename 15 = .ok (.iconst 0, 1) := dk_3 (dk_at dksX1_rename_0 15 rfl rfl)
theorem dX1_rename_16 : decode cX1_rename 16 = .ok (.bipush 99, 2) := dk_16 99 (dk_at dksX1_rename_0 16 rfl rfl)
theorem dX1_rename_18 : decode cX1_rename 18 = .ok (.invokestatic 195, 3) := dk_184 0 195 (dk_at dksX1_rename_0 18 rfl rfl)
theorem dX1_rename_21 : decode cX1_rename 21 = .ok (.aload_n 0, 1) := dk_42 (dk_at dksX1_rename_0 21 rfl rfl)
theorem dX1_rename_22 : decode cX1_rename 22 = .ok (.aload 4, 2) := dk_25 4 (dk_at dksX1_rename_0 22 rfl rfl)
theorem dX1_rename_24 : decode cX1_rename 24 = .ok (.iload_n 2, 1) := dk_28 (dk_at dksX1_rename_1 0 rfl rfl)
theorem dX1_rename_25 : decode cX1_rename 25 = .ok (.invokevirtual 249, 3) := dk_182 0 249 (dk_at dksX1_rename_1 1 rfl rfl)
theorem dX1_rename_28 : decode cX1_rename 28 = .ok (.aload 4, 2) := dk_25 4 (dk_at dksX1_rename_1 4 rfl rfl)
theorem dX1_rename_30 : decode cX1_rename 30 = .ok (.aload 4, 2) := dk_25 4 (dk_at dksX1_rename_1 6 rfl rfl)
theorem dX1_rename_32 : decode cX1_rename 32 = .ok (.iload_n 2, 1) := dk_28 (dk_at dksX1_rename_1 8 rfl rfl)
theorem dX1_rename_33 : decode cX1_rename 33 = .ok (.invokevirtual 310, 3) := dk_182 1 54 (dk_at dksX1_rename_1 9 rfl rfl)
theorem dX1_rename_36 : decode cX1_rename 36 = .ok (.iload_n 3, 1) := dk_29 (dk_at dksX1_rename_1 12 rfl rfl)
theorem dX1_rename_37 : decode cX1_rename 37 = .ok (.iload_n 2, 1) := dk_28 (dk_at dksX1_rename_1 13 rfl rfl)
theorem dX1_rename_38 : decode cX1_rename 38 = .ok (.invokevirtual 253, 3) := dk_182 0 253 (dk_at dksX1_rename_1 14 rfl rfl)
theorem dX1_rename_41 : decode cX1_rename 41 = .ok (.ifCond .ne 7, 3) := dk_154 0 7 (dk_at dksX1_rename_1 17 rfl rfl)
theorem dX1_rename_44 : decode cX1_rename 44 = .ok (.iconst 1, 1) := dk_4 (dk_at dksX1_rename_1 20 rfl rfl)
theorem dX1_rename_45 : decode cX1_rename 45 = .ok (.goto 4, 3) := dk_167 0 4 (dk_at dksX1_rename_1 21 rfl rfl)
theorem dX1_rename_48 : decode cX1_rename 48 = .ok (.iconst 0, 1) := dk_3 (dk_at dksX1_rename_2 0 rfl rfl)
theorem dX1_rename_49 : decode cX1_rename 49 = .ok (.ldc_w 313, 3) := dk_19 1 57 (dk_at dksX1_rename_2 1 rfl rfl)
theorem dX1_rename_52 : decode cX1_rename 52 = .ok (.invokestatic 165, 3) := dk_184 0 165 (dk_at dksX1_rename_2 4 rfl rfl)
theorem dX1_rename_55 : decode cX1_rename 55 = .ok (.aload 4, 2) := dk_25 4 (dk_at dksX1_rename_2 7 rfl rfl)
theorem dX1_rename_57 : decode cX1_rename 57 = .ok (.iload_n 2, 1) := dk_28 (dk_at dksX1_rename_2 9 rfl rfl)
theorem dX1_rename_58 : decode cX1_rename 58 = .ok (.invokevirtual 315, 3) := dk_182 1 59 (dk_at dksX1_rename_2 10 rfl rfl)
theorem dX1_rename_61 : decode cX1_rename 61 = .ok (.istore 5, 2) := dk_54 5 (dk_at dksX1_rename_2 13 rfl rfl)
theorem dX1_rename_63 : decode cX1_rename 63 = .ok (.aload_n 0, 1) := dk_42 (dk_at dksX1_rename_2 15 rfl rfl)
theorem dX1_rename_64 : decode cX1_rename 64 = .ok (.aload 4, 2) := dk_25 4 (dk_at dksX1_rename_2 16 rfl rfl)
theorem dX1_rename_66 : decode cX1_rename 66 = .ok (.getstatic 318, 3) := dk_178 1 62 (dk_at dksX1_rename_2 18 rfl rfl)
theorem dX1_rename_69 : decode cX1_rename 69 = .ok (.iload_n 2, 1) := dk_28 (dk_at dksX1_rename_2 21 rfl rfl)
theorem dX1_rename_70 : decode cX1_rename 70 = .ok (.iload_n 3, 1) := dk_29 (dk_at dksX1_rename_2 22 rfl rfl)
theorem dX1_rename_71 : decode cX1_rename 71 = .ok (.iconst 0, 1) := dk_3 (dk_at dksX1_rename_2 23 rfl rfl)
theorem dX1_rename_72 : decode cX1_rename 72 = .ok (.invokevirtual 296, 3) := dk_182 1 40 (dk_at dksX1_rename_3 0 rfl rfl)
theorem dX1_rename_75 : decode cX1_rename 75 = .ok (.iload 5, 2) := dk_21 5 (dk_at dksX1_rename_3 3 rfl rfl)
theorem dX1_rename_77 : decode cX1_rename 77 = .ok (.ireturn, 1) := dk_172 (dk_at dksX1_rename_3 5 rfl rfl)
def fX1_rename_b49 (e : Nat → Nat) (N : Nat) (m : Mm) (v0 : Option Nat) (v2 : Int32) (v3 : Int32) (v4 : Option Nat) (s0 : Int32) : Rs (Int32 ⊕ Nat) := bd_ (fX1_must e N m s0 (some (e (100 + 25)))) (xf_ (fun _ m1 => ck_ m1 v4 2 (bd_ (fX2_shownName e N m1 v4 v2) (fun x1 m2 => ck_ m2 v0 1 (bd_ (fX1_makes_2 e N m2 v0 v4 (some (e 10)) v2 v3 0) (fun _ m3 => rt_ (.inl x1) m3))))))
def fX1_rename (e : Nat → Nat) (N : Nat) (m : Mm) (v0 : Option Nat) (v1 : Int32) (v2 : Int32) (v3 : Int32) : Rs (Int32 ⊕ Nat) := ck_ m v0 1 (bd_ (fX1_at e N m v0 v1) (xf_ (fun x1 m1 => bd_ (fX1_changeable e N m1 x1 v2) (xf_ (fun x2 m2 => bd_ (fX1_isWithin e N m2 v3 0 99) (xf_ (fun _ m3 => ck_ m3 v0 1 (bd_ (fX1_mayWrite e N m3 v0 x1 v2) (xf_ (fun _ m4 => ck_ m4 x1 2 (bd_ (fX2_shownAt e N m4 x1 v2) (fun x3 m5 => ck_ m5 x1 2 (bd_ (fX2_isShown e N m5 x1 x3 v3 v2) (fun x4 m6 => if x4 = 0 then (fX1_rename_b49 e N m6 v0 v2 v3 x1 1) else (fX1_rename_b49 e N m6 v0 v2 v3 x1 0)))))))))))))))
abbrev cX0_rename : ByteArray := method_11_code
def yX0_rename : MethodName := ⟨RX0, "rename", "(LMasterTree;III[J)I"⟩
def dkwX0_rename_1 : List UInt8 := [58, 5, 6, 172, 3, 172]
abbrev dktX0_rename_1 : List UInt8 := dkwX0_rename_1 ++ []
def dkwX0_rename_0 : List UInt8 := [25, 4, 3, 42, 27, 28, 29, 182, 0, 43, 133, 80, 167, 0, 15, 58, 5, 4, 172, 58, 5, 5, 172]
abbrev dktX0_rename_0 : List UInt8 := dkwX0_rename_0 ++ dktX0_rename_1
theorem dksX0_rename_0 : cX0_rename.data.toList.drop 0 = dktX0_rename_0 := by decide +kernel
theorem dksX0_rename_1 : cX0_rename.data.toList.drop 23 = dktX0_rename_1 := dk_seg dksX0_rename_0 23 rfl rfl
theorem dX0_rename_0 : decode cX0_rename 0 = .ok (.aload 4, 2) := dk_25 4 (dk_at dksX0_rename_0 0 rfl rfl)
theorem dX0_rename_2 : decode cX0_rename 2 = .ok (.iconst 0, 1) := dk_3 (dk_at dksX0_rename_0 2 rfl rfl)
theorem dX0_rename_3 : decode cX0_rename 3 = .ok (.aload_n 0, 1) := dk_42 (dk_at dksX0_rename_0 3 rfl rfl)
theorem dX0_rename_4 : decode cX0_rename 4 = .ok (.iload_n 1, 1) := dk_27 (dk_at dksX0_rename_0 4 rfl rfl)
theorem dX0_rename_5 : decode cX0_rename 5 = .ok (.iload_n 2, 1) := dk_28 (dk_at dksX0_rename_0 5 rfl rfl)
theorem dX0_rename_6 : decode cX0_rename 6 = .ok (.iload_n 3, 1) := dk_29 (dk_at dksX0_rename_0 6 rfl rfl)
theorem dX0_rename_7 : decode cX0_rename 7 = .ok (.invokevirtual 43, 3) := dk_182 0 43 (dk_at dksX0_rename_0 7 rfl rfl)
theorem dX0_rename_10 : decode cX0_rename 10 = .ok (.i2l, 1) := dk_133 (dk_at dksX0_rename_0 10 rfl rfl)
theorem dX0_rename_11 : decode cX0_rename 11 = .ok (.lastore, 1) := dk_80 (dk_at dksX0_rename_0 11 rfl rfl)
theorem dX0_rename_12 : decode cX0_rename 12 = .ok (.goto 15, 3) := dk_167 0 15 (dk_at dksX0_rename_0 12 rfl rfl)
theorem dX0_rename_15 : decode cX0_rename 15 = .ok (.astore 5, 2) := dk_58 5 (dk_at dksX0_rename_0 15 rfl rfl)
theorem dX0_rename_17 : decode cX0_rename 17 = .ok (.iconst 1, 1) := dk_4 (dk_at dksX0_rename_0 17 rfl rfl)
theorem dX0_rename_18 : decode cX0_rename 18 = .ok (.ireturn, 1) := dk_172 (dk_at dksX0_rename_0 18 rfl rfl)
theorem dX0_rename_19 : decode cX0_rename 19 = .ok (.astore 5, 2) := dk_58 5 (dk_at dksX0_rename_0 19 rfl rfl)
theorem dX0_rename_21 : decode cX0_rename 21 = .ok (.iconst 2, 1) := dk_5 (dk_at dksX0_rename_0 21 rfl rfl)
theorem dX0_rename_22 : decode cX0_rename 22 = .ok (.ireturn, 1) := dk_172 (dk_at dksX0_rename_0 22 rfl rfl)
theorem dX0_rename_23 : decode cX0_rename 23 = .ok (.astore 5, 2) := dk_58 5 (dk_at dksX0_rename_1 0 rfl rfl)
theorem dX0_rename_25 : decode cX0_rename 25 = .ok (.iconst 3, 1) := dk_6 (dk_at dksX0_rename_1 2 rfl rfl)
theorem dX0_rename_26 : decode cX0_rename 26 = .ok (.ireturn, 1) := dk_172 (dk_at dksX0_rename_1 3 rfl rfl)
theorem dX0_rename_27 : decode cX0_rename 27 = .ok (.iconst 0, 1) := dk_3 (dk_at dksX0_rename_1 4 rfl rfl)
theorem dX0_rename_28 : decode cX0_rename 28 = .ok (.ireturn, 1) := dk_172 (dk_at dksX0_rename_1 5 rfl rfl)
def fX0_rename (e : Nat → Nat) (N : Nat) (m : Mm) (v0 : Option Nat) (v1 : Int32) (v2 : Int32) (v3 : Int32) (v4 : Option Nat) : Rs (Int32) := ck_ m v0 1 (bd_ (fX1_rename e N m v0 v1 v2 v3) (ch_ (fun x1 m1 => bj_ m1 v4 203 0 ((x1 : Int32).toInt64) (fun m2 => rt_ 0 m2)) (fun i_ m0 => if i_ = 0 then rt_ 1 m0 else if i_ = 1 then rt_ 2 m0 else if i_ = 2 then rt_ 3 m0 else none)))
abbrev cX1_move : ByteArray := prog_1_method_29_code
def yX1_move : MethodName := ⟨RX1, "move", "(III)I"⟩
def dkwX1_move_4 : List UInt8 := [182, 1, 40, 21, 6, 172]
abbrev dktX1_move_4 : List UInt8 := dkwX1_move_4 ++ []
def dkwX1_move_3 : List UInt8 := [19, 1, 71, 184, 0, 165, 25, 4, 28, 182, 1, 54, 54, 6, 42, 25, 4, 178, 0, 30, 28, 29, 3]
abbrev dktX1_move_3 : List UInt8 := dkwX1_move_3 ++ dktX1_move_4
def dkwX1_move_2 : List UInt8 := [154, 0, 22, 25, 4, 29, 25, 5, 180, 1, 68, 28, 182, 0, 253, 154, 0, 7, 4, 167, 0, 4, 3]
abbrev dktX1_move_2 : List UInt8 := dkwX1_move_2 ++ dktX1_move_3
def dkwX1_move_1 : List UInt8 := [25, 4, 28, 182, 0, 249, 42, 25, 4, 29, 182, 0, 249, 25, 4, 180, 1, 65, 28, 29, 184, 0, 40]
abbrev dktX1_move_1 : List UInt8 := dkwX1_move_1 ++ dktX1_move_2
def dkwX1_move_0 : List UInt8 := [42, 27, 182, 0, 183, 58, 4, 25, 4, 28, 184, 1, 15, 58, 5, 25, 4, 29, 184, 0, 133, 87, 42]
abbrev dktX1_move_0 : List UInt8 := dkwX1_move_0 ++ dktX1_move_1
theorem dksX1_move_0 : cX1_move.data.toList.drop 0 = dktX1_move_0 := by decide +kernel
theorem dksX1_move_1 : cX1_move.data.toList.drop 23 = dktX1_move_1 := dk_seg dksX1_move_0 23 rfl rfl
theorem dksX1_move_2 : cX1_move.data.toList.drop 46 = dktX1_move_2 := dk_seg dksX1_move_1 23 rfl rfl
theorem dksX1_move_3 : cX1_move.data.toList.drop 69 = dktX1_move_3 := dk_seg dksX1_move_2 23 rfl rfl
theorem dksX1_move_4 : cX1_move.data.toList.drop 92 = dktX1_move_4 := dk_seg dksX1_move_3 23 rfl rfl
theorem dX1_move_0 : decode cX1_move 0 = .ok (.aload_n 0, 1) := dk_42 (dk_at dksX1_move_0 0 rfl rfl)
theorem dX1_move_1 : decode cX1_move 1 = .ok (.iload_n 1, 1) := dk_27 (dk_at dksX1_move_0 1 rfl rfl)
theorem dX1_move_2 : decode cX1_move 2 = .ok (.invokevirtual 183, 3) := dk_182 0 183 (dk_at dksX1_move_0 2 rfl rfl)
theorem dX1_move_5 : decode cX1_move 5 = .ok (.astore 4, 2) := dk_58 4 (dk_at dksX1_move_0 5 rfl rfl)
theorem dX1_move_7 : decode cX1_move 7 = .ok (.aload 4, 2) := dk_25 4 (dk_at dksX1_move_0 7 rfl rfl)
theorem dX1_move_9 : decode cX1_move 9 = .ok (.iload_n 2, 1) := dk_28 (dk_at dksX1_move_0 9 rfl rfl)
theorem dX1_move_10 : decode cX1_move 10 = .ok (.invokestatic 271, 3) := dk_184 1 15 (dk_at dksX1_move_0 10 rfl rfl)
theorem dX1_move_13 : decode cX1_move 13 = .ok (.astore 5, 2) := dk_58 5 (dk_at dksX1_move_0 13 rfl rfl)
theorem dX1_move_15 : decode cX1_move 15 = .ok (.aload 4, 2) := dk_25 4 (dk_at dksX1_move_0 15 rfl rfl)
theorem dX1_move_17 : decode cX1_move 17 = .ok (.iload_n 3, 1) := dk_29 (dk_at dksX1_move_0 17 rfl rfl)
theorem dX1_move_18 : decode cX1_move 18 = .ok (.invokestatic 133, 3) := dk_184 0 133 (dk_at dksX1_move_0 18 rfl rfl)
theorem dX1_move_21 : decode cX1_move 21 = .ok (.pop, 1) := dk_87 (dk_at dksX1_move_0 21 rfl rfl)
theorem dX1_move_22 : decode cX1_move 22 = .ok (.aload_n 0, 1) := dk_42 (dk_at dksX1_move_0 22 rfl rfl)
theorem dX1_move_23 : decode cX1_move 23 = .ok (.aload 4, 2) := dk_25 4 (dk_at dksX1_move_1 0 rfl rfl)
theorem dX1_move_25 : decode cX1_move 25 = .ok (.iload_n 2, 1) := dk_28 (dk_at dksX1_move_1 2 rfl rfl)
theorem dX1_move_26 : decode cX1_move 26 = .ok (.invokevirtual 249, 3) := dk_182 0 249 (dk_at dksX1_move_1 3 rfl rfl)
theorem dX1_move_29 : decode cX1_move 29 = .ok (.aload_n 0, 1) := dk_42 (dk_at dksX1_move_1 6 rfl rfl)
theorem dX1_move_30 : decode cX1_move 30 = .ok (.aload 4, 2) := dk_25 4 (dk_at dksX1_move_1 7 rfl rfl)
theorem dX1_move_32 : decode cX1_move 32 = .ok (.iload_n 3, 1) := dk_29 (dk_at dksX1_move_1 9 rfl rfl)
theorem dX1_move_33 : decode cX1_move 33 = .ok (.invokevirtual 249, 3) := dk_182 0 249 (dk_at dksX1_move_1 10 rfl rfl)
theorem dX1_move_36 : decode cX1_move 36 = .ok (.aload 4, 2) := dk_25 4 (dk_at dksX1_move_1 13 rfl rfl)
theorem dX1_move_38 : decode cX1_move 38 = .ok (.getfield 321, 3) := dk_180 1 65 (dk_at dksX1_move_1 15 rfl rfl)
theorem dX1_move_41 : decode cX1_move 41 = .ok (.iload_n 2, 1) := dk_28 (dk_at dksX1_move_1 18 rfl rfl)
theorem dX1_move_42 : decode cX1_move 42 = .ok (.iload_n 3, 1) := dk_29 (dk_at dksX1_move_1 19 rfl rfl)
theorem dX1_move_43 : decode cX1_move 43 = .ok (.invokestatic 40, 3) := dk_184 0 40 (dk_at dksX1_move_1 20 rfl rfl)
theorem dX1_move_46 : decode cX1_move 46 = .ok (.ifCond .ne 22, 3) := dk_154 0 22 (dk_at dksX1_move_2 0 rfl rfl)
theorem dX1_move_49 : decode cX1_move 49 = .ok (.aload 4, 2) := dk_25 4 (dk_at dksX1_move_2 3 rfl rfl)
theorem dX1_move_51 : decode cX1_move 51 = .ok (.iload_n 3, 1) := dk_29 (dk_at dksX1_move_2 5 rfl rfl)
theorem dX1_move_52 : decode cX1_move 52 = .ok (.aload 5, 2) := dk_25 5 (dk_at dksX1_move_2 6 rfl rfl)
theorem dX1_move_54 : decode cX1_move 54 = .ok (.getfield 324, 3) := dk_180 1 68 (dk_at dksX1_move_2 8 rfl rfl)
theorem dX1_move_57 : decode cX1_move 57 = .ok (.iload_n 2, 1) := dk_28 (dk_at dksX1_move_2 11 rfl rfl)
theorem dX1_move_58 : decode cX1_move 58 = .ok (.invokevirtual 253, 3) := dk_182 0 253 (dk_at dksX1_move_2 12 rfl rfl)
theorem dX1_move_61 : decode cX1_move 61 = .ok (.ifCond .ne 7, 3) := dk_154 0 7 (dk_at dksX1_move_2 15 rfl rfl)
theorem dX1_move_64 : decode cX1_move 64 = .ok (.iconst 1, 1) := dk_4 (dk_at dksX1_move_2 18 rfl rfl)
theorem dX1_move_65 : decode cX1_move 65 = .ok (.goto 4, 3) := dk_167 0 4 (dk_at dksX1_move_2 19 rfl rfl)
theorem dX1_move_68 : decode cX1_move 68 = .ok (.iconst 0, 1) := dk_3 (dk_at dksX1_move_2 22 rfl rfl)
theorem dX1_move_69 : decode cX1_move 69 = .ok (.ldc_w 327, 3) := dk_19 1 71 (dk_at dksX1_move_3 0 rfl rfl)
theorem dX1_move_72 : decode cX1_move 72 = .ok (.invokestatic 165, 3) := dk_184 0 165 (dk_at dksX1_move_3 3 rfl rfl)
theorem dX1_move_75 : decode cX1_move 75 = .ok (.aload 4, 2) := dk_25 4 (dk_at dksX1_move_3 6 rfl rfl)
theorem dX1_move_77 : decode cX1_move 77 = .ok (.iload_n 2, 1) := dk_28 (dk_at dksX1_move_3 8 rfl rfl)
theorem dX1_move_78 : decode cX1_move 78 = .ok (.invokevirtual 310, 3) := dk_182 1 54 (dk_at dksX1_move_3 9 rfl rfl)
theorem dX1_move_81 : decode cX1_move 81 = .ok (.istore 6, 2) := dk_54 6 (dk_at dksX1_move_3 12 rfl rfl)
theorem dX1_move_83 : decode cX1_move 83 = .ok (.aload_n 0, 1) := dk_42 (dk_at dksX1_move_3 14 rfl rfl)
theorem dX1_move_84 : decode cX1_move 84 = .ok (.aload 4, 2) := dk_25 4 (dk_at dksX1_move_3 15 rfl rfl)
theorem dX1_move_86 : decode cX1_move 86 = .ok (.getstatic 30, 3) := dk_178 0 30 (dk_at dksX1_move_3 17 rfl rfl)
theorem dX1_move_89 : decode cX1_move 89 = .ok (.iload_n 2, 1) := dk_28 (dk_at dksX1_move_3 20 rfl rfl)
theorem dX1_move_90 : decode cX1_move 90 = .ok (.iload_n 3, 1) := dk_29 (dk_at dksX1_move_3 21 rfl rfl)
theorem dX1_move_91 : decode cX1_move 91 = .ok (.iconst 0, 1) := dk_3 (dk_at dksX1_move_3 22 rfl rfl)
theorem dX1_move_92 : decode cX1_move 92 = .ok (.invokevirtual 296, 3) := dk_182 1 40 (dk_at dksX1_move_4 0 rfl rfl)
theorem dX1_move_95 : decode cX1_move 95 = .ok (.iload 6, 2) := dk_21 6 (dk_at dksX1_move_4 3 rfl rfl)
theorem dX1_move_97 : decode cX1_move 97 = .ok (.ireturn, 1) := dk_172 (dk_at dksX1_move_4 5 rfl rfl)
def fX1_move_b69 (e : Nat → Nat) (N : Nat) (m : Mm) (v0 : Option Nat) (v2 : Int32) (v3 : Int32) (v4 : Option Nat) (s0 : Int32) : Rs (Int32 ⊕ Nat) := bd_ (fX1_must e N m s0 (some (e (100 + 26)))) (xf_ (fun _ m1 => ck_ m1 v4 2 (bd_ (fX2_shownAt e N m1 v4 v2) (fun x1 m2 => ck_ m2 v0 1 (bd_ (fX1_makes_2 e N m2 v0 v4 (some (e 13)) v2 v3 0) (fun _ m3 => rt_ (.inl x1) m3))))))
def fX1_move_b68 (e : Nat → Nat) (N : Nat) (m : Mm) (v0 : Option Nat) (v2 : Int32) (v3 : Int32) (v4 : Option Nat) : Rs (Int32 ⊕ Nat) := fX1_move_b69 e N m v0 v2 v3 v4 0
def fX1_move (e : Nat → Nat) (N : Nat) (m : Mm) (v0 : Option Nat) (v1 : Int32) (v2 : Int32) (v3 : Int32) : Rs (Int32 ⊕ Nat) := ck_ m v0 1 (bd_ (fX1_at e N m v0 v1) (xf_ (fun x1 m1 => bd_ (fX1_changeable e N m1 x1 v2) (xf_ (fun x2 m2 => bd_ (fX1_liveAt e N m2 x1 v3) (xf_ (fun x3 m3 => ck_ m3 v0 1 (bd_ (fX1_mayWrite e N m3 v0 x1 v2) (xf_ (fun _ m4 => ck_ m4 v0 1 (bd_ (fX1_mayWrite e N m4 v0 x1 v3) (xf_ (fun _ m5 => gr_ m5 x1 2 7 (fun x4 => bd_ (fX1_isAbove e N m5 x4 v2 v3) (fun x5 m6 => if x5 = 0 then (gi_ m6 x2 3 5 (fun x6 => ck_ m6 x1 2 (bd_ (fX2_isShown e N m6 x1 v3 x6 v2) (fun x7 m7 => if x7 = 0 then (fX1_move_b69 e N m7 v0 v2 v3 x1 1) else (fX1_move_b68 e N m7 v0 v2 v3 x1))))) else (fX1_move_b68 e N m6 v0 v2 v3 x1))))))))))))))))
abbrev cX0_move : ByteArray := method_12_code
def yX0_move : MethodName := ⟨RX0, "move", "(LMasterTree;III[J)I"⟩
def dkwX0_move_1 : List UInt8 := [172]
abbrev dktX0_move_1 : List UInt8 := dkwX0_move_1 ++ []
def dkwX0_move_0 : List UInt8 := [25, 4, 3, 42, 27, 28, 29, 182, 0, 46, 133, 80, 167, 0, 11, 58, 5, 4, 172, 58, 5, 5, 172, 3]
abbrev dktX0_move_0 : List UInt8 := dkwX0_move_0 ++ dktX0_move_1
theorem dksX0_move_0 : cX0_move.data.toList.drop 0 = dktX0_move_0 := by decide +kernel
theorem dksX0_move_1 : cX0_move.data.toList.drop 24 = dktX0_move_1 := dk_seg dksX0_move_0 24 rfl rfl
theorem dX0_move_0 : decode cX0_move 0 = .ok (.aload 4, 2) := dk_25 4 (dk_at dksX0_move_0 0 rfl rfl)
theorem dX0_move_2 : decode cX0_move 2 = .ok (.iconst 0, 1) := dk_3 (dk_at dksX0_move_0 2 rfl rfl)
theorem dX0_move_3 : decode cX0_move 3 = .ok (.aload_n 0, 1) := dk_42 (dk_at dksX0_move_0 3 rfl rfl)
theorem dX0_move_4 : decode cX0_move 4 = .ok (.iload_n 1, 1) := dk_27 (dk_at dksX0_move_0 4 rfl rfl)
theorem dX0_move_5 : decode cX0_move 5 = .ok (.iload_n 2, 1) := dk_28 (dk_at dksX0_move_0 5 rfl rfl)
theorem dX0_move_6 : decode cX0_move 6 = .ok (.iload_n 3, 1) := dk_29 (dk_at dksX0_move_0 6 rfl rfl)
theorem dX0_move_7 : decode cX0_move 7 = .ok (.invokevirtual 46, 3) := dk_182 0 46 (dk_at dksX0_move_0 7 rfl rfl)
theorem dX0_move_10 : decode cX0_move 10 = .ok (.i2l, 1) := dk_133 (dk_at dksX0_move_0 10 rfl rfl)
theorem dX0_move_11 : decode cX0_move 11 = .ok (.lastore, 1) := dk_80 (dk_at dksX0_move_0 11 rfl rfl)
theorem dX0_move_12 : decode cX0_move 12 = .ok (.goto 11, 3) := dk_167 0 11 (dk_at dksX0_move_0 12 rfl rfl)
theorem dX0_move_15 : decode cX0_move 15 = .ok (.astore 5, 2) := dk_58 5 (dk_at dksX0_move_0 15 rfl rfl)
theorem dX0_move_17 : decode cX0_move 17 = .ok (.iconst 1, 1) := dk_4 (dk_at dksX0_move_0 17 rfl rfl)
theorem dX0_move_18 : decode cX0_move 18 = .ok (.ireturn, 1) := dk_172 (dk_at dksX0_move_0 18 rfl rfl)
theorem dX0_move_19 : decode cX0_move 19 = .ok (.astore 5, 2) := dk_58 5 (dk_at dksX0_move_0 19 rfl rfl)
theorem dX0_move_21 : decode cX0_move 21 = .ok (.iconst 2, 1) := dk_5 (dk_at dksX0_move_0 21 rfl rfl)
theorem dX0_move_22 : decode cX0_move 22 = .ok (.ireturn, 1) := dk_172 (dk_at dksX0_move_0 22 rfl rfl)
theorem dX0_move_23 : decode cX0_move 23 = .ok (.iconst 0, 1) := dk_3 (dk_at dksX0_move_0 23 rfl rfl)
theorem dX0_move_24 : decode cX0_move 24 = .ok (.ireturn, 1) := dk_172 (dk_at dksX0_move_1 0 rfl rfl)
def fX0_move (e : Nat → Nat) (N : Nat) (m : Mm) (v0 : Option Nat) (v1 : Int32) (v2 : Int32) (v3 : Int32) (v4 : Option Nat) : Rs (Int32) := ck_ m v0 1 (bd_ (fX1_move e N m v0 v1 v2 v3) (ch_ (fun x1 m1 => bj_ m1 v4 203 0 ((x1 : Int32).toInt64) (fun m2 => rt_ 0 m2)) (fun i_ m0 => if i_ = 0 then rt_ 1 m0 else if i_ = 2 then rt_ 2 m0 else none)))
abbrev cX2_isKnownToAll : ByteArray := prog_21_method_16_code
def yX2_isKnownToAll : MethodName := ⟨RX2, "isKnownToAll", "(LMasterTree$Entry;)Z"⟩
def dkwX2_isKnownToAll_4 : List UInt8 := [21, 4, 153, 0, 7, 4, 167, 0, 4, 3, 61, 132, 3, 1, 167, 255, 151, 28, 172]
abbrev dktX2_isKnownToAll_4 : List UInt8 := dkwX2_isKnownToAll_4 ++ []
def dkwX2_isKnownToAll_3 : List UInt8 := [50, 25, 6, 180, 0, 129, 46, 162, 0, 7, 4, 167, 0, 4, 3, 54, 4, 167, 255, 191, 28, 153, 0, 12]
abbrev dktX2_isKnownToAll_3 : List UInt8 := dkwX2_isKnownToAll_3 ++ dktX2_isKnownToAll_4
def dkwX2_isKnownToAll_2 : List UInt8 := [154, 0, 34, 25, 6, 180, 0, 155, 178, 0, 243, 166, 0, 27, 25, 6, 180, 0, 246, 42, 180, 0, 30, 29]
abbrev dktX2_isKnownToAll_2 : List UInt8 := dkwX2_isKnownToAll_2 ++ dktX2_isKnownToAll_3
def dkwX2_isKnownToAll_1 : List UInt8 := [25, 5, 185, 0, 78, 1, 0, 153, 0, 61, 25, 5, 185, 0, 83, 1, 0, 192, 0, 121, 58, 6, 21, 4]
abbrev dktX2_isKnownToAll_1 : List UInt8 := dkwX2_isKnownToAll_1 ++ dktX2_isKnownToAll_2
def dkwX2_isKnownToAll_0 : List UInt8 := [4, 61, 3, 62, 29, 7, 162, 0, 106, 3, 54, 4, 43, 180, 0, 149, 185, 0, 242, 1, 0, 58, 5]
abbrev dktX2_isKnownToAll_0 : List UInt8 := dkwX2_isKnownToAll_0 ++ dktX2_isKnownToAll_1
theorem dksX2_isKnownToAll_0 : cX2_isKnownToAll.data.toList.drop 0 = dktX2_isKnownToAll_0 := by decide +kernel
theorem dksX2_isKnownToAll_1 : cX2_isKnownToAll.data.toList.drop 23 = dktX2_isKnownToAll_1 := dk_seg dksX2_isKnownToAll_0 23 rfl rfl
theorem dksX2_isKnownToAll_2 : cX2_isKnownToAll.data.toList.drop 47 = dktX2_isKnownToAll_2 := dk_seg dksX2_isKnownToAll_1 24 rfl rfl
theorem dksX2_isKnownToAll_3 : cX2_isKnownToAll.data.toList.drop 71 = dktX2_isKnownToAll_3 := dk_seg dksX2_isKnownToAll_2 24 rfl rfl
theorem dksX2_isKnownToAll_4 : cX2_isKnownToAll.data.toList.drop 95 = dktX2_isKnownToAll_4 := dk_seg dksX2_isKnownToAll_3 24 rfl rfl
theorem dX2_isKnownToAll_0 : decode cX2_isKnownToAll 0 = .ok (.iconst 1, 1) := dk_4 (dk_at dksX2_isKnownToAll_0 0 rfl rfl)
theorem dX2_isKnownToAll_1 : decode cX2_isKnownToAll 1 = .ok (.istore_n 2, 1) := dk_61 (dk_at dksX2_isKnownToAll_0 1 rfl rfl)
theorem dX2_isKnownToAll_2 : decode cX2_isKnownToAll 2 = .ok (.iconst 0, 1) := dk_3 (dk_at dksX2_isKnownToAll_0 2 rfl rfl)
theorem dX2_isKnownToAll_3 : decode cX2_isKnownToAll 3 = .ok (.istore_n 3, 1) := dk_62 (dk_at dksX2_isKnownToAll_0 3 rfl rfl)
theorem dX2_isKnownToAll_4 : decode cX2_isKnownToAll 4 = .ok (.iload_n 3, 1) := dk_29 (dk_at dksX2_isKnownToAll_0 4 rfl rfl)
theorem dX2_isKnownToAll_5 : decode cX2_isKnownToAll 5 = .ok (.iconst 4, 1) := dk_7 (dk_at dksX2_isKnownToAll_0 5 rfl rfl)
theorem dX2_isKnownToAll_6 : decode cX2_isKnownToAll 6 = .ok (.if_icmp .ge 106, 3) := dk_162 0 106 (dk_at dksX2_isKnownToAll_0 6 rfl rfl)
theorem dX2_isKnownToAll_9 : decode cX2_isKnownToAll 9 = .ok (.iconst 0, 1) := dk_3 (dk_at dksX2_isKnownToAll_0 9 rfl rfl)
theorem dX2_isKnownToAll_10 : decode cX2_isKnownToAll 10 = .ok (.istore 4, 2) := dk_54 4 (dk_at dksX2_isKnownToAll_0 10 rfl rfl)
theorem dX2_isKnownToAll_12 : decode cX2_isKnownToAll 12 = .ok (.aload_n 1, 1) := dk_43 (dk_at dksX2_isKnownToAll_0 12 rfl rfl)
theorem dX2_isKnownToAll_13 : decode cX2_isKnownToAll 13 = .ok (.getfield 149, 3) := dk_180 0 149 (dk_at dksX2_isKnownToAll_0 13 rfl rfl)
theorem dX2_isKnownToAll_16 : decode cX2_isKnownToAll 16 = .ok (.invokeinterface 242 1, 5) := by decide +kernel
theorem dX2_isKnownToAll_21 : decode cX2_isKnownToAll 21 = .ok (.astore 5, 2) := dk_58 5 (dk_at dksX2_isKnownToAll_0 21 rfl rfl)
theorem dX2_isKnownToAll_23 : decode cX2_isKnownToAll 23 = .ok (.aload 5, 2) := dk_25 5 (dk_at dksX2_isKnownToAll_1 0 rfl rfl)
theorem dX2_isKnownToAll_25 : decode cX2_isKnownToAll 25 = .ok (.invokeinterface 78 1, 5) := by decide +kernel
theorem dX2_isKnownToAll_30 : decode cX2_isKnownToAll 30 = .ok (.ifCond .eq 61, 3) := dk_153 0 61 (dk_at dksX2_isKnownToAll_1 7 rfl rfl)
theorem dX2_isKnownToAll_33 : decode cX2_isKnownToAll 33 = .ok (.aload 5, 2) := dk_25 5 (dk_at dksX2_isKnownToAll_1 10 rfl rfl)
theorem dX2_isKnownToAll_35 : decode cX2_isKnownToAll 35 = .ok (.invokeinterface 83 1, 5) := by decide +kernel
theorem dX2_isKnownToAll_40 : decode cX2_isKnownToAll 40 = .ok (.checkcast 121, 3) := dk_192 0 121 (dk_at dksX2_isKnownToAll_1 17 rfl rfl)
theorem dX2_isKnownToAll_43 : decode cX2_isKnownToAll 43 = .ok (.astore 6, 2) := dk_58 6 (dk_at dksX2_isKnownToAll_1 20 rfl rfl)
theorem dX2_isKnownToAll_45 : decode cX2_isKnownToAll 45 = .ok (.iload 4, 2) := dk_21 4 (dk_at dksX2_isKnownToAll_1 22 rfl rfl)
theorem dX2_isKnownToAll_47 : decode cX2_isKnownToAll 47 = .ok (.ifCond .ne 34, 3) := dk_154 0 34 (dk_at dksX2_isKnownToAll_2 0 rfl rfl)
theorem dX2_isKnownToAll_50 : decode cX2_isKnownToAll 50 = .ok (.aload 6, 2) := dk_25 6 (dk_at dksX2_isKnownToAll_2 3 rfl rfl)
theorem dX2_isKnownToAll_52 : decode cX2_isKnownToAll 52 = .ok (.getfield 155, 3) := dk_180 0 155 (dk_at dksX2_isKnownToAll_2 5 rfl rfl)
theorem dX2_isKnownToAll_55 : decode cX2_isKnownToAll 55 = .ok (.getstatic 243, 3) := dk_178 0 243 (dk_at dksX2_isKnownToAll_2 8 rfl rfl)
theorem dX2_isKnownToAll_58 : decode cX2_isKnownToAll 58 = .ok (.if_acmp .ne 27, 3) := dk_166 0 27 (dk_at dksX2_isKnownToAll_2 11 rfl rfl)
theorem dX2_isKnownToAll_61 : decode cX2_isKnownToAll 61 = .ok (.aload 6, 2) := dk_25 6 (dk_at dksX2_isKnownToAll_2 14 rfl rfl)
theorem dX2_isKnownToAll_63 : decode cX2_isKnownToAll 63 = .ok (.getfield 246, 3) := dk_180 0 246 (dk_at dksX2_isKnownToAll_2 16 rfl rfl)
theorem dX2_isKnownToAll_66 : decode cX2_isKnownToAll 66 = .ok (.aload_n 0, 1) := dk_42 (dk_at dksX2_isKnownToAll_2 19 rfl rfl)
theorem dX2_isKnownToAll_67 : decode cX2_isKnownToAll 67 = .ok (.getfield 30, 3) := dk_180 0 30 (dk_at dksX2_isKnownToAll_2 20 rfl rfl)
theorem dX2_isKnownToAll_70 : decode cX2_isKnownToAll 70 = .ok (.iload_n 3, 1) := dk_29 (dk_at dksX2_isKnownToAll_2 23 rfl rfl)
theorem dX2_isKnownToAll_71 : decode cX2_isKnownToAll 71 = .ok (.aaload, 1) := dk_50 (dk_at dksX2_isKnownToAll_3 0 rfl rfl)
theorem dX2_isKnownToAll_72 : decode cX2_isKnownToAll 72 = .ok (.aload 6, 2) := dk_25 6 (dk_at dksX2_isKnownToAll_3 1 rfl rfl)
theorem dX2_isKnownToAll_74 : decode cX2_isKnownToAll 74 = .ok (.getfield 129, 3) := dk_180 0 129 (dk_at dksX2_isKnownToAll_3 3 rfl rfl)
theorem dX2_isKnownToAll_77 : decode cX2_isKnownToAll 77 = .ok (.iaload, 1) := dk_46 (dk_at dksX2_isKnownToAll_3 6 rfl rfl)
theorem dX2_isKnownToAll_78 : decode cX2_isKnownToAll 78 = .ok (.if_icmp .ge 7, 3) := dk_162 0 7 (dk_at dksX2_isKnownToAll_3 7 rfl rfl)
theorem dX2_isKnownToAll_81 : decode cX2_isKnownToAll 81 = .ok (.iconst 1, 1) := dk_4 (dk_at dksX2_isKnownToAll_3 10 rfl rfl)
theorem dX2_isKnownToAll_82 : decode cX2_isKnownToAll 82 = .ok (.goto 4, 3) := dk_167 0 4 (dk_at dksX2_isKnownToAll_3 11 rfl rfl)
theorem dX2_isKnownToAll_85 : decode cX2_isKnownToAll 85 = .ok (.iconst 0, 1) := dk_3 (dk_at dksX2_isKnownToAll_3 14 rfl rfl)
theorem dX2_isKnownToAll_86 : decode cX2_isKnownToAll 86 = .ok (.istore 4, 2) := dk_54 4 (dk_at dksX2_isKnownToAll_3 15 rfl rfl)
theorem dX2_isKnownToAll_88 : decode cX2_isKnownToAll 88 = .ok (.goto (-65), 3) := dk_167 255 191 (dk_at dksX2_isKnownToAll_3 17 rfl rfl)
theorem dX2_isKnownToAll_91 : decode cX2_isKnownToAll 91 = .ok (.iload_n 2, 1) := dk_28 (dk_at dksX2_isKnownToAll_3 20 rfl rfl)
theorem dX2_isKnownToAll_92 : decode cX2_isKnownToAll 92 = .ok (.ifCond .eq 12, 3) := dk_153 0 12 (dk_at dksX2_isKnownToAll_3 21 rfl rfl)
theorem dX2_isKnownToAll_95 : decode cX2_isKnownToAll 95 = .ok (.iload 4, 2) := dk_21 4 (dk_at dksX2_isKnownToAll_4 0 rfl rfl)
theorem dX2_isKnownToAll_97 : decode cX2_isKnownToAll 97 = .ok (.ifCond .eq 7, 3) := dk_153 0 7 (dk_at dksX2_isKnownToAll_4 2 rfl rfl)
theorem dX2_isKnownToAll_100 : decode cX2_isKnownToAll 100 = .ok (.iconst 1, 1) := dk_4 (dk_at dksX2_isKnownToAll_4 5 rfl rfl)
theorem dX2_isKnownToAll_101 : decode cX2_isKnownToAll 101 = .ok (.goto 4, 3) := dk_167 0 4 (dk_at dksX2_isKnownToAll_4 6 rfl rfl)
theorem dX2_isKnownToAll_104 : decode cX2_isKnownToAll 104 = .ok (.iconst 0, 1) := dk_3 (dk_at dksX2_isKnownToAll_4 9 rfl rfl)
theorem dX2_isKnownToAll_105 : decode cX2_isKnownToAll 105 = .ok (.istore_n 2, 1) := dk_61 (dk_at dksX2_isKnownToAll_4 10 rfl rfl)
theorem dX2_isKnownToAll_106 : decode cX2_isKnownToAll 106 = .ok (.iinc 3 1, 3) := dk_132 3 1 (dk_at dksX2_isKnownToAll_4 11 rfl rfl)
theorem dX2_isKnownToAll_109 : decode cX2_isKnownToAll 109 = .ok (.goto (-105), 3) := dk_167 255 151 (dk_at dksX2_isKnownToAll_4 14 rfl rfl)
theorem dX2_isKnownToAll_112 : decode cX2_isKnownToAll 112 = .ok (.iload_n 2, 1) := dk_28 (dk_at dksX2_isKnownToAll_4 17 rfl rfl)
theorem dX2_isKnownToAll_113 : decode cX2_isKnownToAll 113 = .ok (.ireturn, 1) := dk_172 (dk_at dksX2_isKnownToAll_4 18 rfl rfl)
def fX2_isKnownToAll_b86 (e : Nat → Nat) (N : Nat) (k23 : Mm → Option Nat → Option Nat → Int32 → Int32 → Int32 → Option Nat → Rs (Int32)) (m : Mm) (v0 : Option Nat) (v1 : Option Nat) (v2 : Int32) (v3 : Int32) (v5 : Option Nat) (s0 : Int32) : Rs (Int32) := k23 m v0 v1 v2 v3 s0 v5
def fX2_isKnownToAll_b81 (e : Nat → Nat) (N : Nat) (k23 : Mm → Option Nat → Option Nat → Int32 → Int32 → Int32 → Option Nat → Rs (Int32)) (m : Mm) (v0 : Option Nat) (v1 : Option Nat) (v2 : Int32) (v3 : Int32) (v5 : Option Nat) : Rs (Int32) := fX2_isKnownToAll_b86 e N k23 m v0 v1 v2 v3 v5 1
def fX2_isKnownToAll_b85 (e : Nat → Nat) (N : Nat) (k23 : Mm → Option Nat → Option Nat → Int32 → Int32 → Int32 → Option Nat → Rs (Int32)) (m : Mm) (v0 : Option Nat) (v1 : Option Nat) (v2 : Int32) (v3 : Int32) (v5 : Option Nat) : Rs (Int32) := fX2_isKnownToAll_b86 e N k23 m v0 v1 v2 v3 v5 0
def fX2_isKnownToAll_b105 (e : Nat → Nat) (N : Nat) (k4 : Mm → Option Nat → Option Nat → Int32 → Int32 → Rs (Int32)) (m : Mm) (v0 : Option Nat) (v1 : Option Nat) (v3 : Int32) (s0 : Int32) : Rs (Int32) := k4 m v0 v1 s0 (v3 + 1)
def fX2_isKnownToAll_b104 (e : Nat → Nat) (N : Nat) (k4 : Mm → Option Nat → Option Nat → Int32 → Int32 → Rs (Int32)) (m : Mm) (v0 : Option Nat) (v1 : Option Nat) (v3 : Int32) : Rs (Int32) := fX2_isKnownToAll_b105 e N k4 m v0 v1 v3 0
def fX2_isKnownToAll_b23 (e : Nat → Nat) (N : Nat) (k4 : Mm → Option Nat → Option Nat → Int32 → Int32 → Rs (Int32)) : Nat → Mm → Option Nat → Option Nat → Int32 → Int32 → Int32 → Option Nat → Rs (Int32)
  | 0, _, _, _, _, _, _, _ => none
  | F + 1, m, v0, v1, v2, v3, v4, v5 => ck_ m v5 14 (bd_ (fJ34_hasNext e N m v5) (fun x1 m1 => if x1 = 0 then (if v2 = 0 then (fX2_isKnownToAll_b104 e N k4 m1 v0 v1 v3) else (if v4 = 0 then (fX2_isKnownToAll_b104 e N k4 m1 v0 v1 v3) else (fX2_isKnownToAll_b105 e N k4 m1 v0 v1 v3 1))) else (ck_ m1 v5 14 (bd_ (fJ34_next e N m1 v5) (fun x2 m2 => cc_ m2 x2 [7] (if v4 = 0 then (gr_ m2 x2 7 3 (fun x3 => if x3 = (some (e 14)) then (gi_ m2 x2 7 2 (fun x4 => gr_ m2 v0 2 8 (fun x5 => ar_ m2 x5 206 v3 (fun x6 => gi_ m2 x2 7 1 (fun x7 => ai_ m2 x6 200 x7 (fun x8 => if x4 < x8 then (fX2_isKnownToAll_b81 e N (fX2_isKnownToAll_b23 e N k4 F) m2 v0 v1 v2 v3 v5) else (fX2_isKnownToAll_b85 e N (fX2_isKnownToAll_b23 e N k4 F) m2 v0 v1 v2 v3 v5))))))) else (fX2_isKnownToAll_b85 e N (fX2_isKnownToAll_b23 e N k4 F) m2 v0 v1 v2 v3 v5))) else (fX2_isKnownToAll_b81 e N (fX2_isKnownToAll_b23 e N k4 F) m2 v0 v1 v2 v3 v5)))))))
def fX2_isKnownToAll_b4 (e : Nat → Nat) (N : Nat) : Nat → Mm → Option Nat → Option Nat → Int32 → Int32 → Rs (Int32)
  | 0, _, _, _, _, _ => none
  | F + 1, m, v0, v1, v2, v3 => if v3 < 4 then (gr_ m v1 3 2 (fun x1 => ck_ m x1 13 (bd_ (fJ2_iterator e N m x1) (fun x2 m1 => fX2_isKnownToAll_b23 e N (fX2_isKnownToAll_b4 e N F) N m1 v0 v1 v2 v3 0 x2)))) else (rz_ v2 v2 m)
def fX2_isKnownToAll (e : Nat → Nat) (N : Nat) (m : Mm) (v0 : Option Nat) (v1 : Option Nat) : Rs (Int32) := fX2_isKnownToAll_b4 e N N m v0 v1 1 0
abbrev cX2_marks : ByteArray := prog_21_method_17_code
def yX2_marks : MethodName := ⟨RX2, "marks", "(Z)J"⟩
def dkwX2_marks_4 : List UInt8 := [132, 4, 1, 167, 255, 168, 32, 173]
abbrev dktX2_marks_4 : List UInt8 := dkwX2_marks_4 ++ []
def dkwX2_marks_3 : List UInt8 := [180, 0, 20, 21, 4, 50, 182, 0, 255, 153, 0, 10, 10, 21, 4, 121, 167, 0, 4, 9, 129, 65]
abbrev dktX2_marks_3 : List UInt8 := dkwX2_marks_3 ++ dktX2_marks_4
def dkwX2_marks_2 : List UInt8 := [154, 0, 7, 4, 167, 0, 4, 3, 54, 5, 32, 21, 5, 153, 0, 28, 27, 153, 0, 17, 42, 42]
abbrev dktX2_marks_2 : List UInt8 := dkwX2_marks_2 ++ dktX2_marks_3
def dkwX2_marks_1 : List UInt8 := [180, 0, 20, 21, 4, 50, 180, 0, 247, 153, 0, 21, 42, 180, 0, 251, 21, 4, 123, 10, 127, 9, 148]
abbrev dktX2_marks_1 : List UInt8 := dkwX2_marks_1 ++ dktX2_marks_2
def dkwX2_marks_0 : List UInt8 := [9, 65, 4, 54, 4, 21, 4, 16, 48, 162, 0, 87, 42, 180, 0, 20, 21, 4, 50, 198, 0, 34, 42]
abbrev dktX2_marks_0 : List UInt8 := dkwX2_marks_0 ++ dktX2_marks_1
theorem dksX2_marks_0 : cX2_marks.data.toList.drop 0 = dktX2_marks_0 := by decide +kernel
theorem dksX2_marks_1 : cX2_marks.data.toList.drop 23 = dktX2_marks_1 := dk_seg dksX2_marks_0 23 rfl rfl
theorem dksX2_marks_2 : cX2_marks.data.toList.drop 46 = dktX2_marks_2 := dk_seg dksX2_marks_1 23 rfl rfl
theorem dksX2_marks_3 : cX2_marks.data.toList.drop 68 = dktX2_marks_3 := dk_seg dksX2_marks_2 22 rfl rfl
theorem dksX2_marks_4 : cX2_marks.data.toList.drop 90 = dktX2_marks_4 := dk_seg dksX2_marks_3 22 rfl rfl
theorem dX2_marks_0 : decode cX2_marks 0 = .ok (.lconst 0, 1) := dk_9 (dk_at dksX2_marks_0 0 rfl rfl)
theorem dX2_marks_1 : decode cX2_marks 1 = .ok (.lstore_n 2, 1) := dk_65 (dk_at dksX2_marks_0 1 rfl rfl)
theorem dX2_marks_2 : decode cX2_marks 2 = .ok (.iconst 1, 1) := dk_4 (dk_at dksX2_marks_0 2 rfl rfl)
theorem dX2_marks_3 : decode cX2_marks 3 = .ok (.istore 4, 2) := dk_54 4 (dk_at dksX2_marks_0 3 rfl rfl)
theorem dX2_marks_5 : decode cX2_marks 5 = .ok (.iload 4, 2) := dk_21 4 (dk_at dksX2_marks_0 5 rfl rfl)
theorem dX2_marks_7 : decode cX2_marks 7 = .ok (.bipush 48, 2) := dk_16 48 (dk_at dksX2_marks_0 7 rfl rfl)
theorem dX2_marks_9 : decode cX2_marks 9 = .ok (.if_icmp .ge 87, 3) := dk_162 0 87 (dk_at dksX2_marks_0 9 rfl rfl)
theorem dX2_marks_12 : decode cX2_marks 12 = .ok (.aload_n 0, 1) := dk_42 (dk_at dksX2_marks_0 12 rfl rfl)
theorem dX2_marks_13 : decode cX2_marks 13 = .ok (.getfield 20, 3) := dk_180 0 20 (dk_at dksX2_marks_0 13 rfl rfl)
theorem dX2_marks_16 : decode cX2_marks 16 = .ok (.iload 4, 2) := dk_21 4 (dk_at dksX2_marks_0 16 rfl rfl)
theorem dX2_marks_18 : decode cX2_marks 18 = .ok (.aaload, 1) := dk_50 (dk_at dksX2_marks_0 18 rfl rfl)
theorem dX2_marks_19 : decode cX2_marks 19 = .ok (.ifnull 34, 3) := dk_198 0 34 (dk_at dksX2_marks_0 19 rfl rfl)
theorem dX2_marks_22 : decode cX2_marks 22 = .ok (.aload_n 0, 1) := dk_42 (dk_at dksX2_marks_0 22 rfl rfl)
theorem dX2_marks_23 : decode cX2_marks 23 = .ok (.getfield 20, 3) := dk_180 0 20 (dk_at dksX2_marks_1 0 rfl rfl)
theorem dX2_marks_26 : decode cX2_marks 26 = .ok (.iload 4, 2) := dk_21 4 (dk_at dksX2_marks_1 3 rfl rfl)
theorem dX2_marks_28 : decode cX2_marks 28 = .ok (.aaload, 1) := dk_50 (dk_at dksX2_marks_1 5 rfl rfl)
theorem dX2_marks_29 : decode cX2_marks 29 = .ok (.getfield 247, 3) := dk_180 0 247 (dk_at dksX2_marks_1 6 rfl rfl)
theorem dX2_marks_32 : decode cX2_marks 32 = .ok (.ifCond .eq 21, 3) := dk_153 0 21 (dk_at dksX2_marks_1 9 rfl rfl)
theorem dX2_marks_35 : decode cX2_marks 35 = .ok (.aload_n 0, 1) := dk_42 (dk_at dksX2_marks_1 12 rfl rfl)
theorem dX2_marks_36 : decode cX2_marks 36 = .ok (.getfield 251, 3) := dk_180 0 251 (dk_at dksX2_marks_1 13 rfl rfl)
theorem dX2_marks_39 : decode cX2_marks 39 = .ok (.iload 4, 2) := dk_21 4 (dk_at dksX2_marks_1 16 rfl rfl)
theorem dX2_marks_41 : decode cX2_marks 41 = .ok (.lshr, 1) := dk_123 (dk_at dksX2_marks_1 18 rfl rfl)
theorem dX2_marks_42 : decode cX2_marks 42 = .ok (.lconst 1, 1) := dk_10 (dk_at dksX2_marks_1 19 rfl rfl)
theorem dX2_marks_43 : decode cX2_marks 43 = .ok (.land, 1) := dk_127 (dk_at dksX2_marks_1 20 rfl rfl)
theorem dX2_marks_44 : decode cX2_marks 44 = .ok (.lconst 0, 1) := dk_9 (dk_at dksX2_marks_1 21 rfl rfl)
theorem dX2_marks_45 : decode cX2_marks 45 = .ok (.lcmp, 1) := dk_148 (dk_at dksX2_marks_1 22 rfl rfl)
theorem dX2_marks_46 : decode cX2_marks 46 = .ok (.ifCond .ne 7, 3) := dk_154 0 7 (dk_at dksX2_marks_2 0 rfl rfl)
theorem dX2_marks_49 : decode cX2_marks 49 = .ok (.iconst 1, 1) := dk_4 (dk_at dksX2_marks_2 3 rfl rfl)
theorem dX2_marks_50 : decode cX2_marks 50 = .ok (.goto 4, 3) := dk_167 0 4 (dk_at dksX2_marks_2 4 rfl rfl)
theorem dX2_marks_53 : decode cX2_marks 53 = .ok (.iconst 0, 1) := dk_3 (dk_at dksX2_marks_2 7 rfl rfl)
theorem dX2_marks_54 : decode cX2_marks 54 = .ok (.istore 5, 2) := dk_54 5 (dk_at dksX2_marks_2 8 rfl rfl)
theorem dX2_marks_56 : decode cX2_marks 56 = .ok (.lload_n 2, 1) := dk_32 (dk_at dksX2_marks_2 10 rfl rfl)
theorem dX2_marks_57 : decode cX2_marks 57 = .ok (.iload 5, 2) := dk_21 5 (dk_at dksX2_marks_2 11 rfl rfl)
theorem dX2_marks_59 : decode cX2_marks 59 = .ok (.ifCond .eq 28, 3) := dk_153 0 28 (dk_at dksX2_marks_2 13 rfl rfl)
theorem dX2_marks_62 : decode cX2_marks 62 = .ok (.iload_n 1, 1) := dk_27 (dk_at dksX2_marks_2 16 rfl rfl)
theorem dX2_marks_63 : decode cX2_marks 63 = .ok (.ifCond .eq 17, 3) := dk_153 0 17 (dk_at dksX2_marks_2 17 rfl rfl)
theorem dX2_marks_66 : decode cX2_marks 66 = .ok (.aload_n 0, 1) := dk_42 (dk_at dksX2_marks_2 20 rfl rfl)
theorem dX2_marks_67 : decode cX2_marks 67 = .ok (.aload_n 0, 1) := dk_42 (dk_at dksX2_marks_2 21 rfl rfl)
theorem dX2_marks_68 : decode cX2_marks 68 = .ok (.getfield 20, 3) := dk_180 0 20 (dk_at dksX2_marks_3 0 rfl rfl)
theorem dX2_marks_71 : decode cX2_marks 71 = .ok (.iload 4, 2) := dk_21 4 (dk_at dksX2_marks_3 3 rfl rfl)
theorem dX2_marks_73 : decode cX2_marks 73 = .ok (.aaload, 1) := dk_50 (dk_at dksX2_marks_3 5 rfl rfl)
theorem dX2_marks_74 : decode cX2_marks 74 = .ok (.invokevirtual 255, 3) := dk_182 0 255 (dk_at dksX2_marks_3 6 rfl rfl)
theorem dX2_marks_77 : decode cX2_marks 77 = .ok (.ifCond .eq 10, 3) := dk_153 0 10 (dk_at dksX2_marks_3 9 rfl rfl)
theorem dX2_marks_80 : decode cX2_marks 80 = .ok (.lconst 1, 1) := dk_10 (dk_at dksX2_marks_3 12 rfl rfl)
theorem dX2_marks_81 : decode cX2_marks 81 = .ok (.iload 4, 2) := dk_21 4 (dk_at dksX2_marks_3 13 rfl rfl)
theorem dX2_marks_83 : decode cX2_marks 83 = .ok (.lshl, 1) := dk_121 (dk_at dksX2_marks_3 15 rfl rfl)
theorem dX2_marks_84 : decode cX2_marks 84 = .ok (.goto 4, 3) := dk_167 0 4 (dk_at dksX2_marks_3 16 rfl rfl)
theorem dX2_marks_87 : decode cX2_marks 87 = .ok (.lconst 0, 1) := dk_9 (dk_at dksX2_marks_3 19 rfl rfl)
theorem dX2_marks_88 : decode cX2_marks 88 = .ok (.lor, 1) := dk_129 (dk_at dksX2_marks_3 20 rfl rfl)
theorem dX2_marks_89 : decode cX2_marks 89 = .ok (.lstore_n 2, 1) := dk_65 (dk_at dksX2_marks_3 21 rfl rfl)
theorem dX2_marks_90 : decode cX2_marks 90 = .ok (.iinc 4 1, 3) := dk_132 4 1 (dk_at dksX2_marks_4 0 rfl rfl)
theorem dX2_marks_93 : decode cX2_marks 93 = .ok (.goto (-88), 3) := dk_167 255 168 (dk_at dksX2_marks_4 3 rfl rfl)
theorem dX2_marks_96 : decode cX2_marks 96 = .ok (.lload_n 2, 1) := dk_32 (dk_at dksX2_marks_4 6 rfl rfl)
theorem dX2_marks_97 : decode cX2_marks 97 = .ok (.lreturn, 1) := dk_173 (dk_at dksX2_marks_4 7 rfl rfl)
def fX2_marks_b88 (e : Nat → Nat) (N : Nat) (k5 : Mm → Option Nat → Int32 → Int64 → Int32 → Rs (Int64)) (m : Mm) (v0 : Option Nat) (v1 : Int32) (v4 : Int32) (s0 : Int64) (s1 : Int64) : Rs (Int64) := k5 m v0 v1 (s0 ||| s1) (v4 + 1)
def fX2_marks_b80 (e : Nat → Nat) (N : Nat) (k5 : Mm → Option Nat → Int32 → Int64 → Int32 → Rs (Int64)) (m : Mm) (v0 : Option Nat) (v1 : Int32) (v4 : Int32) (s0 : Int64) : Rs (Int64) := fX2_marks_b88 e N k5 m v0 v1 v4 s0 (1 <<< ((v4 : Int32).toInt64 &&& 63))
def fX2_marks_b87 (e : Nat → Nat) (N : Nat) (k5 : Mm → Option Nat → Int32 → Int64 → Int32 → Rs (Int64)) (m : Mm) (v0 : Option Nat) (v1 : Int32) (v4 : Int32) (s0 : Int64) : Rs (Int64) := fX2_marks_b88 e N k5 m v0 v1 v4 s0 0
def fX2_marks_b54 (e : Nat → Nat) (N : Nat) (k5 : Mm → Option Nat → Int32 → Int64 → Int32 → Rs (Int64)) (m : Mm) (v0 : Option Nat) (v1 : Int32) (v2 : Int64) (v4 : Int32) (s0 : Int32) : Rs (Int64) := if s0 = 0 then (fX2_marks_b87 e N k5 m v0 v1 v4 v2) else (if v1 = 0 then (fX2_marks_b80 e N k5 m v0 v1 v4 v2) else (gr_ m v0 2 6 (fun x1 => ar_ m x1 205 v4 (fun x2 => ck_ m v0 2 (bd_ (fX2_isKnownToAll e N m v0 x2) (fun x3 m1 => if x3 = 0 then (fX2_marks_b87 e N k5 m1 v0 v1 v4 v2) else (fX2_marks_b80 e N k5 m1 v0 v1 v4 v2)))))))
def fX2_marks_b53 (e : Nat → Nat) (N : Nat) (k5 : Mm → Option Nat → Int32 → Int64 → Int32 → Rs (Int64)) (m : Mm) (v0 : Option Nat) (v1 : Int32) (v2 : Int64) (v4 : Int32) : Rs (Int64) := fX2_marks_b54 e N k5 m v0 v1 v2 v4 0
def fX2_marks_b5 (e : Nat → Nat) (N : Nat) : Nat → Mm → Option Nat → Int32 → Int64 → Int32 → Rs (Int64)
  | 0, _, _, _, _, _ => none
  | F + 1, m, v0, v1, v2, v4 => if v4 < 48 then (gr_ m v0 2 6 (fun x1 => ar_ m x1 205 v4 (fun x2 => if x2 = none then (fX2_marks_b53 e N (fX2_marks_b5 e N F) m v0 v1 v2 v4) else (gr_ m v0 2 6 (fun x3 => ar_ m x3 205 v4 (fun x4 => gi_ m x4 3 4 (fun x5 => if x5 = 0 then (fX2_marks_b53 e N (fX2_marks_b5 e N F) m v0 v1 v2 v4) else (gj_ m v0 2 9 (fun x6 => if (lg_cmp ((x6 >>> ((v4 : Int32).toInt64 &&& 63)) &&& 1) 0) = 0 then (fX2_marks_b54 e N (fX2_marks_b5 e N F) m v0 v1 v2 v4 1) else (fX2_marks_b53 e N (fX2_marks_b5 e N F) m v0 v1 v2 v4)))))))))) else (rt_ v2 m)
def fX2_marks (e : Nat → Nat) (N : Nat) (m : Mm) (v0 : Option Nat) (v1 : Int32) : Rs (Int64) := fX2_marks_b5 e N N m v0 v1 0 1
abbrev cJ28_bitCount : ByteArray := prog_40_method_50_code
def yJ28_bitCount : MethodName := ⟨RJ28, "bitCount", "(J)I"⟩
def dkwJ28_bitCount_2 : List UInt8 := [30, 30, 16, 32, 125, 97, 63, 30, 136, 16, 127, 126, 172]
abbrev dktJ28_bitCount_2 : List UInt8 := dkwJ28_bitCount_2 ++ []
def dkwJ28_bitCount_1 : List UInt8 := [30, 30, 7, 125, 97, 20, 1, 62, 127, 63, 30, 30, 16, 8, 125, 97, 63, 30, 30, 16, 16, 125, 97, 63]
abbrev dktJ28_bitCount_1 : List UInt8 := dkwJ28_bitCount_1 ++ dktJ28_bitCount_2
def dkwJ28_bitCount_0 : List UInt8 := [30, 30, 4, 125, 20, 1, 58, 127, 101, 63, 30, 20, 1, 60, 127, 30, 5, 125, 20, 1, 60, 127, 97, 63]
abbrev dktJ28_bitCount_0 : List UInt8 := dkwJ28_bitCount_0 ++ dktJ28_bitCount_1
theorem dksJ28_bitCount_0 : cJ28_bitCount.data.toList.drop 0 = dktJ28_bitCount_0 := by decide +kernel
theorem dksJ28_bitCount_1 : cJ28_bitCount.data.toList.drop 24 = dktJ28_bitCount_1 := dk_seg dksJ28_bitCount_0 24 rfl rfl
theorem dksJ28_bitCount_2 : cJ28_bitCount.data.toList.drop 48 = dktJ28_bitCount_2 := dk_seg dksJ28_bitCount_1 24 rfl rfl
theorem dJ28_bitCount_0 : decode cJ28_bitCount 0 = .ok (.lload_n 0, 1) := dk_30 (dk_at dksJ28_bitCount_0 0 rfl rfl)
theorem dJ28_bitCount_1 : decode cJ28_bitCount 1 = .ok (.lload_n 0, 1) := dk_30 (dk_at dksJ28_bitCount_0 1 rfl rfl)
theorem dJ28_bitCount_2 : decode cJ28_bitCount 2 = .ok (.iconst 1, 1) := dk_4 (dk_at dksJ28_bitCount_0 2 rfl rfl)
theorem dJ28_bitCount_3 : decode cJ28_bitCount 3 = .ok (.lushr, 1) := dk_125 (dk_at dksJ28_bitCount_0 3 rfl rfl)
theorem dJ28_bitCount_4 : decode cJ28_bitCount 4 = .ok (.ldc2_w 314, 3) := dk_20 1 58 (dk_at dksJ28_bitCount_0 4 rfl rfl)
theorem dJ28_bitCount_7 : decode cJ28_bitCount 7 = .ok (.land, 1) := dk_127 (dk_at dksJ28_bitCount_0 7 rfl rfl)
theorem dJ28_bitCount_8 : decode cJ28_bitCount 8 = .ok (.lsub, 1) := dk_101 (dk_at dksJ28_bitCount_0 8 rfl rfl)
theorem dJ28_bitCount_9 : decode cJ28_bitCount 9 = .ok (.lstore_n 0, 1) := dk_63 (dk_at dksJ28_bitCount_0 9 rfl rfl)
theorem dJ28_bitCount_10 : decode cJ28_bitCount 10 = .ok (.lload_n 0, 1) := dk_30 (dk_at dksJ28_bitCount_0 10 rfl rfl)
theorem dJ28_bitCount_11 : decode cJ28_bitCount 11 = .ok (.ldc2_w 316, 3) := dk_20 1 60 (dk_at dksJ28_bitCount_0 11 rfl rfl)
theorem dJ28_bitCount_14 : decode cJ28_bitCount 14 = .ok (.land, 1) := dk_127 (dk_at dksJ28_bitCount_0 14 rfl rfl)
theorem dJ28_bitCount_15 : decode cJ28_bitCount 15 = .ok (.lload_n 0, 1) := dk_30 (dk_at dksJ28_bitCount_0 15 rfl rfl)
theorem dJ28_bitCount_16 : decode cJ28_bitCount 16 = .ok (.iconst 2, 1) := dk_5 (dk_at dksJ28_bitCount_0 16 rfl rfl)
theorem dJ28_bitCount_17 : decode cJ28_bitCount 17 = .ok (.lushr, 1) := dk_125 (dk_at dksJ28_bitCount_0 17 rfl rfl)
theorem dJ28_bitCount_18 : decode cJ28_bitCount 18 = .ok (.ldc2_w 316, 3) := dk_20 1 60 (dk_at dksJ28_bitCount_0 18 rfl rfl)
theorem dJ28_bitCount_21 : decode cJ28_bitCount 21 = .ok (.land, 1) := dk_127 (dk_at dksJ28_bitCount_0 21 rfl rfl)
theorem dJ28_bitCount_22 : decode cJ28_bitCount 22 = .ok (.ladd, 1) := dk_97 (dk_at dksJ28_bitCount_0 22 rfl rfl)
theorem dJ28_bitCount_23 : decode cJ28_bitCount 23 = .ok (.lstore_n 0, 1) := dk_63 (dk_at dksJ28_bitCount_0 23 rfl rfl)
theorem dJ28_bitCount_24 : decode cJ28_bitCount 24 = .ok (.lload_n 0, 1) := dk_30 (dk_at dksJ28_bitCount_1 0 rfl rfl)
theorem dJ28_bitCount_25 : decode cJ28_bitCount 25 = .ok (.lload_n 0, 1) := dk_30 (dk_at dksJ28_bitCount_1 1 rfl rfl)
theorem dJ28_bitCount_26 : decode cJ28_bitCount 26 = .ok (.iconst 4, 1) := dk_7 (dk_at dksJ28_bitCount_1 2 rfl rfl)
theorem dJ28_bitCount_27 : decode cJ28_bitCount 27 = .ok (.lushr, 1) := dk_125 (dk_at dksJ28_bitCount_1 3 rfl rfl)
theorem dJ28_bitCount_28 : decode cJ28_bitCount 28 = .ok (.ladd, 1) := dk_97 (dk_at dksJ28_bitCount_1 4 rfl rfl)
theorem dJ28_bitCount_29 : decode cJ28_bitCount 29 = .ok (.ldc2_w 318, 3) := dk_20 1 62 (dk_at dksJ28_bitCount_1 5 rfl rfl)
theorem dJ28_bitCount_32 : decode cJ28_bitCount 32 = .ok (.land, 1) := dk_127 (dk_at dksJ28_bitCount_1 8 rfl rfl)
theorem dJ28_bitCount_33 : decode cJ28_bitCount 33 = .ok (.lstore_n 0, 1) := dk_63 (dk_at dksJ28_bitCount_1 9 rfl rfl)
theorem dJ28_bitCount_34 : decode cJ28_bitCount 34 = .ok (.lload_n 0, 1) := dk_30 (dk_at dksJ28_bitCount_1 10 rfl rfl)
theorem dJ28_bitCount_35 : decode cJ28_bitCount 35 = .ok (.lload_n 0, 1) := dk_30 (dk_at dksJ28_bitCount_1 11 rfl rfl)
theorem dJ28_bitCount_36 : decode cJ28_bitCount 36 = .ok (.bipush 8, 2) := dk_16 8 (dk_at dksJ28_bitCount_1 12 rfl rfl)
theorem dJ28_bitCount_38 : decode cJ28_bitCount 38 = .ok (.lushr, 1) := dk_125 (dk_at dksJ28_bitCount_1 14 rfl rfl)
theorem dJ28_bitCount_39 : decode cJ28_bitCount 39 = .ok (.ladd, 1) := dk_97 (dk_at dksJ28_bitCount_1 15 rfl rfl)
theorem dJ28_bitCount_40 : decode cJ28_bitCount 40 = .ok (.lstore_n 0, 1) := dk_63 (dk_at dksJ28_bitCount_1 16 rfl rfl)
theorem dJ28_bitCount_41 : decode cJ28_bitCount 41 = .ok (.lload_n 0, 1) := dk_30 (dk_at dksJ28_bitCount_1 17 rfl rfl)
theorem dJ28_bitCount_42 : decode cJ28_bitCount 42 = .ok (.lload_n 0, 1) := dk_30 (dk_at dksJ28_bitCount_1 18 rfl rfl)
theorem dJ28_bitCount_43 : decode cJ28_bitCount 43 = .ok (.bipush 16, 2) := dk_16 16 (dk_at dksJ28_bitCount_1 19 rfl rfl)
theorem dJ28_bitCount_45 : decode cJ28_bitCount 45 = .ok (.lushr, 1) := dk_125 (dk_at dksJ28_bitCount_1 21 rfl rfl)
theorem dJ28_bitCount_46 : decode cJ28_bitCount 46 = .ok (.ladd, 1) := dk_97 (dk_at dksJ28_bitCount_1 22 rfl rfl)
theorem dJ28_bitCount_47 : decode cJ28_bitCount 47 = .ok (.lstore_n 0, 1) := dk_63 (dk_at dksJ28_bitCount_1 23 rfl rfl)
theorem dJ28_bitCount_48 : decode cJ28_bitCount 48 = .ok (.lload_n 0, 1) := dk_30 (dk_at dksJ28_bitCount_2 0 rfl rfl)
theorem dJ28_bitCount_49 : decode cJ28_bitCount 49 = .ok (.lload_n 0, 1) := dk_30 (dk_at dksJ28_bitCount_2 1 rfl rfl)
theorem dJ28_bitCount_50 : decode cJ28_bitCount 50 = .ok (.bipush 32, 2) := dk_16 32 (dk_at dksJ28_bitCount_2 2 rfl rfl)
theorem dJ28_bitCount_52 : decode cJ28_bitCount 52 = .ok (.lushr, 1) := dk_125 (dk_at dksJ28_bitCount_2 4 rfl rfl)
theorem dJ28_bitCount_53 : decode cJ28_bitCount 53 = .ok (.ladd, 1) := dk_97 (dk_at dksJ28_bitCount_2 5 rfl rfl)
theorem dJ28_bitCount_54 : decode cJ28_bitCount 54 = .ok (.lstore_n 0, 1) := dk_63 (dk_at dksJ28_bitCount_2 6 rfl rfl)
theorem dJ28_bitCount_55 : decode cJ28_bitCount 55 = .ok (.lload_n 0, 1) := dk_30 (dk_at dksJ28_bitCount_2 7 rfl rfl)
theorem dJ28_bitCount_56 : decode cJ28_bitCount 56 = .ok (.l2i, 1) := dk_136 (dk_at dksJ28_bitCount_2 8 rfl rfl)
theorem dJ28_bitCount_57 : decode cJ28_bitCount 57 = .ok (.bipush 127, 2) := dk_16 127 (dk_at dksJ28_bitCount_2 9 rfl rfl)
theorem dJ28_bitCount_59 : decode cJ28_bitCount 59 = .ok (.iand, 1) := dk_126 (dk_at dksJ28_bitCount_2 11 rfl rfl)
theorem dJ28_bitCount_60 : decode cJ28_bitCount 60 = .ok (.ireturn, 1) := dk_172 (dk_at dksJ28_bitCount_2 12 rfl rfl)
def fJ28_bitCount (e : Nat → Nat) (N : Nat) (m : Mm) (v0 : Int64) : Rs (Int32) := rt_ (((((((((((v0 - ((((v0 : Int64).toUInt64 >>> ((1 : Int32).toInt64.toUInt64 &&& Int64.toUInt64 63)).toInt64) &&& 6148914691236517205)) &&& 3689348814741910323) + (((((v0 - ((((v0 : Int64).toUInt64 >>> ((1 : Int32).toInt64.toUInt64 &&& Int64.toUInt64 63)).toInt64) &&& 6148914691236517205)) : Int64).toUInt64 >>> ((2 : Int32).toInt64.toUInt64 &&& Int64.toUInt64 63)).toInt64) &&& 3689348814741910323)) + ((((((v0 - ((((v0 : Int64).toUInt64 >>> ((1 : Int32).toInt64.toUInt64 &&& Int64.toUInt64 63)).toInt64) &&& 6148914691236517205)) &&& 3689348814741910323) + (((((v0 - ((((v0 : Int64).toUInt64 >>> ((1 : Int32).toInt64.toUInt64 &&& Int64.toUInt64 63)).toInt64) &&& 6148914691236517205)) : Int64).toUInt64 >>> ((2 : Int32).toInt64.toUInt64 &&& Int64.toUInt64 63)).toInt64) &&& 3689348814741910323)) : Int64).toUInt64 >>> ((4 : Int32).toInt64.toUInt64 &&& Int64.toUInt64 63)).toInt64)) &&& 1085102592571150095) + ((((((((v0 - ((((v0 : Int64).toUInt64 >>> ((1 : Int32).toInt64.toUInt64 &&& Int64.toUInt64 63)).toInt64) &&& 6148914691236517205)) &&& 3689348814741910323) + (((((v0 - ((((v0 : Int64).toUInt64 >>> ((1 : Int32).toInt64.toUInt64 &&& Int64.toUInt64 63)).toInt64) &&& 6148914691236517205)) : Int64).toUInt64 >>> ((2 : Int32).toInt64.toUInt64 &&& Int64.toUInt64 63)).toInt64) &&& 3689348814741910323)) + ((((((v0 - ((((v0 : Int64).toUInt64 >>> ((1 : Int32).toInt64.toUInt64 &&& Int64.toUInt64 63)).toInt64) &&& 6148914691236517205)) &&& 3689348814741910323) + (((((v0 - ((((v0 : Int64).toUInt64 >>> ((1 : Int32).toInt64.toUInt64 &&& Int64.toUInt64 63)).toInt64) &&& 6148914691236517205)) : Int64).toUInt64 >>> ((2 : Int32).toInt64.toUInt64 &&& Int64.toUInt64 63)).toInt64) &&& 3689348814741910323)) : Int64).toUInt64 >>> ((4 : Int32).toInt64.toUInt64 &&& Int64.toUInt64 63)).toInt64)) &&& 1085102592571150095) : Int64).toUInt64 >>> ((8 : Int32).toInt64.toUInt64 &&& Int64.toUInt64 63)).toInt64)) + (((((((((v0 - ((((v0 : Int64).toUInt64 >>> ((1 : Int32).toInt64.toUInt64 &&& Int64.toUInt64 63)).toInt64) &&& 6148914691236517205)) &&& 3689348814741910323) + (((((v0 - ((((v0 : Int64).toUInt64 >>> ((1 : Int32).toInt64.toUInt64 &&& Int64.toUInt64 63)).toInt64) &&& 6148914691236517205)) : Int64).toUInt64 >>> ((2 : Int32).toInt64.toUInt64 &&& Int64.toUInt64 63)).toInt64) &&& 3689348814741910323)) + ((((((v0 - ((((v0 : Int64).toUInt64 >>> ((1 : Int32).toInt64.toUInt64 &&& Int64.toUInt64 63)).toInt64) &&& 6148914691236517205)) &&& 3689348814741910323) + (((((v0 - ((((v0 : Int64).toUInt64 >>> ((1 : Int32).toInt64.toUInt64 &&& Int64.toUInt64 63)).toInt64) &&& 6148914691236517205)) : Int64).toUInt64 >>> ((2 : Int32).toInt64.toUInt64 &&& Int64.toUInt64 63)).toInt64) &&& 3689348814741910323)) : Int64).toUInt64 >>> ((4 : Int32).toInt64.toUInt64 &&& Int64.toUInt64 63)).toInt64)) &&& 1085102592571150095) + ((((((((v0 - ((((v0 : Int64).toUInt64 >>> ((1 : Int32).toInt64.toUInt64 &&& Int64.toUInt64 63)).toInt64) &&& 6148914691236517205)) &&& 3689348814741910323) + (((((v0 - ((((v0 : Int64).toUInt64 >>> ((1 : Int32).toInt64.toUInt64 &&& Int64.toUInt64 63)).toInt64) &&& 6148914691236517205)) : Int64).toUInt64 >>> ((2 : Int32).toInt64.toUInt64 &&& Int64.toUInt64 63)).toInt64) &&& 3689348814741910323)) + ((((((v0 - ((((v0 : Int64).toUInt64 >>> ((1 : Int32).toInt64.toUInt64 &&& Int64.toUInt64 63)).toInt64) &&& 6148914691236517205)) &&& 3689348814741910323) + (((((v0 - ((((v0 : Int64).toUInt64 >>> ((1 : Int32).toInt64.toUInt64 &&& Int64.toUInt64 63)).toInt64) &&& 6148914691236517205)) : Int64).toUInt64 >>> ((2 : Int32).toInt64.toUInt64 &&& Int64.toUInt64 63)).toInt64) &&& 3689348814741910323)) : Int64).toUInt64 >>> ((4 : Int32).toInt64.toUInt64 &&& Int64.toUInt64 63)).toInt64)) &&& 1085102592571150095) : Int64).toUInt64 >>> ((8 : Int32).toInt64.toUInt64 &&& Int64.toUInt64 63)).toInt64)) : Int64).toUInt64 >>> ((16 : Int32).toInt64.toUInt64 &&& Int64.toUInt64 63)).toInt64)) + ((((((((((v0 - ((((v0 : Int64).toUInt64 >>> ((1 : Int32).toInt64.toUInt64 &&& Int64.toUInt64 63)).toInt64) &&& 6148914691236517205)) &&& 3689348814741910323) + (((((v0 - ((((v0 : Int64).toUInt64 >>> ((1 : Int32).toInt64.toUInt64 &&& Int64.toUInt64 63)).toInt64) &&& 6148914691236517205)) : Int64).toUInt64 >>> ((2 : Int32).toInt64.toUInt64 &&& Int64.toUInt64 63)).toInt64) &&& 3689348814741910323)) + ((((((v0 - ((((v0 : Int64).toUInt64 >>> ((1 : Int32).toInt64.toUInt64 &&& Int64.toUInt64 63)).toInt64) &&& 6148914691236517205)) &&& 3689348814741910323) + (((((v0 - ((((v0 : Int64).toUInt64 >>> ((1 : Int32).toInt64.toUInt64 &&& Int64.toUInt64 63)).toInt64) &&& 6148914691236517205)) : Int64).toUInt64 >>> ((2 : Int32).toInt64.toUInt64 &&& Int64.toUInt64 63)).toInt64) &&& 3689348814741910323)) : Int64).toUInt64 >>> ((4 : Int32).toInt64.toUInt64 &&& Int64.toUInt64 63)).toInt64)) &&& 1085102592571150095) + ((((((((v0 - ((((v0 : Int64).toUInt64 >>> ((1 : Int32).toInt64.toUInt64 &&& Int64.toUInt64 63)).toInt64) &&& 6148914691236517205)) &&& 3689348814741910323) + (((((v0 - ((((v0 : Int64).toUInt64 >>> ((1 : Int32).toInt64.toUInt64 &&& Int64.toUInt64 63)).toInt64) &&& 6148914691236517205)) : Int64).toUInt64 >>> ((2 : Int32).toInt64.toUInt64 &&& Int64.toUInt64 63)).toInt64) &&& 3689348814741910323)) + ((((((v0 - ((((v0 : Int64).toUInt64 >>> ((1 : Int32).toInt64.toUInt64 &&& Int64.toUInt64 63)).toInt64) &&& 6148914691236517205)) &&& 3689348814741910323) + (((((v0 - ((((v0 : Int64).toUInt64 >>> ((1 : Int32).toInt64.toUInt64 &&& Int64.toUInt64 63)).toInt64) &&& 6148914691236517205)) : Int64).toUInt64 >>> ((2 : Int32).toInt64.toUInt64 &&& Int64.toUInt64 63)).toInt64) &&& 3689348814741910323)) : Int64).toUInt64 >>> ((4 : Int32).toInt64.toUInt64 &&& Int64.toUInt64 63)).toInt64)) &&& 1085102592571150095) : Int64).toUInt64 >>> ((8 : Int32).toInt64.toUInt64 &&& Int64.toUInt64 63)).toInt64)) + (((((((((v0 - ((((v0 : Int64).toUInt64 >>> ((1 : Int32).toInt64.toUInt64 &&& Int64.toUInt64 63)).toInt64) &&& 6148914691236517205)) &&& 3689348814741910323) + (((((v0 - ((((v0 : Int64).toUInt64 >>> ((1 : Int32).toInt64.toUInt64 &&& Int64.toUInt64 63)).toInt64) &&& 6148914691236517205)) : Int64).toUInt64 >>> ((2 : Int32).toInt64.toUInt64 &&& Int64.toUInt64 63)).toInt64) &&& 3689348814741910323)) + ((((((v0 - ((((v0 : Int64).toUInt64 >>> ((1 : Int32).toInt64.toUInt64 &&& Int64.toUInt64 63)).toInt64) &&& 6148914691236517205)) &&& 3689348814741910323) + (((((v0 - ((((v0 : Int64).toUInt64 >>> ((1 : Int32).toInt64.toUInt64 &&& Int64.toUInt64 63)).toInt64) &&& 6148914691236517205)) : Int64).toUInt64 >>> ((2 : Int32).toInt64.toUInt64 &&& Int64.toUInt64 63)).toInt64) &&& 3689348814741910323)) : Int64).toUInt64 >>> ((4 : Int32).toInt64.toUInt64 &&& Int64.toUInt64 63)).toInt64)) &&& 1085102592571150095) + ((((((((v0 - ((((v0 : Int64).toUInt64 >>> ((1 : Int32).toInt64.toUInt64 &&& Int64.toUInt64 63)).toInt64) &&& 6148914691236517205)) &&& 3689348814741910323) + (((((v0 - ((((v0 : Int64).toUInt64 >>> ((1 : Int32).toInt64.toUInt64 &&& Int64.toUInt64 63)).toInt64) &&& 6148914691236517205)) : Int64).toUInt64 >>> ((2 : Int32).toInt64.toUInt64 &&& Int64.toUInt64 63)).toInt64) &&& 3689348814741910323)) + ((((((v0 - ((((v0 : Int64).toUInt64 >>> ((1 : Int32).toInt64.toUInt64 &&& Int64.toUInt64 63)).toInt64) &&& 6148914691236517205)) &&& 3689348814741910323) + (((((v0 - ((((v0 : Int64).toUInt64 >>> ((1 : Int32).toInt64.toUInt64 &&& Int64.toUInt64 63)).toInt64) &&& 6148914691236517205)) : Int64).toUInt64 >>> ((2 : Int32).toInt64.toUInt64 &&& Int64.toUInt64 63)).toInt64) &&& 3689348814741910323)) : Int64).toUInt64 >>> ((4 : Int32).toInt64.toUInt64 &&& Int64.toUInt64 63)).toInt64)) &&& 1085102592571150095) : Int64).toUInt64 >>> ((8 : Int32).toInt64.toUInt64 &&& Int64.toUInt64 63)).toInt64)) : Int64).toUInt64 >>> ((16 : Int32).toInt64.toUInt64 &&& Int64.toUInt64 63)).toInt64)) : Int64).toUInt64 >>> ((32 : Int32).toInt64.toUInt64 &&& Int64.toUInt64 63)).toInt64)) : Int64).toInt32) &&& 127) m
abbrev cX2_next : ByteArray := prog_21_method_11_code
def yX2_next : MethodName := ⟨RX2, "next", "(II)I"⟩
def dkwX2_next_3 : List UInt8 := [132, 4, 1, 167, 255, 188, 29, 172]
abbrev dktX2_next_3 : List UInt8 := dkwX2_next_3 ++ []
def dkwX2_next_2 : List UInt8 := [159, 0, 17, 42, 21, 4, 182, 0, 189, 42, 29, 182, 0, 189, 162, 0, 8, 21, 4, 167, 0, 4, 29, 62]
abbrev dktX2_next_2 : List UInt8 := dkwX2_next_2 ++ dktX2_next_3
def dkwX2_next_1 : List UInt8 := [21, 4, 182, 0, 189, 28, 164, 0, 7, 4, 167, 0, 4, 3, 54, 5, 21, 5, 153, 0, 27, 29, 2]
abbrev dktX2_next_1 : List UInt8 := dkwX2_next_1 ++ dktX2_next_2
def dkwX2_next_0 : List UInt8 := [2, 62, 4, 54, 4, 21, 4, 16, 48, 162, 0, 67, 42, 21, 4, 27, 182, 0, 175, 153, 0, 17, 42]
abbrev dktX2_next_0 : List UInt8 := dkwX2_next_0 ++ dktX2_next_1
theorem dksX2_next_0 : cX2_next.data.toList.drop 0 = dktX2_next_0 := by decide +kernel
theorem dksX2_next_1 : cX2_next.data.toList.drop 23 = dktX2_next_1 := dk_seg dksX2_next_0 23 rfl rfl
theorem dksX2_next_2 : cX2_next.data.toList.drop 46 = dktX2_next_2 := dk_seg dksX2_next_1 23 rfl rfl
theorem dksX2_next_3 : cX2_next.data.toList.drop 70 = dktX2_next_3 := dk_seg dksX2_next_2 24 rfl rfl
theorem dX2_next_0 : decode cX2_next 0 = .ok (.iconst (-1), 1) := dk_2 (dk_at dksX2_next_0 0 rfl rfl)
theorem dX2_next_1 : decode cX2_next 1 = .ok (.istore_n 3, 1) := dk_62 (dk_at dksX2_next_0 1 rfl rfl)
theorem dX2_next_2 : decode cX2_next 2 = .ok (.iconst 1, 1) := dk_4 (dk_at dksX2_next_0 2 rfl rfl)
theorem dX2_next_3 : decode cX2_next 3 = .ok (.istore 4, 2) := dk_54 4 (dk_at dksX2_next_0 3 rfl rfl)
theorem dX2_next_5 : decode cX2_next 5 = .ok (.iload 4, 2) := dk_21 4 (dk_at dksX2_next_0 5 rfl rfl)
theorem dX2_next_7 : decode cX2_next 7 = .ok (.bipush 48, 2) := dk_16 48 (dk_at dksX2_next_0 7 rfl rfl)
theorem dX2_next_9 : decode cX2_next 9 = .ok (.if_icmp .ge 67, 3) := dk_162 0 67 (dk_at dksX2_next_0 9 rfl rfl)
theorem dX2_next_12 : decode cX2_next 12 = .ok (.aload_n 0, 1) := dk_42 (dk_at dksX2_next_0 12 rfl rfl)
theorem dX2_next_13 : decode cX2_next 13 = .ok (.iload 4, 2) := dk_21 4 (dk_at dksX2_next_0 13 rfl rfl)
theorem dX2_next_15 : decode cX2_next 15 = .ok (.iload_n 1, 1) := dk_27 (dk_at dksX2_next_0 15 rfl rfl)
theorem dX2_next_16 : decode cX2_next 16 = .ok (.invokevirtual 175, 3) := dk_182 0 175 (dk_at dksX2_next_0 16 rfl rfl)
theorem dX2_next_19 : decode cX2_next 19 = .ok (.ifCond .eq 17, 3) := dk_153 0 17 (dk_at dksX2_next_0 19 rfl rfl)
theorem dX2_next_22 : decode cX2_next 22 = .ok (.aload_n 0, 1) := dk_42 (dk_at dksX2_next_0 22 rfl rfl)
theorem dX2_next_23 : decode cX2_next 23 = .ok (.iload 4, 2) := dk_21 4 (dk_at dksX2_next_1 0 rfl rfl)
theorem dX2_next_25 : decode cX2_next 25 = .ok (.invokevirtual 189, 3) := dk_182 0 189 (dk_at dksX2_next_1 2 rfl rfl)
theorem dX2_next_28 : decode cX2_next 28 = .ok (.iload_n 2, 1) := dk_28 (dk_at dksX2_next_1 5 rfl rfl)
theorem dX2_next_29 : decode cX2_next 29 = .ok (.if_icmp .le 7, 3) := dk_164 0 7 (dk_at dksX2_next_1 6 rfl rfl)
theorem dX2_next_32 : decode cX2_next 32 = .ok (.iconst 1, 1) := dk_4 (dk_at dksX2_next_1 9 rfl rfl)
theorem dX2_next_33 : decode cX2_next 33 = .ok (.goto 4, 3) := dk_167 0 4 (dk_at dksX2_next_1 10 rfl rfl)
theorem dX2_next_36 : decode cX2_next 36 = .ok (.iconst 0, 1) := dk_3 (dk_at dksX2_next_1 13 rfl rfl)
theorem dX2_next_37 : decode cX2_next 37 = .ok (.istore 5, 2) := dk_54 5 (dk_at dksX2_next_1 14 rfl rfl)
theorem dX2_next_39 : decode cX2_next 39 = .ok (.iload 5, 2) := dk_21 5 (dk_at dksX2_next_1 16 rfl rfl)
theorem dX2_next_41 : decode cX2_next 41 = .ok (.ifCond .eq 27, 3) := dk_153 0 27 (dk_at dksX2_next_1 18 rfl rfl)
theorem dX2_next_44 : decode cX2_next 44 = .ok (.iload_n 3, 1) := dk_29 (dk_at dksX2_next_1 21 rfl rfl)
theorem dX2_next_45 : decode cX2_next 45 = .ok (.iconst (-1), 1) := dk_2 (dk_at dksX2_next_1 22 rfl rfl)
theorem dX2_next_46 : decode cX2_next 46 = .ok (.if_icmp .eq 17, 3) := dk_159 0 17 (dk_at dksX2_next_2 0 rfl rfl)
theorem dX2_next_49 : decode cX2_next 49 = .ok (.aload_n 0, 1) := dk_42 (dk_at dksX2_next_2 3 rfl rfl)
theorem dX2_next_50 : decode cX2_next 50 = .ok (.iload 4, 2) := dk_21 4 (dk_at dksX2_next_2 4 rfl rfl)
theorem dX2_next_52 : decode cX2_next 52 = .ok (.invokevirtual 189, 3) := dk_182 0 189 (dk_at dksX2_next_2 6 rfl rfl)
theorem dX2_next_55 : decode cX2_next 55 = .ok (.aload_n 0, 1) := dk_42 (dk_at dksX2_next_2 9 rfl rfl)
theorem dX2_next_56 : decode cX2_next 56 = .ok (.iload_n 3, 1) := dk_29 (dk_at dksX2_next_2 10 rfl rfl)
theorem dX2_next_57 : decode cX2_next 57 = .ok (.invokevirtual 189, 3) := dk_182 0 189 (dk_at dksX2_next_2 11 rfl rfl)
theorem dX2_next_60 : decode cX2_next 60 = .ok (.if_icmp .ge 8, 3) := dk_162 0 8 (dk_at dksX2_next_2 14 rfl rfl)
theorem dX2_next_63 : decode cX2_next 63 = .ok (.iload 4, 2) := dk_21 4 (dk_at dksX2_next_2 17 rfl rfl)
theorem dX2_next_65 : decode cX2_next 65 = .ok (.goto 4, 3) := dk_167 0 4 (dk_at dksX2_next_2 19 rfl rfl)
theorem dX2_next_68 : decode cX2_next 68 = .ok (.iload_n 3, 1) := dk_29 (dk_at dksX2_next_2 22 rfl rfl)
theorem dX2_next_69 : decode cX2_next 69 = .ok (.istore_n 3, 1) := dk_62 (dk_at dksX2_next_2 23 rfl rfl)
theorem dX2_next_70 : decode cX2_next 70 = .ok (.iinc 4 1, 3) := dk_132 4 1 (dk_at dksX2_next_3 0 rfl rfl)
theorem dX2_next_73 : decode cX2_next 73 = .ok (.goto (-68), 3) := dk_167 255 188 (dk_at dksX2_next_3 3 rfl rfl)
theorem dX2_next_76 : decode cX2_next 76 = .ok (.iload_n 3, 1) := dk_29 (dk_at dksX2_next_3 6 rfl rfl)
theorem dX2_next_77 : decode cX2_next 77 = .ok (.ireturn, 1) := dk_172 (dk_at dksX2_next_3 7 rfl rfl)
def fX2_next_b69 (e : Nat → Nat) (N : Nat) (k5 : Mm → Option Nat → Int32 → Int32 → Int32 → Int32 → Rs (Int32)) (m : Mm) (v0 : Option Nat) (v1 : Int32) (v2 : Int32) (v4 : Int32) (s0 : Int32) : Rs (Int32) := k5 m v0 v1 v2 s0 (v4 + 1)
def fX2_next_b63 (e : Nat → Nat) (N : Nat) (k5 : Mm → Option Nat → Int32 → Int32 → Int32 → Int32 → Rs (Int32)) (m : Mm) (v0 : Option Nat) (v1 : Int32) (v2 : Int32) (v4 : Int32) : Rs (Int32) := fX2_next_b69 e N k5 m v0 v1 v2 v4 v4
def fX2_next_b68 (e : Nat → Nat) (N : Nat) (k5 : Mm → Option Nat → Int32 → Int32 → Int32 → Int32 → Rs (Int32)) (m : Mm) (v0 : Option Nat) (v1 : Int32) (v2 : Int32) (v3 : Int32) (v4 : Int32) : Rs (Int32) := fX2_next_b69 e N k5 m v0 v1 v2 v4 v3
def fX2_next_b37 (e : Nat → Nat) (N : Nat) (k5 : Mm → Option Nat → Int32 → Int32 → Int32 → Int32 → Rs (Int32)) (m : Mm) (v0 : Option Nat) (v1 : Int32) (v2 : Int32) (v3 : Int32) (v4 : Int32) (s0 : Int32) : Rs (Int32) := if s0 = 0 then (fX2_next_b68 e N k5 m v0 v1 v2 v3 v4) else (if v3 = (-1) then (fX2_next_b63 e N k5 m v0 v1 v2 v4) else (ck_ m v0 2 (bd_ (fX2_shownName e N m v0 v4) (fun x1 m1 => ck_ m1 v0 2 (bd_ (fX2_shownName e N m1 v0 v3) (fun x2 m2 => if x1 < x2 then (fX2_next_b63 e N k5 m2 v0 v1 v2 v4) else (fX2_next_b68 e N k5 m2 v0 v1 v2 v3 v4)))))))
def fX2_next_b36 (e : Nat → Nat) (N : Nat) (k5 : Mm → Option Nat → Int32 → Int32 → Int32 → Int32 → Rs (Int32)) (m : Mm) (v0 : Option Nat) (v1 : Int32) (v2 : Int32) (v3 : Int32) (v4 : Int32) : Rs (Int32) := fX2_next_b37 e N k5 m v0 v1 v2 v3 v4 0
def fX2_next_b5 (e : Nat → Nat) (N : Nat) : Nat → Mm → Option Nat → Int32 → Int32 → Int32 → Int32 → Rs (Int32)
  | 0, _, _, _, _, _, _ => none
  | F + 1, m, v0, v1, v2, v3, v4 => if v4 < 48 then (ck_ m v0 2 (bd_ (fX2_isAt e N m v0 v4 v1) (fun x1 m1 => if x1 = 0 then (fX2_next_b36 e N (fX2_next_b5 e N F) m1 v0 v1 v2 v3 v4) else (ck_ m1 v0 2 (bd_ (fX2_shownName e N m1 v0 v4) (fun x2 m2 => if v2 < x2 then (fX2_next_b37 e N (fX2_next_b5 e N F) m2 v0 v1 v2 v3 v4 1) else (fX2_next_b36 e N (fX2_next_b5 e N F) m2 v0 v1 v2 v3 v4))))))) else (rt_ v3 m)
def fX2_next (e : Nat → Nat) (N : Nat) (m : Mm) (v0 : Option Nat) (v1 : Int32) (v2 : Int32) : Rs (Int32) := fX2_next_b5 e N N m v0 v1 v2 (-1) 1
abbrev cX1_delete : ByteArray := prog_1_method_30_code
def yX1_delete : MethodName := ⟨RX1, "delete", "(II)I"⟩
def dkwX1_delete_2 : List UInt8 := [182, 1, 40, 45, 3, 182, 1, 81, 184, 1, 85, 172]
abbrev dktX1_delete_2 : List UInt8 := dkwX1_delete_2 ++ []
def dkwX1_delete_1 : List UInt8 := [2, 160, 0, 7, 4, 167, 0, 4, 3, 19, 1, 76, 184, 0, 165, 42, 45, 178, 1, 78, 28, 3, 3]
abbrev dktX1_delete_1 : List UInt8 := dkwX1_delete_1 ++ dktX1_delete_2
def dkwX1_delete_0 : List UInt8 := [42, 27, 182, 0, 183, 78, 45, 28, 184, 1, 15, 87, 42, 45, 28, 182, 0, 249, 45, 28, 2, 182, 1, 73]
abbrev dktX1_delete_0 : List UInt8 := dkwX1_delete_0 ++ dktX1_delete_1
theorem dksX1_delete_0 : cX1_delete.data.toList.drop 0 = dktX1_delete_0 := by decide +kernel
theorem dksX1_delete_1 : cX1_delete.data.toList.drop 24 = dktX1_delete_1 := dk_seg dksX1_delete_0 24 rfl rfl
theorem dksX1_delete_2 : cX1_delete.data.toList.drop 47 = dktX1_delete_2 := dk_seg dksX1_delete_1 23 rfl rfl
theorem dX1_delete_0 : decode cX1_delete 0 = .ok (.aload_n 0, 1) := dk_42 (dk_at dksX1_delete_0 0 rfl rfl)
theorem dX1_delete_1 : decode cX1_delete 1 = .ok (.iload_n 1, 1) := dk_27 (dk_at dksX1_delete_0 1 rfl rfl)
theorem dX1_delete_2 : decode cX1_delete 2 = .ok (.invokevirtual 183, 3) := dk_182 0 183 (dk_at dksX1_delete_0 2 rfl rfl)
theorem dX1_delete_5 : decode cX1_delete 5 = .ok (.astore_n 3, 1) := dk_78 (dk_at dksX1_delete_0 5 rfl rfl)
theorem dX1_delete_6 : decode cX1_delete 6 = .ok (.aload_n 3, 1) := dk_45 (dk_at dksX1_delete_0 6 rfl rfl)
theorem dX1_delete_7 : decode cX1_delete 7 = .ok (.iload_n 2, 1) := dk_28 (dk_at dksX1_delete_0 7 rfl rfl)
theorem dX1_delete_8 : decode cX1_delete 8 = .ok (.invokestatic 271, 3) := dk_184 1 15 (dk_at dksX1_delete_0 8 rfl rfl)
theorem dX1_delete_11 : decode cX1_delete 11 = .ok (.pop, 1) := dk_87 (dk_at dksX1_delete_0 11 rfl rfl)
theorem dX1_delete_12 : decode cX1_delete 12 = .ok (.aload_n 0, 1) := dk_42 (dk_at dksX1_delete_0 12 rfl rfl)
theorem dX1_delete_13 : decode cX1_delete 13 = .ok (.aload_n 3, 1) := dk_45 (dk_at dksX1_delete_0 13 rfl rfl)
theorem dX1_delete_14 : decode cX1_delete 14 = .ok (.iload_n 2, 1) := dk_28 (dk_at dksX1_delete_0 14 rfl rfl)
theorem dX1_delete_15 : decode cX1_delete 15 = .ok (.invokevirtual 249, 3) := dk_182 0 249 (dk_at dksX1_delete_0 15 rfl rfl)
theorem dX1_delete_18 : decode cX1_delete 18 = .ok (.aload_n 3, 1) := dk_45 (dk_at dksX1_delete_0 18 rfl rfl)
theorem dX1_delete_19 : decode cX1_delete 19 = .ok (.iload_n 2, 1) := dk_28 (dk_at dksX1_delete_0 19 rfl rfl)
theorem dX1_delete_20 : decode cX1_delete 20 = .ok (.iconst (-1), 1) := dk_2 (dk_at dksX1_delete_0 20 rfl rfl)
theorem dX1_delete_21 : decode cX1_delete 21 = .ok (.invokevirtual 329, 3) := dk_182 1 73 (dk_at dksX1_delete_0 21 rfl rfl)
theorem dX1_delete_24 : decode cX1_delete 24 = .ok (.iconst (-1), 1) := dk_2 (dk_at dksX1_delete_1 0 rfl rfl)
theorem dX1_delete_25 : decode cX1_delete 25 = .ok (.if_icmp .ne 7, 3) := dk_160 0 7 (dk_at dksX1_delete_1 1 rfl rfl)
theorem dX1_delete_28 : decode cX1_delete 28 = .ok (.iconst 1, 1) := dk_4 (dk_at dksX1_delete_1 4 rfl rfl)
theorem dX1_delete_29 : decode cX1_delete 29 = .ok (.goto 4, 3) := dk_167 0 4 (dk_at dksX1_delete_1 5 rfl rfl)
theorem dX1_delete_32 : decode cX1_delete 32 = .ok (.iconst 0, 1) := dk_3 (dk_at dksX1_delete_1 8 rfl rfl)
theorem dX1_delete_33 : decode cX1_delete 33 = .ok (.ldc_w 332, 3) := dk_19 1 76 (dk_at dksX1_delete_1 9 rfl rfl)
theorem dX1_delete_36 : decode cX1_delete 36 = .ok (.invokestatic 165, 3) := dk_184 0 165 (dk_at dksX1_delete_1 12 rfl rfl)
theorem dX1_delete_39 : decode cX1_delete 39 = .ok (.aload_n 0, 1) := dk_42 (dk_at dksX1_delete_1 15 rfl rfl)
theorem dX1_delete_40 : decode cX1_delete 40 = .ok (.aload_n 3, 1) := dk_45 (dk_at dksX1_delete_1 16 rfl rfl)
theorem dX1_delete_41 : decode cX1_delete 41 = .ok (.getstatic 334, 3) := dk_178 1 78 (dk_at dksX1_delete_1 17 rfl rfl)
theorem dX1_delete_44 : decode cX1_delete 44 = .ok (.iload_n 2, 1) := dk_28 (dk_at dksX1_delete_1 20 rfl rfl)
theorem dX1_delete_45 : decode cX1_delete 45 = .ok (.iconst 0, 1) := dk_3 (dk_at dksX1_delete_1 21 rfl rfl)
theorem dX1_delete_46 : decode cX1_delete 46 = .ok (.iconst 0, 1) := dk_3 (dk_at dksX1_delete_1 22 rfl rfl)
theorem dX1_delete_47 : decode cX1_delete 47 = .ok (.invokevirtual 296, 3) := dk_182 1 40 (dk_at dksX1_delete_2 0 rfl rfl)
theorem dX1_delete_50 : decode cX1_delete 50 = .ok (.aload_n 3, 1) := dk_45 (dk_at dksX1_delete_2 3 rfl rfl)
theorem dX1_delete_51 : decode cX1_delete 51 = .ok (.iconst 0, 1) := dk_3 (dk_at dksX1_delete_2 4 rfl rfl)
theorem dX1_delete_52 : decode cX1_delete 52 = .ok (.invokevirtual 337, 3) := dk_182 1 81 (dk_at dksX1_delete_2 5 rfl rfl)
theorem dX1_delete_55 : decode cX1_delete 55 = .ok (.invokestatic 341, 3) := dk_184 1 85 (dk_at dksX1_delete_2 8 rfl rfl)
theorem dX1_delete_58 : decode cX1_delete 58 = .ok (.ireturn, 1) := dk_172 (dk_at dksX1_delete_2 11 rfl rfl)
def fX1_delete_b33 (e : Nat → Nat) (N : Nat) (m : Mm) (v0 : Option Nat) (v2 : Int32) (v3 : Option Nat) (s0 : Int32) : Rs (Int32 ⊕ Nat) := bd_ (fX1_must e N m s0 (some (e (100 + 27)))) (xf_ (fun _ m1 => ck_ m1 v0 1 (bd_ (fX1_makes_2 e N m1 v0 v3 (some (e 14)) v2 0 0) (fun _ m2 => ck_ m2 v3 2 (bd_ (fX2_marks e N m2 v3 0) (fun x1 m3 => bd_ (fJ28_bitCount e N m3 x1) (fun x2 m4 => rt_ (.inl x2) m4)))))))
def fX1_delete (e : Nat → Nat) (N : Nat) (m : Mm) (v0 : Option Nat) (v1 : Int32) (v2 : Int32) : Rs (Int32 ⊕ Nat) := ck_ m v0 1 (bd_ (fX1_at e N m v0 v1) (xf_ (fun x1 m1 => bd_ (fX1_changeable e N m1 x1 v2) (xf_ (fun x2 m2 => ck_ m2 v0 1 (bd_ (fX1_mayWrite e N m2 v0 x1 v2) (xf_ (fun _ m3 => ck_ m3 x1 2 (bd_ (fX2_next e N m3 x1 v2 (-1)) (fun x3 m4 => if x3 = (-1) then (fX1_delete_b33 e N m4 v0 v2 x1 1) else (fX1_delete_b33 e N m4 v0 v2 x1 0)))))))))))
abbrev cX0_delete : ByteArray := method_13_code
def yX0_delete : MethodName := ⟨RX0, "delete", "(LMasterTree;II[J)I"⟩
def dkwX0_delete_0 : List UInt8 := [45, 3, 42, 27, 28, 182, 0, 49, 133, 80, 167, 0, 11, 58, 4, 4, 172, 58, 4, 5, 172, 3, 172]
abbrev dktX0_delete_0 : List UInt8 := dkwX0_delete_0 ++ []
theorem dksX0_delete_0 : cX0_delete.data.toList.drop 0 = dktX0_delete_0 := by decide +kernel
theorem dX0_delete_0 : decode cX0_delete 0 = .ok (.aload_n 3, 1) := dk_45 (dk_at dksX0_delete_0 0 rfl rfl)
theorem dX0_delete_1 : decode cX0_delete 1 = .ok (.iconst 0, 1) := dk_3 (dk_at dksX0_delete_0 1 rfl rfl)
theorem dX0_delete_2 : decode cX0_delete 2 = .ok (.aload_n 0, 1) := dk_42 (dk_at dksX0_delete_0 2 rfl rfl)
theorem dX0_delete_3 : decode cX0_delete 3 = .ok (.iload_n 1, 1) := dk_27 (dk_at dksX0_delete_0 3 rfl rfl)
theorem dX0_delete_4 : decode cX0_delete 4 = .ok (.iload_n 2, 1) := dk_28 (dk_at dksX0_delete_0 4 rfl rfl)
theorem dX0_delete_5 : decode cX0_delete 5 = .ok (.invokevirtual 49, 3) := dk_182 0 49 (dk_at dksX0_delete_0 5 rfl rfl)
theorem dX0_delete_8 : decode cX0_delete 8 = .ok (.i2l, 1) := dk_133 (dk_at dksX0_delete_0 8 rfl rfl)
theorem dX0_delete_9 : decode cX0_delete 9 = .ok (.lastore, 1) := dk_80 (dk_at dksX0_delete_0 9 rfl rfl)
theorem dX0_delete_10 : decode cX0_delete 10 = .ok (.goto 11, 3) := dk_167 0 11 (dk_at dksX0_delete_0 10 rfl rfl)
theorem dX0_delete_13 : decode cX0_delete 13 = .ok (.astore 4, 2) := dk_58 4 (dk_at dksX0_delete_0 13 rfl rfl)
theorem dX0_delete_15 : decode cX0_delete 15 = .ok (.iconst 1, 1) := dk_4 (dk_at dksX0_delete_0 15 rfl rfl)
theorem dX0_delete_16 : decode cX0_delete 16 = .ok (.ireturn, 1) := dk_172 (dk_at dksX0_delete_0 16 rfl rfl)
theorem dX0_delete_17 : decode cX0_delete 17 = .ok (.astore 4, 2) := dk_58 4 (dk_at dksX0_delete_0 17 rfl rfl)
theorem dX0_delete_19 : decode cX0_delete 19 = .ok (.iconst 2, 1) := dk_5 (dk_at dksX0_delete_0 19 rfl rfl)
theorem dX0_delete_20 : decode cX0_delete 20 = .ok (.ireturn, 1) := dk_172 (dk_at dksX0_delete_0 20 rfl rfl)
theorem dX0_delete_21 : decode cX0_delete 21 = .ok (.iconst 0, 1) := dk_3 (dk_at dksX0_delete_0 21 rfl rfl)
theorem dX0_delete_22 : decode cX0_delete 22 = .ok (.ireturn, 1) := dk_172 (dk_at dksX0_delete_0 22 rfl rfl)
def fX0_delete (e : Nat → Nat) (N : Nat) (m : Mm) (v0 : Option Nat) (v1 : Int32) (v2 : Int32) (v3 : Option Nat) : Rs (Int32) := ck_ m v0 1 (bd_ (fX1_delete e N m v0 v1 v2) (ch_ (fun x1 m1 => bj_ m1 v3 203 0 ((x1 : Int32).toInt64) (fun m2 => rt_ 0 m2)) (fun i_ m0 => if i_ = 0 then rt_ 1 m0 else if i_ = 2 then rt_ 2 m0 else none)))
abbrev cX1_link : ByteArray := prog_1_method_31_code
def yX1_link : MethodName := ⟨RX1, "link", "(III)I"⟩
def dkwX1_link_3 : List UInt8 := [180, 1, 93, 54, 6, 42, 25, 4, 178, 1, 96, 28, 29, 3, 182, 1, 40, 21, 6, 172]
abbrev dktX1_link_3 : List UInt8 := dkwX1_link_3 ++ []
def dkwX1_link_2 : List UInt8 := [25, 4, 28, 182, 0, 249, 29, 28, 159, 0, 7, 4, 167, 0, 4, 3, 19, 1, 91, 184, 0, 165, 25, 5]
abbrev dktX1_link_2 : List UInt8 := dkwX1_link_2 ++ dktX1_link_3
def dkwX1_link_1 : List UInt8 := [100, 7, 18, 107, 184, 0, 109, 87, 167, 0, 15, 29, 2, 159, 0, 10, 25, 4, 29, 184, 0, 133, 87, 42]
abbrev dktX1_link_1 : List UInt8 := dkwX1_link_1 ++ dktX1_link_2
def dkwX1_link_0 : List UInt8 := [42, 27, 182, 0, 183, 58, 4, 25, 4, 28, 184, 1, 15, 58, 5, 29, 16, 100, 161, 0, 17, 29, 16, 100]
abbrev dktX1_link_0 : List UInt8 := dkwX1_link_0 ++ dktX1_link_1
theorem dksX1_link_0 : cX1_link.data.toList.drop 0 = dktX1_link_0 := by decide +kernel
theorem dksX1_link_1 : cX1_link.data.toList.drop 24 = dktX1_link_1 := dk_seg dksX1_link_0 24 rfl rfl
theorem dksX1_link_2 : cX1_link.data.toList.drop 48 = dktX1_link_2 := dk_seg dksX1_link_1 24 rfl rfl
theorem dksX1_link_3 : cX1_link.data.toList.drop 72 = dktX1_link_3 := dk_seg dksX1_link_2 24 rfl rfl
theorem dX1_link_0 : decode cX1_link 0 = .ok (.aload_n 0, 1) := dk_42 (dk_at dksX1_link_0 0 rfl rfl)
theorem dX1_link_1 : decode cX1_link 1 = .ok (.iload_n 1, 1) := dk_27 (dk_at dksX1_link_0 1 rfl rfl)
theorem dX1_link_2 : decode cX1_link 2 = .ok (.invokevirtual 183, 3) := dk_182 0 183 (dk_at dksX1_link_0 2 rfl rfl)
theorem dX1_link_5 : decode cX1_link 5 = .ok (.astore 4, 2) := dk_58 4 (dk_at dksX1_link_0 5 rfl rfl)
theorem dX1_link_7 : decode cX1_link 7 = .ok (.aload 4, 2) := dk_25 4 (dk_at dksX1_link_0 7 rfl rfl)
theorem dX1_link_9 : decode cX1_link 9 = .ok (.iload_n 2, 1) := dk_28 (dk_at dksX1_link_0 9 rfl rfl)
theorem dX1_link_10 : decode cX1_link 10 = .ok (.invokestatic 271, 3) := dk_184 1 15 (dk_at dksX1_link_0 10 rfl rfl)
theorem dX1_link_13 : decode cX1_link 13 = .ok (.astore 5, 2) := dk_58 5 (dk_at dksX1_link_0 13 rfl rfl)
theorem dX1_link_15 : decode cX1_link 15 = .ok (.iload_n 3, 1) := dk_29 (dk_at dksX1_link_0 15 rfl rfl)
theorem dX1_link_16 : decode cX1_link 16 = .ok (.bipush 100, 2) := dk_16 100 (dk_at dksX1_link_0 16 rfl rfl)
theorem dX1_link_18 : decode cX1_link 18 = .ok (.if_icmp .lt 17, 3) := dk_161 0 17 (dk_at dksX1_link_0 18 rfl rfl)
theorem dX1_link_21 : decode cX1_link 21 = .ok (.iload_n 3, 1) := dk_29 (dk_at dksX1_link_0 21 rfl rfl)
theorem dX1_link_22 : decode cX1_link 22 = .ok (.bipush 100, 2) := dk_16 100 (dk_at dksX1_link_0 22 rfl rfl)
theorem dX1_link_24 : decode cX1_link 24 = .ok (.isub, 1) := dk_100 (dk_at dksX1_link_1 0 rfl rfl)
theorem dX1_link_25 : decode cX1_link 25 = .ok (.iconst 4, 1) := dk_7 (dk_at dksX1_link_1 1 rfl rfl)
theorem dX1_link_26 : decode cX1_link 26 = .ok (.ldc 107, 2) := dk_18 107 (dk_at dksX1_link_1 2 rfl rfl)
theorem dX1_link_28 : decode cX1_link 28 = .ok (.invokestatic 109, 3) := dk_184 0 109 (dk_at dksX1_link_1 4 rfl rfl)
theorem dX1_link_31 : decode cX1_link 31 = .ok (.pop, 1) := dk_87 (dk_at dksX1_link_1 7 rfl rfl)
theorem dX1_link_32 : decode cX1_link 32 = .ok (.goto 15, 3) := dk_167 0 15 (dk_at dksX1_link_1 8 rfl rfl)
theorem dX1_link_35 : decode cX1_link 35 = .ok (.iload_n 3, 1) := dk_29 (dk_at dksX1_link_1 11 rfl rfl)
theorem dX1_link_36 : decode cX1_link 36 = .ok (.iconst (-1), 1) := dk_2 (dk_at dksX1_link_1 12 rfl rfl)
theorem dX1_link_37 : decode cX1_link 37 = .ok (.if_icmp .eq 10, 3) := dk_159 0 10 (dk_at dksX1_link_1 13 rfl rfl)
theorem dX1_link_40 : decode cX1_link 40 = .ok (.aload 4, 2) := dk_25 4 (dk_at dksX1_link_1 16 rfl rfl)
theorem dX1_link_42 : decode cX1_link 42 = .ok (.iload_n 3, 1) := dk_29 (dk_at dksX1_link_1 18 rfl rfl)
theorem dX1_link_43 : decode cX1_link 43 = .ok (.invokestatic 133, 3) := dk_184 0 133 (dk_at dksX1_link_1 19 rfl rfl)
theorem dX1_link_46 : decode cX1_link 46 = .ok (.pop, 1) := dk_87 (dk_at dksX1_link_1 22 rfl rfl)
theorem dX1_link_47 : decode cX1_link 47 = .ok (.aload_n 0, 1) := dk_42 (dk_at dksX1_link_1 23 rfl rfl)
theorem dX1_link_48 : decode cX1_link 48 = .ok (.aload 4, 2) := dk_25 4 (dk_at dksX1_link_2 0 rfl rfl)
theorem dX1_link_50 : decode cX1_link 50 = .ok (.iload_n 2, 1) := dk_28 (dk_at dksX1_link_2 2 rfl rfl)
theorem dX1_link_51 : decode cX1_link 51 = .ok (.invokevirtual 249, 3) := dk_182 0 249 (dk_at dksX1_link_2 3 rfl rfl)
theorem dX1_link_54 : decode cX1_link 54 = .ok (.iload_n 3, 1) := dk_29 (dk_at dksX1_link_2 6 rfl rfl)
theorem dX1_link_55 : decode cX1_link 55 = .ok (.iload_n 2, 1) := dk_28 (dk_at dksX1_link_2 7 rfl rfl)
theorem dX1_link_56 : decode cX1_link 56 = .ok (.if_icmp .eq 7, 3) := dk_159 0 7 (dk_at dksX1_link_2 8 rfl rfl)
theorem dX1_link_59 : decode cX1_link 59 = .ok (.iconst 1, 1) := dk_4 (dk_at dksX1_link_2 11 rfl rfl)
theorem dX1_link_60 : decode cX1_link 60 = .ok (.goto 4, 3) := dk_167 0 4 (dk_at dksX1_link_2 12 rfl rfl)
theorem dX1_link_63 : decode cX1_link 63 = .ok (.iconst 0, 1) := dk_3 (dk_at dksX1_link_2 15 rfl rfl)
theorem dX1_link_64 : decode cX1_link 64 = .ok (.ldc_w 347, 3) := dk_19 1 91 (dk_at dksX1_link_2 16 rfl rfl)
theorem dX1_link_67 : decode cX1_link 67 = .ok (.invokestatic 165, 3) := dk_184 0 165 (dk_at dksX1_link_2 19 rfl rfl)
theorem dX1_link_70 : decode cX1_link 70 = .ok (.aload 5, 2) := dk_25 5 (dk_at dksX1_link_2 22 rfl rfl)
theorem dX1_link_72 : decode cX1_link 72 = .ok (.getfield 349, 3) := dk_180 1 93 (dk_at dksX1_link_3 0 rfl rfl)
theorem dX1_link_75 : decode cX1_link 75 = .ok (.istore 6, 2) := dk_54 6 (dk_at dksX1_link_3 3 rfl rfl)
theorem dX1_link_77 : decode cX1_link 77 = .ok (.aload_n 0, 1) := dk_42 (dk_at dksX1_link_3 5 rfl rfl)
theorem dX1_link_78 : decode cX1_link 78 = .ok (.aload 4, 2) := dk_25 4 (dk_at dksX1_link_3 6 rfl rfl)
theorem dX1_link_80 : decode cX1_link 80 = .ok (.getstatic 352, 3) := dk_178 1 96 (dk_at dksX1_link_3 8 rfl rfl)
theorem dX1_link_83 : decode cX1_link 83 = .ok (.iload_n 2, 1) := dk_28 (dk_at dksX1_link_3 11 rfl rfl)
theorem dX1_link_84 : decode cX1_link 84 = .ok (.iload_n 3, 1) := dk_29 (dk_at dksX1_link_3 12 rfl rfl)
theorem dX1_link_85 : decode cX1_link 85 = .ok (.iconst 0, 1) := dk_3 (dk_at dksX1_link_3 13 rfl rfl)
theorem dX1_link_86 : decode cX1_link 86 = .ok (.invokevirtual 296, 3) := dk_182 1 40 (dk_at dksX1_link_3 14 rfl rfl)
theorem dX1_link_89 : decode cX1_link 89 = .ok (.iload 6, 2) := dk_21 6 (dk_at dksX1_link_3 17 rfl rfl)
theorem dX1_link_91 : decode cX1_link 91 = .ok (.ireturn, 1) := dk_172 (dk_at dksX1_link_3 19 rfl rfl)
def fX1_link_b64 (e : Nat → Nat) (N : Nat) (m : Mm) (v0 : Option Nat) (v2 : Int32) (v3 : Int32) (v4 : Option Nat) (v5 : Option Nat) (s0 : Int32) : Rs (Int32 ⊕ Nat) := bd_ (fX1_must e N m s0 (some (e (100 + 28)))) (xf_ (fun _ m1 => gi_ m1 v5 3 6 (fun x1 => ck_ m1 v0 1 (bd_ (fX1_makes_2 e N m1 v0 v4 (some (e 11)) v2 v3 0) (fun _ m2 => rt_ (.inl x1) m2)))))
def fX1_link_b47 (e : Nat → Nat) (N : Nat) (m : Mm) (v0 : Option Nat) (v2 : Int32) (v3 : Int32) (v4 : Option Nat) (v5 : Option Nat) : Rs (Int32 ⊕ Nat) := ck_ m v0 1 (bd_ (fX1_mayWrite e N m v0 v4 v2) (xf_ (fun _ m1 => if v3 = v2 then (fX1_link_b64 e N m1 v0 v2 v3 v4 v5 0) else (fX1_link_b64 e N m1 v0 v2 v3 v4 v5 1))))
def fX1_link (e : Nat → Nat) (N : Nat) (m : Mm) (v0 : Option Nat) (v1 : Int32) (v2 : Int32) (v3 : Int32) : Rs (Int32 ⊕ Nat) := ck_ m v0 1 (bd_ (fX1_at e N m v0 v1) (xf_ (fun x1 m1 => bd_ (fX1_changeable e N m1 x1 v2) (xf_ (fun x2 m2 => if v3 < 100 then (if v3 = (-1) then (fX1_link_b47 e N m2 v0 v2 v3 x1 x2) else (bd_ (fX1_liveAt e N m2 x1 v3) (xf_ (fun x3 m3 => fX1_link_b47 e N m3 v0 v2 v3 x1 x2)))) else (bd_ (fX1_place e N m2 (v3 - 100) 4 (some (e (100 + 7)))) (xf_ (fun x4 m4 => fX1_link_b47 e N m4 v0 v2 v3 x1 x2))))))))
abbrev cX0_link : ByteArray := method_14_code
def yX0_link : MethodName := ⟨RX0, "link", "(LMasterTree;III[J)I"⟩
def dkwX0_link_1 : List UInt8 := [172]
abbrev dktX0_link_1 : List UInt8 := dkwX0_link_1 ++ []
def dkwX0_link_0 : List UInt8 := [25, 4, 3, 42, 27, 28, 29, 182, 0, 52, 133, 80, 167, 0, 11, 58, 5, 4, 172, 58, 5, 5, 172, 3]
abbrev dktX0_link_0 : List UInt8 := dkwX0_link_0 ++ dktX0_link_1
theorem dksX0_link_0 : cX0_link.data.toList.drop 0 = dktX0_link_0 := by decide +kernel
theorem dksX0_link_1 : cX0_link.data.toList.drop 24 = dktX0_link_1 := dk_seg dksX0_link_0 24 rfl rfl
theorem dX0_link_0 : decode cX0_link 0 = .ok (.aload 4, 2) := dk_25 4 (dk_at dksX0_link_0 0 rfl rfl)
theorem dX0_link_2 : decode cX0_link 2 = .ok (.iconst 0, 1) := dk_3 (dk_at dksX0_link_0 2 rfl rfl)
theorem dX0_link_3 : decode cX0_link 3 = .ok (.aload_n 0, 1) := dk_42 (dk_at dksX0_link_0 3 rfl rfl)
theorem dX0_link_4 : decode cX0_link 4 = .ok (.iload_n 1, 1) := dk_27 (dk_at dksX0_link_0 4 rfl rfl)
theorem dX0_link_5 : decode cX0_link 5 = .ok (.iload_n 2, 1) := dk_28 (dk_at dksX0_link_0 5 rfl rfl)
theorem dX0_link_6 : decode cX0_link 6 = .ok (.iload_n 3, 1) := dk_29 (dk_at dksX0_link_0 6 rfl rfl)
theorem dX0_link_7 : decode cX0_link 7 = .ok (.invokevirtual 52, 3) := dk_182 0 52 (dk_at dksX0_link_0 7 rfl rfl)
theorem dX0_link_10 : decode cX0_link 10 = .ok (.i2l, 1) := dk_133 (dk_at dksX0_link_0 10 rfl rfl)
theorem dX0_link_11 : decode cX0_link 11 = .ok (.lastore, 1) := dk_80 (dk_at dksX0_link_0 11 rfl rfl)
theorem dX0_link_12 : decode cX0_link 12 = .ok (.goto 11, 3) := dk_167 0 11 (dk_at dksX0_link_0 12 rfl rfl)
theorem dX0_link_15 : decode cX0_link 15 = .ok (.astore 5, 2) := dk_58 5 (dk_at dksX0_link_0 15 rfl rfl)
theorem dX0_link_17 : decode cX0_link 17 = .ok (.iconst 1, 1) := dk_4 (dk_at dksX0_link_0 17 rfl rfl)
theorem dX0_link_18 : decode cX0_link 18 = .ok (.ireturn, 1) := dk_172 (dk_at dksX0_link_0 18 rfl rfl)
theorem dX0_link_19 : decode cX0_link 19 = .ok (.astore 5, 2) := dk_58 5 (dk_at dksX0_link_0 19 rfl rfl)
theorem dX0_link_21 : decode cX0_link 21 = .ok (.iconst 2, 1) := dk_5 (dk_at dksX0_link_0 21 rfl rfl)
theorem dX0_link_22 : decode cX0_link 22 = .ok (.ireturn, 1) := dk_172 (dk_at dksX0_link_0 22 rfl rfl)
theorem dX0_link_23 : decode cX0_link 23 = .ok (.iconst 0, 1) := dk_3 (dk_at dksX0_link_0 23 rfl rfl)
theorem dX0_link_24 : decode cX0_link 24 = .ok (.ireturn, 1) := dk_172 (dk_at dksX0_link_1 0 rfl rfl)
def fX0_link (e : Nat → Nat) (N : Nat) (m : Mm) (v0 : Option Nat) (v1 : Int32) (v2 : Int32) (v3 : Int32) (v4 : Option Nat) : Rs (Int32) := ck_ m v0 1 (bd_ (fX1_link e N m v0 v1 v2 v3) (ch_ (fun x1 m1 => bj_ m1 v4 203 0 ((x1 : Int32).toInt64) (fun m2 => rt_ 0 m2)) (fun i_ m0 => if i_ = 0 then rt_ 1 m0 else if i_ = 2 then rt_ 2 m0 else none)))
abbrev cX1_ruleOf : ByteArray := prog_1_method_1_code
def yX1_ruleOf : MethodName := ⟨RX1, "ruleOf", "(III)I"⟩
def dkwX1_ruleOf_0 : List UInt8 := [5, 6, 26, 4, 96, 104, 27, 96, 104, 28, 96, 172]
abbrev dktX1_ruleOf_0 : List UInt8 := dkwX1_ruleOf_0 ++ []
theorem dksX1_ruleOf_0 : cX1_ruleOf.data.toList.drop 0 = dktX1_ruleOf_0 := by decide +kernel
theorem dX1_ruleOf_0 : decode cX1_ruleOf 0 = .ok (.iconst 2, 1) := dk_5 (dk_at dksX1_ruleOf_0 0 rfl rfl)
theorem dX1_ruleOf_1 : decode cX1_ruleOf 1 = .ok (.iconst 3, 1) := dk_6 (dk_at dksX1_ruleOf_0 1 rfl rfl)
theorem dX1_ruleOf_2 : decode cX1_ruleOf 2 = .ok (.iload_n 0, 1) := dk_26 (dk_at dksX1_ruleOf_0 2 rfl rfl)
theorem dX1_ruleOf_3 : decode cX1_ruleOf 3 = .ok (.iconst 1, 1) := dk_4 (dk_at dksX1_ruleOf_0 3 rfl rfl)
theorem dX1_ruleOf_4 : decode cX1_ruleOf 4 = .ok (.iadd, 1) := dk_96 (dk_at dksX1_ruleOf_0 4 rfl rfl)
theorem dX1_ruleOf_5 : decode cX1_ruleOf 5 = .ok (.imul, 1) := dk_104 (dk_at dksX1_ruleOf_0 5 rfl rfl)
theorem dX1_ruleOf_6 : decode cX1_ruleOf 6 = .ok (.iload_n 1, 1) := dk_27 (dk_at dksX1_ruleOf_0 6 rfl rfl)
theorem dX1_ruleOf_7 : decode cX1_ruleOf 7 = .ok (.iadd, 1) := dk_96 (dk_at dksX1_ruleOf_0 7 rfl rfl)
theorem dX1_ruleOf_8 : decode cX1_ruleOf 8 = .ok (.imul, 1) := dk_104 (dk_at dksX1_ruleOf_0 8 rfl rfl)
theorem dX1_ruleOf_9 : decode cX1_ruleOf 9 = .ok (.iload_n 2, 1) := dk_28 (dk_at dksX1_ruleOf_0 9 rfl rfl)
theorem dX1_ruleOf_10 : decode cX1_ruleOf 10 = .ok (.iadd, 1) := dk_96 (dk_at dksX1_ruleOf_0 10 rfl rfl)
theorem dX1_ruleOf_11 : decode cX1_ruleOf 11 = .ok (.ireturn, 1) := dk_172 (dk_at dksX1_ruleOf_0 11 rfl rfl)
def fX1_ruleOf (e : Nat → Nat) (N : Nat) (m : Mm) (v0 : Int32) (v1 : Int32) (v2 : Int32) : Rs (Int32) := rt_ ((2 * ((3 * (v0 + 1)) + v1)) + v2) m
abbrev cX3_says : ByteArray := prog_7_method_8_code
def yX3_says : MethodName := ⟨RX3, "says", "(I)I"⟩
def dkwX3_says_1 : List UInt8 := [182, 0, 125, 172]
abbrev dktX3_says_1 : List UInt8 := dkwX3_says_1 ++ []
def dkwX3_says_0 : List UInt8 := [42, 180, 0, 29, 27, 184, 0, 58, 182, 0, 122, 192, 0, 59, 77, 44, 199, 0, 7, 3, 167, 0, 7, 44]
abbrev dktX3_says_0 : List UInt8 := dkwX3_says_0 ++ dktX3_says_1
theorem dksX3_says_0 : cX3_says.data.toList.drop 0 = dktX3_says_0 := by decide +kernel
theorem dksX3_says_1 : cX3_says.data.toList.drop 24 = dktX3_says_1 := dk_seg dksX3_says_0 24 rfl rfl
theorem dX3_says_0 : decode cX3_says 0 = .ok (.aload_n 0, 1) := dk_42 (dk_at dksX3_says_0 0 rfl rfl)
theorem dX3_says_1 : decode cX3_says 1 = .ok (.getfield 29, 3) := dk_180 0 29 (dk_at dksX3_says_0 1 rfl rfl)
theorem dX3_says_4 : decode cX3_says 4 = .ok (.iload_n 1, 1) := dk_27 (dk_at dksX3_says_0 4 rfl rfl)
theorem dX3_says_5 : decode cX3_says 5 = .ok (.invokestatic 58, 3) := dk_184 0 58 (dk_at dksX3_says_0 5 rfl rfl)
theorem dX3_says_8 : decode cX3_says 8 = .ok (.invokevirtual 122, 3) := dk_182 0 122 (dk_at dksX3_says_0 8 rfl rfl)
theorem dX3_says_11 : decode cX3_says 11 = .ok (.checkcast 59, 3) := dk_192 0 59 (dk_at dksX3_says_0 11 rfl rfl)
theorem dX3_says_14 : decode cX3_says 14 = .ok (.astore_n 2, 1) := dk_77 (dk_at dksX3_says_0 14 rfl rfl)
theorem dX3_says_15 : decode cX3_says 15 = .ok (.aload_n 2, 1) := dk_44 (dk_at dksX3_says_0 15 rfl rfl)
theorem dX3_says_16 : decode cX3_says 16 = .ok (.ifnonnull 7, 3) := dk_199 0 7 (dk_at dksX3_says_0 16 rfl rfl)
theorem dX3_says_19 : decode cX3_says 19 = .ok (.iconst 0, 1) := dk_3 (dk_at dksX3_says_0 19 rfl rfl)
theorem dX3_says_20 : decode cX3_says 20 = .ok (.goto 7, 3) := dk_167 0 7 (dk_at dksX3_says_0 20 rfl rfl)
theorem dX3_says_23 : decode cX3_says 23 = .ok (.aload_n 2, 1) := dk_44 (dk_at dksX3_says_0 23 rfl rfl)
theorem dX3_says_24 : decode cX3_says 24 = .ok (.invokevirtual 125, 3) := dk_182 0 125 (dk_at dksX3_says_1 0 rfl rfl)
theorem dX3_says_27 : decode cX3_says 27 = .ok (.ireturn, 1) := dk_172 (dk_at dksX3_says_1 3 rfl rfl)
def fX3_says_b27 (e : Nat → Nat) (N : Nat) (m : Mm) (s0 : Int32) : Rs (Int32) := rt_ s0 m
def fX3_says (e : Nat → Nat) (N : Nat) (m : Mm) (v0 : Option Nat) (v1 : Int32) : Rs (Int32) := gr_ m v0 3 8 (fun x1 => bd_ (fJ21_valueOf e N m v1) (fun x2 m1 => ck_ m1 x1 15 (bd_ (fJ4_get e N m1 x1 x2) (fun x3 m2 => cc_ m2 x3 [27] (if x3 = none then (fX3_says_b27 e N m2 0) else (ck_ m2 x3 27 (bd_ (fJ21_intValue e N m2 x3) (fun x4 m3 => fX3_says_b27 e N m3 x4))))))))
abbrev cX1_rule : ByteArray := prog_1_method_32_code
def yX1_rule : MethodName := ⟨RX1, "rule", "(IIIIII)I"⟩
def dkwX1_rule_4 : List UInt8 := [21, 9, 182, 1, 109, 54, 10, 42, 25, 7, 178, 1, 112, 28, 21, 9, 21, 6, 182, 1, 40, 21, 10, 172]
abbrev dktX1_rule_4 : List UInt8 := dkwX1_rule_4 ++ []
def dkwX1_rule_3 : List UInt8 := [5, 184, 0, 195, 42, 25, 7, 28, 182, 0, 249, 29, 21, 4, 21, 5, 184, 1, 105, 54, 9, 25, 8]
abbrev dktX1_rule_3 : List UInt8 := dkwX1_rule_3 ++ dktX1_rule_4
def dkwX1_rule_2 : List UInt8 := [87, 21, 4, 6, 19, 1, 101, 184, 0, 109, 87, 21, 5, 5, 19, 1, 103, 184, 0, 109, 87, 21, 6, 3]
abbrev dktX1_rule_2 : List UInt8 := dkwX1_rule_2 ++ dktX1_rule_3
def dkwX1_rule_1 : List UInt8 := [16, 100, 100, 184, 0, 133, 87, 167, 0, 18, 29, 2, 159, 0, 13, 29, 16, 6, 19, 1, 99, 184, 0, 109]
abbrev dktX1_rule_1 : List UInt8 := dkwX1_rule_1 ++ dktX1_rule_2
def dkwX1_rule_0 : List UInt8 := [42, 27, 182, 0, 183, 58, 7, 25, 7, 28, 184, 0, 133, 58, 8, 29, 16, 100, 161, 0, 16, 25, 7, 29]
abbrev dktX1_rule_0 : List UInt8 := dkwX1_rule_0 ++ dktX1_rule_1
theorem dksX1_rule_0 : cX1_rule.data.toList.drop 0 = dktX1_rule_0 := by decide +kernel
theorem dksX1_rule_1 : cX1_rule.data.toList.drop 24 = dktX1_rule_1 := dk_seg dksX1_rule_0 24 rfl rfl
theorem dksX1_rule_2 : cX1_rule.data.toList.drop 48 = dktX1_rule_2 := dk_seg dksX1_rule_1 24 rfl rfl
theorem dksX1_rule_3 : cX1_rule.data.toList.drop 72 = dktX1_rule_3 := dk_seg dksX1_rule_2 24 rfl rfl
theorem dksX1_rule_4 : cX1_rule.data.toList.drop 95 = dktX1_rule_4 := dk_seg dksX1_rule_3 23 rfl rfl
theorem dX1_rule_0 : decode cX1_rule 0 = .ok (.aload_n 0, 1) := dk_42 (dk_at dksX1_rule_0 0 rfl rfl)
theorem dX1_rule_1 : decode cX1_rule 1 = .ok (.iload_n 1, 1) := dk_27 (dk_at dksX1_rule_0 1 rfl rfl)
theorem dX1_rule_2 : decode cX1_rule 2 = .ok (.invokevirtual 183, 3) := dk_182 0 183 (dk_at dksX1_rule_0 2 rfl rfl)
theorem dX1_rule_5 : decode cX1_rule 5 = .ok (.astore 7, 2) := dk_58 7 (dk_at dksX1_rule_0 5 rfl rfl)
theorem dX1_rule_7 : decode cX1_rule 7 = .ok (.aload 7, 2) := dk_25 7 (dk_at dksX1_rule_0 7 rfl rfl)
theorem dX1_rule_9 : decode cX1_rule 9 = .ok (.iload_n 2, 1) := dk_28 (dk_at dksX1_rule_0 9 rfl rfl)
theorem dX1_rule_10 : decode cX1_rule 10 = .ok (.invokestatic 133, 3) := dk_184 0 133 (dk_at dksX1_rule_0 10 rfl rfl)
theorem dX1_rule_13 : decode cX1_rule 13 = .ok (.astore 8, 2) := dk_58 8 (dk_at dksX1_rule_0 13 rfl rfl)
theorem dX1_rule_15 : decode cX1_rule 15 = .ok (.iload_n 3, 1) := dk_29 (dk_at dksX1_rule_0 15 rfl rfl)
theorem dX1_rule_16 : decode cX1_rule 16 = .ok (.bipush 100, 2) := dk_16 100 (dk_at dksX1_rule_0 16 rfl rfl)
theorem dX1_rule_18 : decode cX1_rule 18 = .ok (.if_icmp .lt 16, 3) := dk_161 0 16 (dk_at dksX1_rule_0 18 rfl rfl)
theorem dX1_rule_21 : decode cX1_rule 21 = .ok (.aload 7, 2) := dk_25 7 (dk_at dksX1_rule_0 21 rfl rfl)
theorem dX1_rule_23 : decode cX1_rule 23 = .ok (.iload_n 3, 1) := dk_29 (dk_at dksX1_rule_0 23 rfl rfl)
theorem dX1_rule_24 : decode cX1_rule 24 = .ok (.bipush 100, 2) := dk_16 100 (dk_at dksX1_rule_1 0 rfl rfl)
theorem dX1_rule_26 : decode cX1_rule 26 = .ok (.isub, 1) := dk_100 (dk_at dksX1_rule_1 2 rfl rfl)
theorem dX1_rule_27 : decode cX1_rule 27 = .ok (.invokestatic 133, 3) := dk_184 0 133 (dk_at dksX1_rule_1 3 rfl rfl)
theorem dX1_rule_30 : decode cX1_rule 30 = .ok (.pop, 1) := dk_87 (dk_at dksX1_rule_1 6 rfl rfl)
theorem dX1_rule_31 : decode cX1_rule 31 = .ok (.goto 18, 3) := dk_167 0 18 (dk_at dksX1_rule_1 7 rfl rfl)
theorem dX1_rule_34 : decode cX1_rule 34 = .ok (.iload_n 3, 1) := dk_29 (dk_at dksX1_rule_1 10 rfl rfl)
theorem dX1_rule_35 : decode cX1_rule 35 = .ok (.iconst (-1), 1) := dk_2 (dk_at dksX1_rule_1 11 rfl rfl)
theorem dX1_rule_36 : decode cX1_rule 36 = .ok (.if_icmp .eq 13, 3) := dk_159 0 13 (dk_at dksX1_rule_1 12 rfl rfl)
theorem dX1_rule_39 : decode cX1_rule 39 = .ok (.iload_n 3, 1) := dk_29 (dk_at dksX1_rule_1 15 rfl rfl)
theorem dX1_rule_40 : decode cX1_rule 40 = .ok (.bipush 6, 2) := dk_16 6 (dk_at dksX1_rule_1 16 rfl rfl)
theorem dX1_rule_42 : decode cX1_rule 42 = .ok (.ldc_w 355, 3) := dk_19 1 99 (dk_at dksX1_rule_1 18 rfl rfl)
theorem dX1_rule_45 : decode cX1_rule 45 = .ok (.invokestatic 109, 3) := dk_184 0 109 (dk_at dksX1_rule_1 21 rfl rfl)
theorem dX1_rule_48 : decode cX1_rule 48 = .ok (.pop, 1) := dk_87 (dk_at dksX1_rule_2 0 rfl rfl)
theorem dX1_rule_49 : decode cX1_rule 49 = .ok (.iload 4, 2) := dk_21 4 (dk_at dksX1_rule_2 1 rfl rfl)
theorem dX1_rule_51 : decode cX1_rule 51 = .ok (.iconst 3, 1) := dk_6 (dk_at dksX1_rule_2 3 rfl rfl)
theorem dX1_rule_52 : decode cX1_rule 52 = .ok (.ldc_w 357, 3) := dk_19 1 101 (dk_at dksX1_rule_2 4 rfl rfl)
theorem dX1_rule_55 : decode cX1_rule 55 = .ok (.invokestatic 109, 3) := dk_184 0 109 (dk_at dksX1_rule_2 7 rfl rfl)
theorem dX1_rule_58 : decode cX1_rule 58 = .ok (.pop, 1) := dk_87 (dk_at dksX1_rule_2 10 rfl rfl)
theorem dX1_rule_59 : decode cX1_rule 59 = .ok (.iload 5, 2) := dk_21 5 (dk_at dksX1_rule_2 11 rfl rfl)
theorem dX1_rule_61 : decode cX1_rule 61 = .ok (.iconst 2, 1) := dk_5 (dk_at dksX1_rule_2 13 rfl rfl)
theorem dX1_rule_62 : decode cX1_rule 62 = .ok (.ldc_w 359, 3) := dk_19 1 103 (dk_at dksX1_rule_2 14 rfl rfl)
theorem dX1_rule_65 : decode cX1_rule 65 = .ok (.invokestatic 109, 3) := dk_184 0 109 (dk_at dksX1_rule_2 17 rfl rfl)
theorem dX1_rule_68 : decode cX1_rule 68 = .ok (.pop, 1) := dk_87 (dk_at dksX1_rule_2 20 rfl rfl)
theorem dX1_rule_69 : decode cX1_rule 69 = .ok (.iload 6, 2) := dk_21 6 (dk_at dksX1_rule_2 21 rfl rfl)
theorem dX1_rule_71 : decode cX1_rule 71 = .ok (.iconst 0, 1) := dk_3 (dk_at dksX1_rule_2 23 rfl rfl)
theorem dX1_rule_72 : decode cX1_rule 72 = .ok (.iconst 2, 1) := dk_5 (dk_at dksX1_rule_3 0 rfl rfl)
theorem dX1_rule_73 : decode cX1_rule 73 = .ok (.invokestatic 195, 3) := dk_184 0 195 (dk_at dksX1_rule_3 1 rfl rfl)
theorem dX1_rule_76 : decode cX1_rule 76 = .ok (.aload_n 0, 1) := dk_42 (dk_at dksX1_rule_3 4 rfl rfl)
theorem dX1_rule_77 : decode cX1_rule 77 = .ok (.aload 7, 2) := dk_25 7 (dk_at dksX1_rule_3 5 rfl rfl)
theorem dX1_rule_79 : decode cX1_rule 79 = .ok (.iload_n 2, 1) := dk_28 (dk_at dksX1_rule_3 7 rfl rfl)
theorem dX1_rule_80 : decode cX1_rule 80 = .ok (.invokevirtual 249, 3) := dk_182 0 249 (dk_at dksX1_rule_3 8 rfl rfl)
theorem dX1_rule_83 : decode cX1_rule 83 = .ok (.iload_n 3, 1) := dk_29 (dk_at dksX1_rule_3 11 rfl rfl)
theorem dX1_rule_84 : decode cX1_rule 84 = .ok (.iload 4, 2) := dk_21 4 (dk_at dksX1_rule_3 12 rfl rfl)
theorem dX1_rule_86 : decode cX1_rule 86 = .ok (.iload 5, 2) := dk_21 5 (dk_at dksX1_rule_3 14 rfl rfl)
theorem dX1_rule_88 : decode cX1_rule 88 = .ok (.invokestatic 361, 3) := dk_184 1 105 (dk_at dksX1_rule_3 16 rfl rfl)
theorem dX1_rule_91 : decode cX1_rule 91 = .ok (.istore 9, 2) := dk_54 9 (dk_at dksX1_rule_3 19 rfl rfl)
theorem dX1_rule_93 : decode cX1_rule 93 = .ok (.aload 8, 2) := dk_25 8 (dk_at dksX1_rule_3 21 rfl rfl)
theorem dX1_rule_95 : decode cX1_rule 95 = .ok (.iload 9, 2) := dk_21 9 (dk_at dksX1_rule_4 0 rfl rfl)
theorem dX1_rule_97 : decode cX1_rule 97 = .ok (.invokevirtual 365, 3) := dk_182 1 109 (dk_at dksX1_rule_4 2 rfl rfl)
theorem dX1_rule_100 : decode cX1_rule 100 = .ok (.istore 10, 2) := dk_54 10 (dk_at dksX1_rule_4 5 rfl rfl)
theorem dX1_rule_102 : decode cX1_rule 102 = .ok (.aload_n 0, 1) := dk_42 (dk_at dksX1_rule_4 7 rfl rfl)
theorem dX1_rule_103 : decode cX1_rule 103 = .ok (.aload 7, 2) := dk_25 7 (dk_at dksX1_rule_4 8 rfl rfl)
theorem dX1_rule_105 : decode cX1_rule 105 = .ok (.getstatic 368, 3) := dk_178 1 112 (dk_at dksX1_rule_4 10 rfl rfl)
theorem dX1_rule_108 : decode cX1_rule 108 = .ok (.iload_n 2, 1) := dk_28 (dk_at dksX1_rule_4 13 rfl rfl)
theorem dX1_rule_109 : decode cX1_rule 109 = .ok (.iload 9, 2) := dk_21 9 (dk_at dksX1_rule_4 14 rfl rfl)
theorem dX1_rule_111 : decode cX1_rule 111 = .ok (.iload 6, 2) := dk_21 6 (dk_at dksX1_rule_4 16 rfl rfl)
theorem dX1_rule_113 : decode cX1_rule 113 = .ok (.invokevirtual 296, 3) := dk_182 1 40 (dk_at dksX1_rule_4 18 rfl rfl)
theorem dX1_rule_116 : decode cX1_rule 116 = .ok (.iload 10, 2) := dk_21 10 (dk_at dksX1_rule_4 21 rfl rfl)
theorem dX1_rule_118 : decode cX1_rule 118 = .ok (.ireturn, 1) := dk_172 (dk_at dksX1_rule_4 23 rfl rfl)
def fX1_rule_b49 (e : Nat → Nat) (N : Nat) (m : Mm) (v0 : Option Nat) (v2 : Int32) (v3 : Int32) (v4 : Int32) (v5 : Int32) (v6 : Int32) (v7 : Option Nat) (v8 : Option Nat) : Rs (Int32 ⊕ Nat) := bd_ (fX1_place e N m v4 3 (some (e (100 + 30)))) (xf_ (fun x1 m1 => bd_ (fX1_place e N m1 v5 2 (some (e (100 + 31)))) (xf_ (fun x2 m2 => bd_ (fX1_isWithin e N m2 v6 0 2) (xf_ (fun _ m3 => ck_ m3 v0 1 (bd_ (fX1_mayWrite e N m3 v0 v7 v2) (xf_ (fun _ m4 => bd_ (fX1_ruleOf e N m4 v3 v4 v5) (fun x3 m5 => ck_ m5 v8 3 (bd_ (fX3_says e N m5 v8 x3) (fun x4 m6 => ck_ m6 v0 1 (bd_ (fX1_makes_2 e N m6 v0 v7 (some (e 12)) v2 x3 v6) (fun _ m7 => rt_ (.inl x4) m7))))))))))))))
def fX1_rule (e : Nat → Nat) (N : Nat) (m : Mm) (v0 : Option Nat) (v1 : Int32) (v2 : Int32) (v3 : Int32) (v4 : Int32) (v5 : Int32) (v6 : Int32) : Rs (Int32 ⊕ Nat) := ck_ m v0 1 (bd_ (fX1_at e N m v0 v1) (xf_ (fun x1 m1 => bd_ (fX1_liveAt e N m1 x1 v2) (xf_ (fun x2 m2 => if v3 < 100 then (if v3 = (-1) then (fX1_rule_b49 e N m2 v0 v2 v3 v4 v5 v6 x1 x2) else (bd_ (fX1_place e N m2 v3 6 (some (e (100 + 29)))) (xf_ (fun x3 m3 => fX1_rule_b49 e N m3 v0 v2 v3 v4 v5 v6 x1 x2)))) else (bd_ (fX1_liveAt e N m2 x1 (v3 - 100)) (xf_ (fun x4 m4 => fX1_rule_b49 e N m4 v0 v2 v3 v4 v5 v6 x1 x2))))))))
abbrev cX0_rule : ByteArray := method_15_code
def yX0_rule : MethodName := ⟨RX0, "rule", "(LMasterTree;IIIIII[J)I"⟩
def dkwX0_rule_1 : List UInt8 := [172, 58, 8, 5, 172, 58, 8, 6, 172, 3, 172]
abbrev dktX0_rule_1 : List UInt8 := dkwX0_rule_1 ++ []
def dkwX0_rule_0 : List UInt8 := [25, 7, 3, 42, 27, 28, 29, 21, 4, 21, 5, 21, 6, 182, 0, 55, 133, 80, 167, 0, 15, 58, 8, 4]
abbrev dktX0_rule_0 : List UInt8 := dkwX0_rule_0 ++ dktX0_rule_1
theorem dksX0_rule_0 : cX0_rule.data.toList.drop 0 = dktX0_rule_0 := by decide +kernel
theorem dksX0_rule_1 : cX0_rule.data.toList.drop 24 = dktX0_rule_1 := dk_seg dksX0_rule_0 24 rfl rfl
theorem dX0_rule_0 : decode cX0_rule 0 = .ok (.aload 7, 2) := dk_25 7 (dk_at dksX0_rule_0 0 rfl rfl)
theorem dX0_rule_2 : decode cX0_rule 2 = .ok (.iconst 0, 1) := dk_3 (dk_at dksX0_rule_0 2 rfl rfl)
theorem dX0_rule_3 : decode cX0_rule 3 = .ok (.aload_n 0, 1) := dk_42 (dk_at dksX0_rule_0 3 rfl rfl)
theorem dX0_rule_4 : decode cX0_rule 4 = .ok (.iload_n 1, 1) := dk_27 (dk_at dksX0_rule_0 4 rfl rfl)
theorem dX0_rule_5 : decode cX0_rule 5 = .ok (.iload_n 2, 1) := dk_28 (dk_at dksX0_rule_0 5 rfl rfl)
theorem dX0_rule_6 : decode cX0_rule 6 = .ok (.iload_n 3, 1) := dk_29 (dk_at dksX0_rule_0 6 rfl rfl)
theorem dX0_rule_7 : decode cX0_rule 7 = .ok (.iload 4, 2) := dk_21 4 (dk_at dksX0_rule_0 7 rfl rfl)
theorem dX0_rule_9 : decode cX0_rule 9 = .ok (.iload 5, 2) := dk_21 5 (dk_at dksX0_rule_0 9 rfl rfl)
theorem dX0_rule_11 : decode cX0_rule 11 = .ok (.iload 6, 2) := dk_21 6 (dk_at dksX0_rule_0 11 rfl rfl)
theorem dX0_rule_13 : decode cX0_rule 13 = .ok (.invokevirtual 55, 3) := dk_182 0 55 (dk_at dksX0_rule_0 13 rfl rfl)
theorem dX0_rule_16 : decode cX0_rule 16 = .ok (.i2l, 1) := dk_133 (dk_at dksX0_rule_0 16 rfl rfl)
theorem dX0_rule_17 : decode cX0_rule 17 = .ok (.lastore, 1) := dk_80 (dk_at dksX0_rule_0 17 rfl rfl)
theorem dX0_rule_18 : decode cX0_rule 18 = .ok (.goto 15, 3) := dk_167 0 15 (dk_at dksX0_rule_0 18 rfl rfl)
theorem dX0_rule_21 : decode cX0_rule 21 = .ok (.astore 8, 2) := dk_58 8 (dk_at dksX0_rule_0 21 rfl rfl)
theorem dX0_rule_23 : decode cX0_rule 23 = .ok (.iconst 1, 1) := dk_4 (dk_at dksX0_rule_0 23 rfl rfl)
theorem dX0_rule_24 : decode cX0_rule 24 = .ok (.ireturn, 1) := dk_172 (dk_at dksX0_rule_1 0 rfl rfl)
theorem dX0_rule_25 : decode cX0_rule 25 = .ok (.astore 8, 2) := dk_58 8 (dk_at dksX0_rule_1 1 rfl rfl)
theorem dX0_rule_27 : decode cX0_rule 27 = .ok (.iconst 2, 1) := dk_5 (dk_at dksX0_rule_1 3 rfl rfl)
theorem dX0_rule_28 : decode cX0_rule 28 = .ok (.ireturn, 1) := dk_172 (dk_at dksX0_rule_1 4 rfl rfl)
theorem dX0_rule_29 : decode cX0_rule 29 = .ok (.astore 8, 2) := dk_58 8 (dk_at dksX0_rule_1 5 rfl rfl)
theorem dX0_rule_31 : decode cX0_rule 31 = .ok (.iconst 3, 1) := dk_6 (dk_at dksX0_rule_1 7 rfl rfl)
theorem dX0_rule_32 : decode cX0_rule 32 = .ok (.ireturn, 1) := dk_172 (dk_at dksX0_rule_1 8 rfl rfl)
theorem dX0_rule_33 : decode cX0_rule 33 = .ok (.iconst 0, 1) := dk_3 (dk_at dksX0_rule_1 9 rfl rfl)
theorem dX0_rule_34 : decode cX0_rule 34 = .ok (.ireturn, 1) := dk_172 (dk_at dksX0_rule_1 10 rfl rfl)
def fX0_rule (e : Nat → Nat) (N : Nat) (m : Mm) (v0 : Option Nat) (v1 : Int32) (v2 : Int32) (v3 : Int32) (v4 : Int32) (v5 : Int32) (v6 : Int32) (v7 : Option Nat) : Rs (Int32) := ck_ m v0 1 (bd_ (fX1_rule e N m v0 v1 v2 v3 v4 v5 v6) (ch_ (fun x1 m1 => bj_ m1 v7 203 0 ((x1 : Int32).toInt64) (fun m2 => rt_ 0 m2)) (fun i_ m0 => if i_ = 0 then rt_ 1 m0 else if i_ = 1 then rt_ 2 m0 else if i_ = 2 then rt_ 3 m0 else none)))
abbrev cX1_tells : ByteArray := prog_1_method_33_code
def yX1_tells : MethodName := ⟨RX1, "tells", "(LMasterTree$Master;LMasterTree$Master;)V"⟩
def dkwX1_tells_4 : List UInt8 := [132, 3, 1, 167, 255, 169, 132, 2, 1, 167, 255, 156, 177]
abbrev dktX1_tells_4 : List UInt8 := dkwX1_tells_4 ++ []
def dkwX1_tells_3 : List UInt8 := [28, 43, 180, 0, 125, 160, 0, 14, 43, 180, 0, 218, 28, 50, 29, 46, 167, 0, 5, 21, 4, 79]
abbrev dktX1_tells_3 : List UInt8 := dkwX1_tells_3 ++ dktX1_tells_4
def dkwX1_tells_2 : List UInt8 := [160, 0, 14, 42, 180, 0, 218, 28, 50, 29, 46, 167, 0, 5, 21, 4, 79, 43, 180, 0, 218, 28, 50, 29]
abbrev dktX1_tells_2 : List UInt8 := dkwX1_tells_2 ++ dktX1_tells_3
def dkwX1_tells_1 : List UInt8 := [180, 0, 218, 28, 50, 29, 46, 184, 1, 115, 54, 4, 42, 180, 0, 218, 28, 50, 29, 28, 42, 180, 0, 125]
abbrev dktX1_tells_1 : List UInt8 := dkwX1_tells_1 ++ dktX1_tells_2
def dkwX1_tells_0 : List UInt8 := [3, 61, 28, 7, 162, 0, 101, 3, 62, 29, 7, 162, 0, 88, 42, 180, 0, 218, 28, 50, 29, 46, 43]
abbrev dktX1_tells_0 : List UInt8 := dkwX1_tells_0 ++ dktX1_tells_1
theorem dksX1_tells_0 : cX1_tells.data.toList.drop 0 = dktX1_tells_0 := by decide +kernel
theorem dksX1_tells_1 : cX1_tells.data.toList.drop 23 = dktX1_tells_1 := dk_seg dksX1_tells_0 23 rfl rfl
theorem dksX1_tells_2 : cX1_tells.data.toList.drop 47 = dktX1_tells_2 := dk_seg dksX1_tells_1 24 rfl rfl
theorem dksX1_tells_3 : cX1_tells.data.toList.drop 71 = dktX1_tells_3 := dk_seg dksX1_tells_2 24 rfl rfl
theorem dksX1_tells_4 : cX1_tells.data.toList.drop 93 = dktX1_tells_4 := dk_seg dksX1_tells_3 22 rfl rfl
theorem dX1_tells_0 : decode cX1_tells 0 = .ok (.iconst 0, 1) := dk_3 (dk_at dksX1_tells_0 0 rfl rfl)
theorem dX1_tells_1 : decode cX1_tells 1 = .ok (.istore_n 2, 1) := dk_61 (dk_at dksX1_tells_0 1 rfl rfl)
theorem dX1_tells_2 : decode cX1_tells 2 = .ok (.iload_n 2, 1) := dk_28 (dk_at dksX1_tells_0 2 rfl rfl)
theorem dX1_tells_3 : decode cX1_tells 3 = .ok (.iconst 4, 1) := dk_7 (dk_at dksX1_tells_0 3 rfl rfl)
theorem dX1_tells_4 : decode cX1_tells 4 = .ok (.if_icmp .ge 101, 3) := dk_162 0 101 (dk_at dksX1_tells_0 4 rfl rfl)
theorem dX1_tells_7 : decode cX1_tells 7 = .ok (.iconst 0, 1) := dk_3 (dk_at dksX1_tells_0 7 rfl rfl)
theorem dX1_tells_8 : decode cX1_tells 8 = .ok (.istore_n 3, 1) := dk_62 (dk_at dksX1_tells_0 8 rfl rfl)
theorem dX1_tells_9 : decode cX1_tells 9 = .ok (.iload_n 3, 1) := dk_29 (dk_at dksX1_tells_0 9 rfl rfl)
theorem dX1_tells_10 : decode cX1_tells 10 = .ok (.iconst 4, 1) := dk_7 (dk_at dksX1_tells_0 10 rfl rfl)
theorem dX1_tells_11 : decode cX1_tells 11 = .ok (.if_icmp .ge 88, 3) := dk_162 0 88 (dk_at dksX1_tells_0 11 rfl rfl)
theorem dX1_tells_14 : decode cX1_tells 14 = .ok (.aload_n 0, 1) := dk_42 (dk_at dksX1_tells_0 14 rfl rfl)
theorem dX1_tells_15 : decode cX1_tells 15 = .ok (.getfield 218, 3) := dk_180 0 218 (dk_at dksX1_tells_0 15 rfl rfl)
theorem dX1_tells_18 : decode cX1_tells 18 = .ok (.iload_n 2, 1) := dk_28 (dk_at dksX1_tells_0 18 rfl rfl)
theorem dX1_tells_19 : decode cX1_tells 19 = .ok (.aaload, 1) := dk_50 (dk_at dksX1_tells_0 19 rfl rfl)
theorem dX1_tells_20 : decode cX1_tells 20 = .ok (.iload_n 3, 1) := dk_29 (dk_at dksX1_tells_0 20 rfl rfl)
theorem dX1_tells_21 : decode cX1_tells 21 = .ok (.iaload, 1) := dk_46 (dk_at dksX1_tells_0 21 rfl rfl)
theorem dX1_tells_22 : decode cX1_tells 22 = .ok (.aload_n 1, 1) := dk_43 (dk_at dksX1_tells_0 22 rfl rfl)
theorem dX1_tells_23 : decode cX1_tells 23 = .ok (.getfield 218, 3) := dk_180 0 218 (dk_at dksX1_tells_1 0 rfl rfl)
theorem dX1_tells_26 : decode cX1_tells 26 = .ok (.iload_n 2, 1) := dk_28 (dk_at dksX1_tells_1 3 rfl rfl)
theorem dX1_tells_27 : decode cX1_tells 27 = .ok (.aaload, 1) := dk_50 (dk_at dksX1_tells_1 4 rfl rfl)
theorem dX1_tells_28 : decode cX1_tells 28 = .ok (.iload_n 3, 1) := dk_29 (dk_at dksX1_tells_1 5 rfl rfl)
theorem dX1_tells_29 : decode cX1_tells 29 = .ok (.iaload, 1) := dk_46 (dk_at dksX1_tells_1 6 rfl rfl)
theorem dX1_tells_30 : decode cX1_tells 30 = .ok (.invokestatic 371, 3) := dk_184 1 115 (dk_at dksX1_tells_1 7 rfl rfl)
theorem dX1_tells_33 : decode cX1_tells 33 = .ok (.istore 4, 2) := dk_54 4 (dk_at dksX1_tells_1 10 rfl rfl)
theorem dX1_tells_35 : decode cX1_tells 35 = .ok (.aload_n 0, 1) := dk_42 (dk_at dksX1_tells_1 12 rfl rfl)
theorem dX1_tells_36 : decode cX1_tells 36 = .ok (.getfield 218, 3) := dk_180 0 218 (dk_at dksX1_tells_1 13 rfl rfl)
theorem dX1_tells_39 : decode cX1_tells 39 = .ok (.iload_n 2, 1) := dk_28 (dk_at dksX1_tells_1 16 rfl rfl)
theorem dX1_tells_40 : decode cX1_tells 40 = .ok (.aaload, 1) := dk_50 (dk_at dksX1_tells_1 17 rfl rfl)
theorem dX1_tells_41 : decode cX1_tells 41 = .ok (.iload_n 3, 1) := dk_29 (dk_at dksX1_tells_1 18 rfl rfl)
theorem dX1_tells_42 : decode cX1_tells 42 = .ok (.iload_n 2, 1) := dk_28 (dk_at dksX1_tells_1 19 rfl rfl)
theorem dX1_tells_43 : decode cX1_tells 43 = .ok (.aload_n 0, 1) := dk_42 (dk_at dksX1_tells_1 20 rfl rfl)
theorem dX1_tells_44 : decode cX1_tells 44 = .ok (.getfield 125, 3) := dk_180 0 125 (dk_at dksX1_tells_1 21 rfl rfl)
theorem dX1_tells_47 : decode cX1_tells 47 = .ok (.if_icmp .ne 14, 3) := dk_160 0 14 (dk_at dksX1_tells_2 0 rfl rfl)
theorem dX1_tells_50 : decode cX1_tells 50 = .ok (.aload_n 0, 1) := dk_42 (dk_at dksX1_tells_2 3 rfl rfl)
theorem dX1_tells_51 : decode cX1_tells 51 = .ok (.getfield 218, 3) := dk_180 0 218 (dk_at dksX1_tells_2 4 rfl rfl)
theorem dX1_tells_54 : decode cX1_tells 54 = .ok (.iload_n 2, 1) := dk_28 (dk_at dksX1_tells_2 7 rfl rfl)
theorem dX1_tells_55 : decode cX1_tells 55 = .ok (.aaload, 1) := dk_50 (dk_at dksX1_tells_2 8 rfl rfl)
theorem dX1_tells_56 : decode cX1_tells 56 = .ok (.iload_n 3, 1) := dk_29 (dk_at dksX1_tells_2 9 rfl rfl)
theorem dX1_tells_57 : decode cX1_tells 57 = .ok (.iaload, 1) := dk_46 (dk_at dksX1_tells_2 10 rfl rfl)
theorem dX1_tells_58 : decode cX1_tells 58 = .ok (.goto 5, 3) := dk_167 0 5 (dk_at dksX1_tells_2 11 rfl rfl)
theorem dX1_tells_61 : decode cX1_tells 61 = .ok (.iload 4, 2) := dk_21 4 (dk_at dksX1_tells_2 14 rfl rfl)
theorem dX1_tells_63 : decode cX1_tells 63 = .ok (.iastore, 1) := dk_79 (dk_at dksX1_tells_2 16 rfl rfl)
theorem dX1_tells_64 : decode cX1_tells 64 = .ok (.aload_n 1, 1) := dk_43 (dk_at dksX1_tells_2 17 rfl rfl)
theorem dX1_tells_65 : decode cX1_tells 65 = .ok (.getfield 218, 3) := dk_180 0 218 (dk_at dksX1_tells_2 18 rfl rfl)
theorem dX1_tells_68 : decode cX1_tells 68 = .ok (.iload_n 2, 1) := dk_28 (dk_at dksX1_tells_2 21 rfl rfl)
theorem dX1_tells_69 : decode cX1_tells 69 = .ok (.aaload, 1) := dk_50 (dk_at dksX1_tells_2 22 rfl rfl)
theorem dX1_tells_70 : decode cX1_tells 70 = .ok (.iload_n 3, 1) := dk_29 (dk_at dksX1_tells_2 23 rfl rfl)
theorem dX1_tells_71 : decode cX1_tells 71 = .ok (.iload_n 2, 1) := dk_28 (dk_at dksX1_tells_3 0 rfl rfl)
theorem dX1_tells_72 : decode cX1_tells 72 = .ok (.aload_n 1, 1) := dk_43 (dk_at dksX1_tells_3 1 rfl rfl)
theorem dX1_tells_73 : decode cX1_tells 73 = .ok (.getfield 125, 3) := dk_180 0 125 (dk_at dksX1_tells_3 2 rfl rfl)
theorem dX1_tells_76 : decode cX1_tells 76 = .ok (.if_icmp .ne 14, 3) := dk_160 0 14 (dk_at dksX1_tells_3 5 rfl rfl)
theorem dX1_tells_79 : decode cX1_tells 79 = .ok (.aload_n 1, 1) := dk_43 (dk_at dksX1_tells_3 8 rfl rfl)
theorem dX1_tells_80 : decode cX1_tells 80 = .ok (.getfield 218, 3) := dk_180 0 218 (dk_at dksX1_tells_3 9 rfl rfl)
theorem dX1_tells_83 : decode cX1_tells 83 = .ok (.iload_n 2, 1) := dk_28 (dk_at dksX1_tells_3 12 rfl rfl)
theorem dX1_tells_84 : decode cX1_tells 84 = .ok (.aaload, 1) := dk_50 (dk_at dksX1_tells_3 13 rfl rfl)
theorem dX1_tells_85 : decode cX1_tells 85 = .ok (.iload_n 3, 1) := dk_29 (dk_at dksX1_tells_3 14 rfl rfl)
theorem dX1_tells_86 : decode cX1_tells 86 = .ok (.iaload, 1) := dk_46 (dk_at dksX1_tells_3 15 rfl rfl)
theorem dX1_tells_87 : decode cX1_tells 87 = .ok (.goto 5, 3) := dk_167 0 5 (dk_at dksX1_tells_3 16 rfl rfl)
theorem dX1_tells_90 : decode cX1_tells 90 = .ok (.iload 4, 2) := dk_21 4 (dk_at dksX1_tells_3 19 rfl rfl)
theorem dX1_tells_92 : decode cX1_tells 92 = .ok (.iastore, 1) := dk_79 (dk_at dksX1_tells_3 21 rfl rfl)
theorem dX1_tells_93 : decode cX1_tells 93 = .ok (.iinc 3 1, 3) := dk_132 3 1 (dk_at dksX1_tells_4 0 rfl rfl)
theorem dX1_tells_96 : decode cX1_tells 96 = .ok (.goto (-87), 3) := dk_167 255 169 (dk_at dksX1_tells_4 3 rfl rfl)
theorem dX1_tells_99 : decode cX1_tells 99 = .ok (.iinc 2 1, 3) := dk_132 2 1 (dk_at dksX1_tells_4 6 rfl rfl)
theorem dX1_tells_102 : decode cX1_tells 102 = .ok (.goto (-100), 3) := dk_167 255 156 (dk_at dksX1_tells_4 9 rfl rfl)
theorem dX1_tells_105 : decode cX1_tells 105 = .ok (.return_, 1) := dk_177 (dk_at dksX1_tells_4 12 rfl rfl)
def fX1_tells_b92 (e : Nat → Nat) (N : Nat) (k9 : Mm → Option Nat → Option Nat → Int32 → Int32 → Rs (Unit)) (m : Mm) (v0 : Option Nat) (v1 : Option Nat) (v2 : Int32) (v3 : Int32) (s0 : Option Nat) (s1 : Int32) (s2 : Int32) : Rs (Unit) := bi_ m s0 200 s1 s2 (fun m1 => k9 m1 v0 v1 v2 (v3 + 1))
def fX1_tells_b63 (e : Nat → Nat) (N : Nat) (k9 : Mm → Option Nat → Option Nat → Int32 → Int32 → Rs (Unit)) (m : Mm) (v0 : Option Nat) (v1 : Option Nat) (v2 : Int32) (v3 : Int32) (v4 : Int32) (s0 : Option Nat) (s1 : Int32) (s2 : Int32) : Rs (Unit) := bi_ m s0 200 s1 s2 (fun m1 => gr_ m1 v1 2 8 (fun x1 => ar_ m1 x1 206 v2 (fun x2 => gi_ m1 v1 2 0 (fun x3 => if v2 = x3 then (gr_ m1 v1 2 8 (fun x4 => ar_ m1 x4 206 v2 (fun x5 => ai_ m1 x5 200 v3 (fun x6 => fX1_tells_b92 e N k9 m1 v0 v1 v2 v3 x2 v3 x6)))) else (fX1_tells_b92 e N k9 m1 v0 v1 v2 v3 x2 v3 v4)))))
def fX1_tells_b9 (e : Nat → Nat) (N : Nat) (k2 : Mm → Option Nat → Option Nat → Int32 → Rs (Unit)) : Nat → Mm → Option Nat → Option Nat → Int32 → Int32 → Rs (Unit)
  | 0, _, _, _, _, _ => none
  | F + 1, m, v0, v1, v2, v3 => if v3 < 4 then (gr_ m v0 2 8 (fun x1 => ar_ m x1 206 v2 (fun x2 => ai_ m x2 200 v3 (fun x3 => gr_ m v1 2 8 (fun x4 => ar_ m x4 206 v2 (fun x5 => ai_ m x5 200 v3 (fun x6 => gr_ m v0 2 8 (fun x7 => ar_ m x7 206 v2 (fun x8 => gi_ m v0 2 0 (fun x9 => if v2 = x9 then (gr_ m v0 2 8 (fun x10 => ar_ m x10 206 v2 (fun x11 => ai_ m x11 200 v3 (fun x12 => fX1_tells_b63 e N (fX1_tells_b9 e N k2 F) m v0 v1 v2 v3 (if (x3 : Int32) < x6 then x6 else x3) x8 v3 x12)))) else (fX1_tells_b63 e N (fX1_tells_b9 e N k2 F) m v0 v1 v2 v3 (if (x3 : Int32) < x6 then x6 else x3) x8 v3 (if (x3 : Int32) < x6 then x6 else x3)))))))))))) else (k2 m v0 v1 (v2 + 1))
def fX1_tells_b2 (e : Nat → Nat) (N : Nat) : Nat → Mm → Option Nat → Option Nat → Int32 → Rs (Unit)
  | 0, _, _, _, _ => none
  | F + 1, m, v0, v1, v2 => if v2 < 4 then (fX1_tells_b9 e N (fX1_tells_b2 e N F) N m v0 v1 v2 0) else (rt_ () m)
def fX1_tells (e : Nat → Nat) (N : Nat) (m : Mm) (v0 : Option Nat) (v1 : Option Nat) : Rs (Unit) := fX1_tells_b2 e N N m v0 v1 0
abbrev cX1_exchange : ByteArray := prog_1_method_34_code
def yX1_exchange : MethodName := ⟨RX1, "exchange", "(III)I"⟩
def dkwX1_exchange_6 : List UInt8 := [25, 4, 25, 5, 184, 1, 128, 21, 6, 172]
abbrev dktX1_exchange_6 : List UInt8 := dkwX1_exchange_6 ++ []
def dkwX1_exchange_5 : List UInt8 := [180, 1, 126, 46, 161, 0, 13, 25, 5, 25, 8, 182, 0, 225, 132, 6, 1, 132, 7, 1, 167, 255, 184]
abbrev dktX1_exchange_5 : List UInt8 := dkwX1_exchange_5 ++ dktX1_exchange_6
def dkwX1_exchange_4 : List UInt8 := [185, 0, 113, 2, 0, 192, 0, 19, 58, 8, 25, 8, 180, 1, 125, 25, 5, 180, 0, 218, 28, 50, 25, 8]
abbrev dktX1_exchange_4 : List UInt8 := dkwX1_exchange_4 ++ dktX1_exchange_5
def dkwX1_exchange_3 : List UInt8 := [185, 0, 137, 1, 0, 162, 0, 63, 21, 6, 29, 162, 0, 57, 25, 4, 180, 1, 122, 21, 7]
abbrev dktX1_exchange_3 : List UInt8 := dkwX1_exchange_3 ++ dktX1_exchange_4
def dkwX1_exchange_2 : List UInt8 := [29, 3, 17, 0, 250, 184, 0, 195, 3, 54, 6, 3, 54, 7, 21, 7, 25, 4, 180, 1, 122]
abbrev dktX1_exchange_2 : List UInt8 := dkwX1_exchange_2 ++ dktX1_exchange_3
def dkwX1_exchange_1 : List UInt8 := [187, 0, 86, 89, 183, 0, 88, 19, 1, 120, 182, 0, 91, 27, 182, 0, 97, 182, 0, 100, 183, 0, 155, 191]
abbrev dktX1_exchange_1 : List UInt8 := dkwX1_exchange_1 ++ dktX1_exchange_2
def dkwX1_exchange_0 : List UInt8 := [42, 27, 182, 0, 183, 58, 4, 42, 28, 182, 0, 183, 58, 5, 27, 28, 160, 0, 31, 187, 0, 149, 89]
abbrev dktX1_exchange_0 : List UInt8 := dkwX1_exchange_0 ++ dktX1_exchange_1
theorem dksX1_exchange_0 : cX1_exchange.data.toList.drop 0 = dktX1_exchange_0 := by decide +kernel
theorem dksX1_exchange_1 : cX1_exchange.data.toList.drop 23 = dktX1_exchange_1 := dk_seg dksX1_exchange_0 23 rfl rfl
theorem dksX1_exchange_2 : cX1_exchange.data.toList.drop 47 = dktX1_exchange_2 := dk_seg dksX1_exchange_1 24 rfl rfl
theorem dksX1_exchange_3 : cX1_exchange.data.toList.drop 68 = dktX1_exchange_3 := dk_seg dksX1_exchange_2 21 rfl rfl
theorem dksX1_exchange_4 : cX1_exchange.data.toList.drop 89 = dktX1_exchange_4 := dk_seg dksX1_exchange_3 21 rfl rfl
theorem dksX1_exchange_5 : cX1_exchange.data.toList.drop 113 = dktX1_exchange_5 := dk_seg dksX1_exchange_4 24 rfl rfl
theorem dksX1_exchange_6 : cX1_exchange.data.toList.drop 136 = dktX1_exchange_6 := dk_seg dksX1_exchange_5 23 rfl rfl
theorem dX1_exchange_0 : decode cX1_exchange 0 = .ok (.aload_n 0, 1) := dk_42 (dk_at dksX1_exchange_0 0 rfl rfl)
theorem dX1_exchange_1 : decode cX1_exchange 1 = .ok (.iload_n 1, 1) := dk_27 (dk_at dksX1_exchange_0 1 rfl rfl)
theorem dX1_exchange_2 : decode cX1_exchange 2 = .ok (.invokevirtual 183, 3) := dk_182 0 183 (dk_at dksX1_exchange_0 2 rfl rfl)
theorem dX1_exchange_5 : decode cX1_exchange 5 = .ok (.astore 4, 2) := dk_58 4 (dk_at dksX1_exchange_0 5 rfl rfl)
theorem dX1_exchange_7 : decode cX1_exchange 7 = .ok (.aload_n 0, 1) := dk_42 (dk_at dksX1_exchange_0 7 rfl rfl)
theorem dX1_exchange_8 : decode cX1_exchange 8 = .ok (.iload_n 2, 1) := dk_28 (dk_at dksX1_exchange_0 8 rfl rfl)
theorem dX1_exchange_9 : decode cX1_exchange 9 = .ok (.invokevirtual 183, 3) := dk_182 0 183 (dk_at dksX1_exchange_0 9 rfl rfl)
theorem dX1_exchange_12 : decode cX1_exchange 12 = .ok (.astore 5, 2) := dk_58 5 (dk_at dksX1_exchange_0 12 rfl rfl)
theorem dX1_exchange_14 : decode cX1_exchange 14 = .ok (.iload_n 1, 1) := dk_27 (dk_at dksX1_exchange_0 14 rfl rfl)
theorem dX1_exchange_15 : decode cX1_exchange 15 = .ok (.iload_n 2, 1) := dk_28 (dk_at dksX1_exchange_0 15 rfl rfl)
theorem dX1_exchange_16 : decode cX1_exchange 16 = .ok (.if_icmp .ne 31, 3) := dk_160 0 31 (dk_at dksX1_exchange_0 16 rfl rfl)
theorem dX1_exchange_19 : decode cX1_exchange 19 = .ok (.new 149, 3) := dk_187 0 149 (dk_at dksX1_exchange_0 19 rfl rfl)
theorem dX1_exchange_22 : decode cX1_exchange 22 = .ok (.dup, 1) := dk_89 (dk_at dksX1_exchange_0 22 rfl rfl)
theorem dX1_exchange_23 : decode cX1_exchange 23 = .ok (.new 86, 3) := dk_187 0 86 (dk_at dksX1_exchange_1 0 rfl rfl)
theorem dX1_exchange_26 : decode cX1_exchange 26 = .ok (.dup, 1) := dk_89 (dk_at dksX1_exchange_1 3 rfl rfl)
theorem dX1_exchange_27 : decode cX1_exchange 27 = .ok (.invokespecial 88, 3) := dk_183 0 88 (dk_at dksX1_exchange_1 4 rfl rfl)
theorem dX1_exchange_30 : decode cX1_exchange 30 = .ok (.ldc_w 376, 3) := dk_19 1 120 (dk_at dksX1_exchange_1 7 rfl rfl)
theorem dX1_exchange_33 : decode cX1_exchange 33 = .ok (.invokevirtual 91, 3) := dk_182 0 91 (dk_at dksX1_exchange_1 10 rfl rfl)
theorem dX1_exchange_36 : decode cX1_exchange 36 = .ok (.iload_n 1, 1) := dk_27 (dk_at dksX1_exchange_1 13 rfl rfl)
theorem dX1_exchange_37 : decode cX1_exchange 37 = .ok (.invokevirtual 97, 3) := dk_182 0 97 (dk_at dksX1_exchange_1 14 rfl rfl)
theorem dX1_exchange_40 : decode cX1_exchange 40 = .ok (.invokevirtual 100, 3) := dk_182 0 100 (dk_at dksX1_exchange_1 17 rfl rfl)
theorem dX1_exchange_43 : decode cX1_exchange 43 = .ok (.invokespecial 155, 3) := dk_183 0 155 (dk_at dksX1_exchange_1 20 rfl rfl)
theorem dX1_exchange_46 : decode cX1_exchange 46 = .ok (.athrow, 1) := dk_191 (dk_at dksX1_exchange_1 23 rfl rfl)
theorem dX1_exchange_47 : decode cX1_exchange 47 = .ok (.iload_n 3, 1) := dk_29 (dk_at dksX1_exchange_2 0 rfl rfl)
theorem dX1_exchange_48 : decode cX1_exchange 48 = .ok (.iconst 0, 1) := dk_3 (dk_at dksX1_exchange_2 1 rfl rfl)
theorem dX1_exchange_49 : decode cX1_exchange 49 = .ok (.sipush 250, 3) := dk_17 0 250 (dk_at dksX1_exchange_2 2 rfl rfl)
theorem dX1_exchange_52 : decode cX1_exchange 52 = .ok (.invokestatic 195, 3) := dk_184 0 195 (dk_at dksX1_exchange_2 5 rfl rfl)
theorem dX1_exchange_55 : decode cX1_exchange 55 = .ok (.iconst 0, 1) := dk_3 (dk_at dksX1_exchange_2 8 rfl rfl)
theorem dX1_exchange_56 : decode cX1_exchange 56 = .ok (.istore 6, 2) := dk_54 6 (dk_at dksX1_exchange_2 9 rfl rfl)
theorem dX1_exchange_58 : decode cX1_exchange 58 = .ok (.iconst 0, 1) := dk_3 (dk_at dksX1_exchange_2 11 rfl rfl)
theorem dX1_exchange_59 : decode cX1_exchange 59 = .ok (.istore 7, 2) := dk_54 7 (dk_at dksX1_exchange_2 12 rfl rfl)
theorem dX1_exchange_61 : decode cX1_exchange 61 = .ok (.iload 7, 2) := dk_21 7 (dk_at dksX1_exchange_2 14 rfl rfl)
theorem dX1_exchange_63 : decode cX1_exchange 63 = .ok (.aload 4, 2) := dk_25 4 (dk_at dksX1_exchange_2 16 rfl rfl)
theorem dX1_exchange_65 : decode cX1_exchange 65 = .ok (.getfield 378, 3) := dk_180 1 122 (dk_at dksX1_exchange_2 18 rfl rfl)
theorem dX1_exchange_68 : decode cX1_exchange 68 = .ok (.invokeinterface 137 1, 5) := by decide +kernel
theorem dX1_exchange_73 : decode cX1_exchange 73 = .ok (.if_icmp .ge 63, 3) := dk_162 0 63 (dk_at dksX1_exchange_3 5 rfl rfl)
theorem dX1_exchange_76 : decode cX1_exchange 76 = .ok (.iload 6, 2) := dk_21 6 (dk_at dksX1_exchange_3 8 rfl rfl)
theorem dX1_exchange_78 : decode cX1_exchange 78 = .ok (.iload_n 3, 1) := dk_29 (dk_at dksX1_exchange_3 10 rfl rfl)
theorem dX1_exchange_79 : decode cX1_exchange 79 = .ok (.if_icmp .ge 57, 3) := dk_162 0 57 (dk_at dksX1_exchange_3 11 rfl rfl)
theorem dX1_exchange_82 : decode cX1_exchange 82 = .ok (.aload 4, 2) := dk_25 4 (dk_at dksX1_exchange_3 14 rfl rfl)
theorem dX1_exchange_84 : decode cX1_exchange 84 = .ok (.getfield 378, 3) := dk_180 1 122 (dk_at dksX1_exchange_3 16 rfl rfl)
theorem dX1_exchange_87 : decode cX1_exchange 87 = .ok (.iload 7, 2) := dk_21 7 (dk_at dksX1_exchange_3 19 rfl rfl)
theorem dX1_exchange_89 : decode cX1_exchange 89 = .ok (.invokeinterface 113 2, 5) := by decide +kernel
theorem dX1_exchange_94 : decode cX1_exchange 94 = .ok (.checkcast 19, 3) := dk_192 0 19 (dk_at dksX1_exchange_4 5 rfl rfl)
theorem dX1_exchange_97 : decode cX1_exchange 97 = .ok (.astore 8, 2) := dk_58 8 (dk_at dksX1_exchange_4 8 rfl rfl)
theorem dX1_exchange_99 : decode cX1_exchange 99 = .ok (.aload 8, 2) := dk_25 8 (dk_at dksX1_exchange_4 10 rfl rfl)
theorem dX1_exchange_101 : decode cX1_exchange 101 = .ok (.getfield 381, 3) := dk_180 1 125 (dk_at dksX1_exchange_4 12 rfl rfl)
theorem dX1_exchange_104 : decode cX1_exchange 104 = .ok (.aload 5, 2) := dk_25 5 (dk_at dksX1_exchange_4 15 rfl rfl)
theorem dX1_exchange_106 : decode cX1_exchange 106 = .ok (.getfield 218, 3) := dk_180 0 218 (dk_at dksX1_exchange_4 17 rfl rfl)
theorem dX1_exchange_109 : decode cX1_exchange 109 = .ok (.iload_n 2, 1) := dk_28 (dk_at dksX1_exchange_4 20 rfl rfl)
theorem dX1_exchange_110 : decode cX1_exchange 110 = .ok (.aaload, 1) := dk_50 (dk_at dksX1_exchange_4 21 rfl rfl)
theorem dX1_exchange_111 : decode cX1_exchange 111 = .ok (.aload 8, 2) := dk_25 8 (dk_at dksX1_exchange_4 22 rfl rfl)
theorem dX1_exchange_113 : decode cX1_exchange 113 = .ok (.getfield 382, 3) := dk_180 1 126 (dk_at dksX1_exchange_5 0 rfl rfl)
theorem dX1_exchange_116 : decode cX1_exchange 116 = .ok (.iaload, 1) := dk_46 (dk_at dksX1_exchange_5 3 rfl rfl)
theorem dX1_exchange_117 : decode cX1_exchange 117 = .ok (.if_icmp .lt 13, 3) := dk_161 0 13 (dk_at dksX1_exchange_5 4 rfl rfl)
theorem dX1_exchange_120 : decode cX1_exchange 120 = .ok (.aload 5, 2) := dk_25 5 (dk_at dksX1_exchange_5 7 rfl rfl)
theorem dX1_exchange_122 : decode cX1_exchange 122 = .ok (.aload 8, 2) := dk_25 8 (dk_at dksX1_exchange_5 9 rfl rfl)
theorem dX1_exchange_124 : decode cX1_exchange 124 = .ok (.invokevirtual 225, 3) := dk_182 0 225 (dk_at dksX1_exchange_5 11 rfl rfl)
theorem dX1_exchange_127 : decode cX1_exchange 127 = .ok (.iinc 6 1, 3) := dk_132 6 1 (dk_at dksX1_exchange_5 14 rfl rfl)
theorem dX1_exchange_130 : decode cX1_exchange 130 = .ok (.iinc 7 1, 3) := dk_132 7 1 (dk_at dksX1_exchange_5 17 rfl rfl)
theorem dX1_exchange_133 : decode cX1_exchange 133 = .ok (.goto (-72), 3) := dk_167 255 184 (dk_at dksX1_exchange_5 20 rfl rfl)
theorem dX1_exchange_136 : decode cX1_exchange 136 = .ok (.aload 4, 2) := dk_25 4 (dk_at dksX1_exchange_6 0 rfl rfl)
theorem dX1_exchange_138 : decode cX1_exchange 138 = .ok (.aload 5, 2) := dk_25 5 (dk_at dksX1_exchange_6 2 rfl rfl)
theorem dX1_exchange_140 : decode cX1_exchange 140 = .ok (.invokestatic 384, 3) := dk_184 1 128 (dk_at dksX1_exchange_6 4 rfl rfl)
theorem dX1_exchange_143 : decode cX1_exchange 143 = .ok (.iload 6, 2) := dk_21 6 (dk_at dksX1_exchange_6 7 rfl rfl)
theorem dX1_exchange_145 : decode cX1_exchange 145 = .ok (.ireturn, 1) := dk_172 (dk_at dksX1_exchange_6 9 rfl rfl)
def fX1_exchange_b130 (e : Nat → Nat) (N : Nat) (k61 : Mm → Int32 → Int32 → Option Nat → Option Nat → Int32 → Int32 → Rs (Int32 ⊕ Nat)) (m : Mm) (v2 : Int32) (v3 : Int32) (v4 : Option Nat) (v5 : Option Nat) (v6 : Int32) (v7 : Int32) : Rs (Int32 ⊕ Nat) := k61 m v2 v3 v4 v5 v6 (v7 + 1)
def fX1_exchange_b136 (e : Nat → Nat) (N : Nat) (m : Mm) (v4 : Option Nat) (v5 : Option Nat) (v6 : Int32) : Rs (Int32 ⊕ Nat) := bd_ (fX1_tells e N m v4 v5) (fun _ m1 => rt_ (.inl v6) m1)
def fX1_exchange_b61 (e : Nat → Nat) (N : Nat) : Nat → Mm → Int32 → Int32 → Option Nat → Option Nat → Int32 → Int32 → Rs (Int32 ⊕ Nat)
  | 0, _, _, _, _, _, _, _ => none
  | F + 1, m, v2, v3, v4, v5, v6, v7 => gr_ m v4 2 5 (fun x1 => ck_ m x1 13 (bd_ (fJ2_size e N m x1) (fun x2 m1 => if v7 < x2 then (if v6 < v3 then (gr_ m1 v4 2 5 (fun x3 => ck_ m1 x3 13 (bd_ (fJ2_get e N m1 x3 v7) (fun x4 m2 => cc_ m2 x4 [7] (gi_ m2 x4 7 2 (fun x5 => gr_ m2 v5 2 8 (fun x6 => ar_ m2 x6 206 v2 (fun x7 => gi_ m2 x4 7 1 (fun x8 => ai_ m2 x7 200 x8 (fun x9 => if x5 < x9 then (fX1_exchange_b130 e N (fX1_exchange_b61 e N F) m2 v2 v3 v4 v5 v6 v7) else (ck_ m2 v5 2 (bd_ (fX2_takes e N m2 v5 x4) (fun _ m3 => fX1_exchange_b130 e N (fX1_exchange_b61 e N F) m3 v2 v3 v4 v5 (v6 + 1) v7))))))))))))) else (fX1_exchange_b136 e N m1 v4 v5 v6)) else (fX1_exchange_b136 e N m1 v4 v5 v6))))
def fX1_exchange (e : Nat → Nat) (N : Nat) (m : Mm) (v0 : Option Nat) (v1 : Int32) (v2 : Int32) (v3 : Int32) : Rs (Int32 ⊕ Nat) := ck_ m v0 1 (bd_ (fX1_at e N m v0 v1) (xf_ (fun x1 m1 => ck_ m1 v0 1 (bd_ (fX1_at e N m1 v0 v2) (xf_ (fun x2 m2 => if v1 = v2 then (nx_ m2 1 (fun x3 m3 => nw_ m3 30 4 (fun x4 m4 => bd_ (fJ16_init e N m4 (some x4)) (fun _ m5 => ck_ m5 (some x4) 30 (bd_ (fJ16_append e N m5 (some x4) (some (e (100 + 32)))) (fun x5 m6 => ck_ m6 x5 30 (bd_ (fJ16_append_2 e N m6 x5 v1) (fun x6 m7 => ck_ m7 x6 30 (bd_ (fJ16_toString e N m7 x6) (fun x7 m8 => xi_ m8 x3 1 (fun m9 => at_ m9 (some x3) 1 (.inr 1)))))))))))) else (bd_ (fX1_isWithin e N m2 v3 0 250) (xf_ (fun _ m10 => fX1_exchange_b61 e N N m10 v2 v3 x1 x2 0 0)))))))))
abbrev cX0_exchange : ByteArray := method_16_code
def yX0_exchange : MethodName := ⟨RX0, "exchange", "(LMasterTree;III[J)I"⟩
def dkwX0_exchange_1 : List UInt8 := [172]
abbrev dktX0_exchange_1 : List UInt8 := dkwX0_exchange_1 ++ []
def dkwX0_exchange_0 : List UInt8 := [25, 4, 3, 42, 27, 28, 29, 182, 0, 59, 133, 80, 167, 0, 11, 58, 5, 4, 172, 58, 5, 5, 172, 3]
abbrev dktX0_exchange_0 : List UInt8 := dkwX0_exchange_0 ++ dktX0_exchange_1
theorem dksX0_exchange_0 : cX0_exchange.data.toList.drop 0 = dktX0_exchange_0 := by decide +kernel
theorem dksX0_exchange_1 : cX0_exchange.data.toList.drop 24 = dktX0_exchange_1 := dk_seg dksX0_exchange_0 24 rfl rfl
theorem dX0_exchange_0 : decode cX0_exchange 0 = .ok (.aload 4, 2) := dk_25 4 (dk_at dksX0_exchange_0 0 rfl rfl)
theorem dX0_exchange_2 : decode cX0_exchange 2 = .ok (.iconst 0, 1) := dk_3 (dk_at dksX0_exchange_0 2 rfl rfl)
theorem dX0_exchange_3 : decode cX0_exchange 3 = .ok (.aload_n 0, 1) := dk_42 (dk_at dksX0_exchange_0 3 rfl rfl)
theorem dX0_exchange_4 : decode cX0_exchange 4 = .ok (.iload_n 1, 1) := dk_27 (dk_at dksX0_exchange_0 4 rfl rfl)
theorem dX0_exchange_5 : decode cX0_exchange 5 = .ok (.iload_n 2, 1) := dk_28 (dk_at dksX0_exchange_0 5 rfl rfl)
theorem dX0_exchange_6 : decode cX0_exchange 6 = .ok (.iload_n 3, 1) := dk_29 (dk_at dksX0_exchange_0 6 rfl rfl)
theorem dX0_exchange_7 : decode cX0_exchange 7 = .ok (.invokevirtual 59, 3) := dk_182 0 59 (dk_at dksX0_exchange_0 7 rfl rfl)
theorem dX0_exchange_10 : decode cX0_exchange 10 = .ok (.i2l, 1) := dk_133 (dk_at dksX0_exchange_0 10 rfl rfl)
theorem dX0_exchange_11 : decode cX0_exchange 11 = .ok (.lastore, 1) := dk_80 (dk_at dksX0_exchange_0 11 rfl rfl)
theorem dX0_exchange_12 : decode cX0_exchange 12 = .ok (.goto 11, 3) := dk_167 0 11 (dk_at dksX0_exchange_0 12 rfl rfl)
theorem dX0_exchange_15 : decode cX0_exchange 15 = .ok (.astore 5, 2) := dk_58 5 (dk_at dksX0_exchange_0 15 rfl rfl)
theorem dX0_exchange_17 : decode cX0_exchange 17 = .ok (.iconst 1, 1) := dk_4 (dk_at dksX0_exchange_0 17 rfl rfl)
theorem dX0_exchange_18 : decode cX0_exchange 18 = .ok (.ireturn, 1) := dk_172 (dk_at dksX0_exchange_0 18 rfl rfl)
theorem dX0_exchange_19 : decode cX0_exchange 19 = .ok (.astore 5, 2) := dk_58 5 (dk_at dksX0_exchange_0 19 rfl rfl)
theorem dX0_exchange_21 : decode cX0_exchange 21 = .ok (.iconst 2, 1) := dk_5 (dk_at dksX0_exchange_0 21 rfl rfl)
theorem dX0_exchange_22 : decode cX0_exchange 22 = .ok (.ireturn, 1) := dk_172 (dk_at dksX0_exchange_0 22 rfl rfl)
theorem dX0_exchange_23 : decode cX0_exchange 23 = .ok (.iconst 0, 1) := dk_3 (dk_at dksX0_exchange_0 23 rfl rfl)
theorem dX0_exchange_24 : decode cX0_exchange 24 = .ok (.ireturn, 1) := dk_172 (dk_at dksX0_exchange_1 0 rfl rfl)
def fX0_exchange (e : Nat → Nat) (N : Nat) (m : Mm) (v0 : Option Nat) (v1 : Int32) (v2 : Int32) (v3 : Int32) (v4 : Option Nat) : Rs (Int32) := ck_ m v0 1 (bd_ (fX1_exchange e N m v0 v1 v2 v3) (ch_ (fun x1 m1 => bj_ m1 v4 203 0 ((x1 : Int32).toInt64) (fun m2 => rt_ 0 m2)) (fun i_ m0 => if i_ = 0 then rt_ 1 m0 else if i_ = 1 then rt_ 2 m0 else none)))
abbrev cX1_sweep : ByteArray := prog_1_method_35_code
def yX1_sweep : MethodName := ⟨RX1, "sweep", "(I)I"⟩
def dkwX1_sweep_1 : List UInt8 := [184, 1, 85, 172]
abbrev dktX1_sweep_1 : List UInt8 := dkwX1_sweep_1 ++ []
def dkwX1_sweep_0 : List UInt8 := [42, 27, 182, 0, 183, 77, 44, 4, 182, 1, 81, 66, 44, 89, 180, 1, 132, 33, 129, 181, 1, 132, 33]
abbrev dktX1_sweep_0 : List UInt8 := dkwX1_sweep_0 ++ dktX1_sweep_1
theorem dksX1_sweep_0 : cX1_sweep.data.toList.drop 0 = dktX1_sweep_0 := by decide +kernel
theorem dksX1_sweep_1 : cX1_sweep.data.toList.drop 23 = dktX1_sweep_1 := dk_seg dksX1_sweep_0 23 rfl rfl
theorem dX1_sweep_0 : decode cX1_sweep 0 = .ok (.aload_n 0, 1) := dk_42 (dk_at dksX1_sweep_0 0 rfl rfl)
theorem dX1_sweep_1 : decode cX1_sweep 1 = .ok (.iload_n 1, 1) := dk_27 (dk_at dksX1_sweep_0 1 rfl rfl)
theorem dX1_sweep_2 : decode cX1_sweep 2 = .ok (.invokevirtual 183, 3) := dk_182 0 183 (dk_at dksX1_sweep_0 2 rfl rfl)
theorem dX1_sweep_5 : decode cX1_sweep 5 = .ok (.astore_n 2, 1) := dk_77 (dk_at dksX1_sweep_0 5 rfl rfl)
theorem dX1_sweep_6 : decode cX1_sweep 6 = .ok (.aload_n 2, 1) := dk_44 (dk_at dksX1_sweep_0 6 rfl rfl)
theorem dX1_sweep_7 : decode cX1_sweep 7 = .ok (.iconst 1, 1) := dk_4 (dk_at dksX1_sweep_0 7 rfl rfl)
theorem dX1_sweep_8 : decode cX1_sweep 8 = .ok (.invokevirtual 337, 3) := dk_182 1 81 (dk_at dksX1_sweep_0 8 rfl rfl)
theorem dX1_sweep_11 : decode cX1_sweep 11 = .ok (.lstore_n 3, 1) := dk_66 (dk_at dksX1_sweep_0 11 rfl rfl)
theorem dX1_sweep_12 : decode cX1_sweep 12 = .ok (.aload_n 2, 1) := dk_44 (dk_at dksX1_sweep_0 12 rfl rfl)
theorem dX1_sweep_13 : decode cX1_sweep 13 = .ok (.dup, 1) := dk_89 (dk_at dksX1_sweep_0 13 rfl rfl)
theorem dX1_sweep_14 : decode cX1_sweep 14 = .ok (.getfield 388, 3) := dk_180 1 132 (dk_at dksX1_sweep_0 14 rfl rfl)
theorem dX1_sweep_17 : decode cX1_sweep 17 = .ok (.lload_n 3, 1) := dk_33 (dk_at dksX1_sweep_0 17 rfl rfl)
theorem dX1_sweep_18 : decode cX1_sweep 18 = .ok (.lor, 1) := dk_129 (dk_at dksX1_sweep_0 18 rfl rfl)
theorem dX1_sweep_19 : decode cX1_sweep 19 = .ok (.putfield 388, 3) := dk_181 1 132 (dk_at dksX1_sweep_0 19 rfl rfl)
theorem dX1_sweep_22 : decode cX1_sweep 22 = .ok (.lload_n 3, 1) := dk_33 (dk_at dksX1_sweep_0 22 rfl rfl)
theorem dX1_sweep_23 : decode cX1_sweep 23 = .ok (.invokestatic 341, 3) := dk_184 1 85 (dk_at dksX1_sweep_1 0 rfl rfl)
theorem dX1_sweep_26 : decode cX1_sweep 26 = .ok (.ireturn, 1) := dk_172 (dk_at dksX1_sweep_1 3 rfl rfl)
def fX1_sweep (e : Nat → Nat) (N : Nat) (m : Mm) (v0 : Option Nat) (v1 : Int32) : Rs (Int32 ⊕ Nat) := ck_ m v0 1 (bd_ (fX1_at e N m v0 v1) (xf_ (fun x1 m1 => ck_ m1 x1 2 (bd_ (fX2_marks e N m1 x1 1) (fun x2 m2 => gj_ m2 x1 2 9 (fun x3 => pj_ m2 x1 2 9 (x3 ||| x2) (fun m3 => bd_ (fJ28_bitCount e N m3 x2) (fun x4 m4 => rt_ (.inl x4) m4))))))))
abbrev cX0_sweep : ByteArray := method_17_code
def yX0_sweep : MethodName := ⟨RX0, "sweep", "(LMasterTree;I[J)I"⟩
def dkwX0_sweep_0 : List UInt8 := [44, 3, 42, 27, 182, 0, 62, 133, 80, 167, 0, 6, 78, 4, 172, 3, 172]
abbrev dktX0_sweep_0 : List UInt8 := dkwX0_sweep_0 ++ []
theorem dksX0_sweep_0 : cX0_sweep.data.toList.drop 0 = dktX0_sweep_0 := by decide +kernel
theorem dX0_sweep_0 : decode cX0_sweep 0 = .ok (.aload_n 2, 1) := dk_44 (dk_at dksX0_sweep_0 0 rfl rfl)
theorem dX0_sweep_1 : decode cX0_sweep 1 = .ok (.iconst 0, 1) := dk_3 (dk_at dksX0_sweep_0 1 rfl rfl)
theorem dX0_sweep_2 : decode cX0_sweep 2 = .ok (.aload_n 0, 1) := dk_42 (dk_at dksX0_sweep_0 2 rfl rfl)
theorem dX0_sweep_3 : decode cX0_sweep 3 = .ok (.iload_n 1, 1) := dk_27 (dk_at dksX0_sweep_0 3 rfl rfl)
theorem dX0_sweep_4 : decode cX0_sweep 4 = .ok (.invokevirtual 62, 3) := dk_182 0 62 (dk_at dksX0_sweep_0 4 rfl rfl)
theorem dX0_sweep_7 : decode cX0_sweep 7 = .ok (.i2l, 1) := dk_133 (dk_at dksX0_sweep_0 7 rfl rfl)
theorem dX0_sweep_8 : decode cX0_sweep 8 = .ok (.lastore, 1) := dk_80 (dk_at dksX0_sweep_0 8 rfl rfl)
theorem dX0_sweep_9 : decode cX0_sweep 9 = .ok (.goto 6, 3) := dk_167 0 6 (dk_at dksX0_sweep_0 9 rfl rfl)
theorem dX0_sweep_12 : decode cX0_sweep 12 = .ok (.astore_n 3, 1) := dk_78 (dk_at dksX0_sweep_0 12 rfl rfl)
theorem dX0_sweep_13 : decode cX0_sweep 13 = .ok (.iconst 1, 1) := dk_4 (dk_at dksX0_sweep_0 13 rfl rfl)
theorem dX0_sweep_14 : decode cX0_sweep 14 = .ok (.ireturn, 1) := dk_172 (dk_at dksX0_sweep_0 14 rfl rfl)
theorem dX0_sweep_15 : decode cX0_sweep 15 = .ok (.iconst 0, 1) := dk_3 (dk_at dksX0_sweep_0 15 rfl rfl)
theorem dX0_sweep_16 : decode cX0_sweep 16 = .ok (.ireturn, 1) := dk_172 (dk_at dksX0_sweep_0 16 rfl rfl)
def fX0_sweep (e : Nat → Nat) (N : Nat) (m : Mm) (v0 : Option Nat) (v1 : Int32) (v2 : Option Nat) : Rs (Int32) := ck_ m v0 1 (bd_ (fX1_sweep e N m v0 v1) (ch_ (fun x1 m1 => bj_ m1 v2 203 0 ((x1 : Int32).toInt64) (fun m2 => rt_ 0 m2)) (fun i_ m0 => if i_ = 0 then rt_ 1 m0 else none)))
abbrev cX8_init : ByteArray := prog_8_method_1_code
def yX8_init : MethodName := ⟨RX8, "<init>", "()V"⟩
theorem dX8_init_0 : decode cX8_init 0 = .ok (.aload_n 0, 1) := by decide +kernel
theorem dX8_init_1 : decode cX8_init 1 = .ok (.invokespecial 1, 3) := by decide +kernel
theorem dX8_init_4 : decode cX8_init 4 = .ok (.return_, 1) := by decide +kernel
def fX8_init_t8 (e : Nat → Nat) (N : Nat) (m : Mm) (v0 : Option Nat) : Rs (Unit) := ok_ v0 (rt_ () m)
abbrev cX9_init : ByteArray := prog_4_method_1_code
def yX9_init : MethodName := ⟨RX9, "<init>", "(IIZ)V"⟩
def dkwX9_init_0 : List UInt8 := [42, 183, 0, 3, 42, 27, 181, 0, 9, 42, 28, 181, 0, 15, 42, 29, 181, 0, 18, 177]
abbrev dktX9_init_0 : List UInt8 := dkwX9_init_0 ++ []
theorem dksX9_init_0 : cX9_init.data.toList.drop 0 = dktX9_init_0 := by decide +kernel
theorem dX9_init_0 : decode cX9_init 0 = .ok (.aload_n 0, 1) := dk_42 (dk_at dksX9_init_0 0 rfl rfl)
theorem dX9_init_1 : decode cX9_init 1 = .ok (.invokespecial 3, 3) := dk_183 0 3 (dk_at dksX9_init_0 1 rfl rfl)
theorem dX9_init_4 : decode cX9_init 4 = .ok (.aload_n 0, 1) := dk_42 (dk_at dksX9_init_0 4 rfl rfl)
theorem dX9_init_5 : decode cX9_init 5 = .ok (.iload_n 1, 1) := dk_27 (dk_at dksX9_init_0 5 rfl rfl)
theorem dX9_init_6 : decode cX9_init 6 = .ok (.putfield 9, 3) := dk_181 0 9 (dk_at dksX9_init_0 6 rfl rfl)
theorem dX9_init_9 : decode cX9_init 9 = .ok (.aload_n 0, 1) := dk_42 (dk_at dksX9_init_0 9 rfl rfl)
theorem dX9_init_10 : decode cX9_init 10 = .ok (.iload_n 2, 1) := dk_28 (dk_at dksX9_init_0 10 rfl rfl)
theorem dX9_init_11 : decode cX9_init 11 = .ok (.putfield 15, 3) := dk_181 0 15 (dk_at dksX9_init_0 11 rfl rfl)
theorem dX9_init_14 : decode cX9_init 14 = .ok (.aload_n 0, 1) := dk_42 (dk_at dksX9_init_0 14 rfl rfl)
theorem dX9_init_15 : decode cX9_init 15 = .ok (.iload_n 3, 1) := dk_29 (dk_at dksX9_init_0 15 rfl rfl)
theorem dX9_init_16 : decode cX9_init 16 = .ok (.putfield 18, 3) := dk_181 0 18 (dk_at dksX9_init_0 16 rfl rfl)
theorem dX9_init_19 : decode cX9_init 19 = .ok (.return_, 1) := dk_177 (dk_at dksX9_init_0 19 rfl rfl)
def fX9_init (e : Nat → Nat) (N : Nat) (m : Mm) (v0 : Option Nat) (v1 : Int32) (v2 : Int32) (v3 : Int32) : Rs (Unit) := ok_ v0 (bd_ (fX8_init_t8 e N m v0) (fun _ m1 => pi_ m1 v0 8 0 v1 (fun m2 => pi_ m2 v0 8 1 v2 (fun m3 => pz_ m3 v0 8 2 v3 (fun m4 => rt_ () m4)))))
abbrev cX1_puts : ByteArray := prog_1_method_36_code
def yX1_puts : MethodName := ⟨RX1, "puts", "(LMasterTree$Filter;)I"⟩
def dkwX1_puts_2 : List UInt8 := [43, 185, 0, 80, 2, 0, 87, 42, 180, 0, 66, 185, 0, 137, 1, 0, 172]
abbrev dktX1_puts_2 : List UInt8 := dkwX1_puts_2 ++ []
def dkwX1_puts_1 : List UInt8 := [167, 0, 4, 3, 19, 1, 139, 184, 0, 165, 42, 89, 180, 1, 136, 4, 96, 181, 1, 136, 42, 180, 0, 66]
abbrev dktX1_puts_1 : List UInt8 := dkwX1_puts_1 ++ dktX1_puts_2
def dkwX1_puts_0 : List UInt8 := [42, 180, 0, 66, 185, 0, 137, 1, 0, 16, 8, 162, 0, 16, 42, 180, 1, 136, 16, 15, 162, 0, 7, 4]
abbrev dktX1_puts_0 : List UInt8 := dkwX1_puts_0 ++ dktX1_puts_1
theorem dksX1_puts_0 : cX1_puts.data.toList.drop 0 = dktX1_puts_0 := by decide +kernel
theorem dksX1_puts_1 : cX1_puts.data.toList.drop 24 = dktX1_puts_1 := dk_seg dksX1_puts_0 24 rfl rfl
theorem dksX1_puts_2 : cX1_puts.data.toList.drop 48 = dktX1_puts_2 := dk_seg dksX1_puts_1 24 rfl rfl
theorem dX1_puts_0 : decode cX1_puts 0 = .ok (.aload_n 0, 1) := dk_42 (dk_at dksX1_puts_0 0 rfl rfl)
theorem dX1_puts_1 : decode cX1_puts 1 = .ok (.getfield 66, 3) := dk_180 0 66 (dk_at dksX1_puts_0 1 rfl rfl)
theorem dX1_puts_4 : decode cX1_puts 4 = .ok (.invokeinterface 137 1, 5) := by decide +kernel
theorem dX1_puts_9 : decode cX1_puts 9 = .ok (.bipush 8, 2) := dk_16 8 (dk_at dksX1_puts_0 9 rfl rfl)
theorem dX1_puts_11 : decode cX1_puts 11 = .ok (.if_icmp .ge 16, 3) := dk_162 0 16 (dk_at dksX1_puts_0 11 rfl rfl)
theorem dX1_puts_14 : decode cX1_puts 14 = .ok (.aload_n 0, 1) := dk_42 (dk_at dksX1_puts_0 14 rfl rfl)
theorem dX1_puts_15 : decode cX1_puts 15 = .ok (.getfield 392, 3) := dk_180 1 136 (dk_at dksX1_puts_0 15 rfl rfl)
theorem dX1_puts_18 : decode cX1_puts 18 = .ok (.bipush 15, 2) := dk_16 15 (dk_at dksX1_puts_0 18 rfl rfl)
theorem dX1_puts_20 : decode cX1_puts 20 = .ok (.if_icmp .ge 7, 3) := dk_162 0 7 (dk_at dksX1_puts_0 20 rfl rfl)
theorem dX1_puts_23 : decode cX1_puts 23 = .ok (.iconst 1, 1) := dk_4 (dk_at dksX1_puts_0 23 rfl rfl)
theorem dX1_puts_24 : decode cX1_puts 24 = .ok (.goto 4, 3) := dk_167 0 4 (dk_at dksX1_puts_1 0 rfl rfl)
theorem dX1_puts_27 : decode cX1_puts 27 = .ok (.iconst 0, 1) := dk_3 (dk_at dksX1_puts_1 3 rfl rfl)
theorem dX1_puts_28 : decode cX1_puts 28 = .ok (.ldc_w 395, 3) := dk_19 1 139 (dk_at dksX1_puts_1 4 rfl rfl)
theorem dX1_puts_31 : decode cX1_puts 31 = .ok (.invokestatic 165, 3) := dk_184 0 165 (dk_at dksX1_puts_1 7 rfl rfl)
theorem dX1_puts_34 : decode cX1_puts 34 = .ok (.aload_n 0, 1) := dk_42 (dk_at dksX1_puts_1 10 rfl rfl)
theorem dX1_puts_35 : decode cX1_puts 35 = .ok (.dup, 1) := dk_89 (dk_at dksX1_puts_1 11 rfl rfl)
theorem dX1_puts_36 : decode cX1_puts 36 = .ok (.getfield 392, 3) := dk_180 1 136 (dk_at dksX1_puts_1 12 rfl rfl)
theorem dX1_puts_39 : decode cX1_puts 39 = .ok (.iconst 1, 1) := dk_4 (dk_at dksX1_puts_1 15 rfl rfl)
theorem dX1_puts_40 : decode cX1_puts 40 = .ok (.iadd, 1) := dk_96 (dk_at dksX1_puts_1 16 rfl rfl)
theorem dX1_puts_41 : decode cX1_puts 41 = .ok (.putfield 392, 3) := dk_181 1 136 (dk_at dksX1_puts_1 17 rfl rfl)
theorem dX1_puts_44 : decode cX1_puts 44 = .ok (.aload_n 0, 1) := dk_42 (dk_at dksX1_puts_1 20 rfl rfl)
theorem dX1_puts_45 : decode cX1_puts 45 = .ok (.getfield 66, 3) := dk_180 0 66 (dk_at dksX1_puts_1 21 rfl rfl)
theorem dX1_puts_48 : decode cX1_puts 48 = .ok (.aload_n 1, 1) := dk_43 (dk_at dksX1_puts_2 0 rfl rfl)
theorem dX1_puts_49 : decode cX1_puts 49 = .ok (.invokeinterface 80 2, 5) := by decide +kernel
theorem dX1_puts_54 : decode cX1_puts 54 = .ok (.pop, 1) := dk_87 (dk_at dksX1_puts_2 6 rfl rfl)
theorem dX1_puts_55 : decode cX1_puts 55 = .ok (.aload_n 0, 1) := dk_42 (dk_at dksX1_puts_2 7 rfl rfl)
theorem dX1_puts_56 : decode cX1_puts 56 = .ok (.getfield 66, 3) := dk_180 0 66 (dk_at dksX1_puts_2 8 rfl rfl)
theorem dX1_puts_59 : decode cX1_puts 59 = .ok (.invokeinterface 137 1, 5) := by decide +kernel
theorem dX1_puts_64 : decode cX1_puts 64 = .ok (.ireturn, 1) := dk_172 (dk_at dksX1_puts_2 16 rfl rfl)
def fX1_puts_b28 (e : Nat → Nat) (N : Nat) (m : Mm) (v0 : Option Nat) (v1 : Option Nat) (s0 : Int32) : Rs (Int32 ⊕ Nat) := bd_ (fX1_must e N m s0 (some (e (100 + 33)))) (xf_ (fun _ m1 => gi_ m1 v0 1 5 (fun x1 => pi_ m1 v0 1 5 (x1 + 1) (fun m2 => gr_ m2 v0 1 4 (fun x2 => ck_ m2 x2 13 (bd_ (fJ2_add e N m2 x2 v1) (fun x3 m3 => gr_ m3 v0 1 4 (fun x4 => ck_ m3 x4 13 (bd_ (fJ2_size e N m3 x4) (fun x5 m4 => rt_ (.inl x5) m4))))))))))
def fX1_puts_b27 (e : Nat → Nat) (N : Nat) (m : Mm) (v0 : Option Nat) (v1 : Option Nat) : Rs (Int32 ⊕ Nat) := fX1_puts_b28 e N m v0 v1 0
def fX1_puts (e : Nat → Nat) (N : Nat) (m : Mm) (v0 : Option Nat) (v1 : Option Nat) : Rs (Int32 ⊕ Nat) := gr_ m v0 1 4 (fun x1 => ck_ m x1 13 (bd_ (fJ2_size e N m x1) (fun x2 m1 => if x2 < 8 then (gi_ m1 v0 1 5 (fun x3 => if x3 < 15 then (fX1_puts_b28 e N m1 v0 v1 1) else (fX1_puts_b27 e N m1 v0 v1))) else (fX1_puts_b27 e N m1 v0 v1))))
abbrev cX1_equal : ByteArray := prog_1_method_37_code
def yX1_equal : MethodName := ⟨RX1, "equal", "(II)I"⟩
def dkwX1_equal_1 : List UInt8 := [182, 0, 242, 3, 183, 1, 143, 182, 1, 146, 172]
abbrev dktX1_equal_1 : List UInt8 := dkwX1_equal_1 ++ []
def dkwX1_equal_0 : List UInt8 := [42, 27, 182, 0, 191, 78, 28, 3, 17, 3, 231, 184, 0, 195, 42, 187, 1, 141, 89, 27, 45, 28]
abbrev dktX1_equal_0 : List UInt8 := dkwX1_equal_0 ++ dktX1_equal_1
theorem dksX1_equal_0 : cX1_equal.data.toList.drop 0 = dktX1_equal_0 := by decide +kernel
theorem dksX1_equal_1 : cX1_equal.data.toList.drop 22 = dktX1_equal_1 := dk_seg dksX1_equal_0 22 rfl rfl
theorem dX1_equal_0 : decode cX1_equal 0 = .ok (.aload_n 0, 1) := dk_42 (dk_at dksX1_equal_0 0 rfl rfl)
theorem dX1_equal_1 : decode cX1_equal 1 = .ok (.iload_n 1, 1) := dk_27 (dk_at dksX1_equal_0 1 rfl rfl)
theorem dX1_equal_2 : decode cX1_equal 2 = .ok (.invokevirtual 191, 3) := dk_182 0 191 (dk_at dksX1_equal_0 2 rfl rfl)
theorem dX1_equal_5 : decode cX1_equal 5 = .ok (.astore_n 3, 1) := dk_78 (dk_at dksX1_equal_0 5 rfl rfl)
theorem dX1_equal_6 : decode cX1_equal 6 = .ok (.iload_n 2, 1) := dk_28 (dk_at dksX1_equal_0 6 rfl rfl)
theorem dX1_equal_7 : decode cX1_equal 7 = .ok (.iconst 0, 1) := dk_3 (dk_at dksX1_equal_0 7 rfl rfl)
theorem dX1_equal_8 : decode cX1_equal 8 = .ok (.sipush 999, 3) := dk_17 3 231 (dk_at dksX1_equal_0 8 rfl rfl)
theorem dX1_equal_11 : decode cX1_equal 11 = .ok (.invokestatic 195, 3) := dk_184 0 195 (dk_at dksX1_equal_0 11 rfl rfl)
theorem dX1_equal_14 : decode cX1_equal 14 = .ok (.aload_n 0, 1) := dk_42 (dk_at dksX1_equal_0 14 rfl rfl)
theorem dX1_equal_15 : decode cX1_equal 15 = .ok (.new 397, 3) := dk_187 1 141 (dk_at dksX1_equal_0 15 rfl rfl)
theorem dX1_equal_18 : decode cX1_equal 18 = .ok (.dup, 1) := dk_89 (dk_at dksX1_equal_0 18 rfl rfl)
theorem dX1_equal_19 : decode cX1_equal 19 = .ok (.iload_n 1, 1) := dk_27 (dk_at dksX1_equal_0 19 rfl rfl)
theorem dX1_equal_20 : decode cX1_equal 20 = .ok (.aload_n 3, 1) := dk_45 (dk_at dksX1_equal_0 20 rfl rfl)
theorem dX1_equal_21 : decode cX1_equal 21 = .ok (.iload_n 2, 1) := dk_28 (dk_at dksX1_equal_0 21 rfl rfl)
theorem dX1_equal_22 : decode cX1_equal 22 = .ok (.invokevirtual 242, 3) := dk_182 0 242 (dk_at dksX1_equal_1 0 rfl rfl)
theorem dX1_equal_25 : decode cX1_equal 25 = .ok (.iconst 0, 1) := dk_3 (dk_at dksX1_equal_1 3 rfl rfl)
theorem dX1_equal_26 : decode cX1_equal 26 = .ok (.invokespecial 399, 3) := dk_183 1 143 (dk_at dksX1_equal_1 4 rfl rfl)
theorem dX1_equal_29 : decode cX1_equal 29 = .ok (.invokevirtual 402, 3) := dk_182 1 146 (dk_at dksX1_equal_1 7 rfl rfl)
theorem dX1_equal_32 : decode cX1_equal 32 = .ok (.ireturn, 1) := dk_172 (dk_at dksX1_equal_1 10 rfl rfl)
def fX1_equal (e : Nat → Nat) (N : Nat) (m : Mm) (v0 : Option Nat) (v1 : Int32) (v2 : Int32) : Rs (Int32 ⊕ Nat) := ck_ m v0 1 (bd_ (fX1_attributeAt e N m v0 v1) (xf_ (fun x1 m1 => bd_ (fX1_isWithin e N m1 v2 0 999) (xf_ (fun _ m2 => nw_ m2 8 3 (fun x2 m3 => ck_ m3 x1 5 (bd_ (fX5_key e N m3 x1 v2) (fun x3 m4 => bd_ (fX9_init e N m4 (some x2) v1 x3 0) (fun _ m5 => ck_ m5 v0 1 (bd_ (fX1_puts e N m5 v0 (some x2)) (xf_ (fun x4 m6 => rt_ (.inl x4) m6))))))))))))
abbrev cX0_equal : ByteArray := method_18_code
def yX0_equal : MethodName := ⟨RX0, "equal", "(LMasterTree;II[J)I"⟩
def dkwX0_equal_1 : List UInt8 := [172, 3, 172]
abbrev dktX0_equal_1 : List UInt8 := dkwX0_equal_1 ++ []
def dkwX0_equal_0 : List UInt8 := [45, 3, 42, 27, 28, 182, 0, 66, 133, 80, 167, 0, 15, 58, 4, 4, 172, 58, 4, 5, 172, 58, 4, 6]
abbrev dktX0_equal_0 : List UInt8 := dkwX0_equal_0 ++ dktX0_equal_1
theorem dksX0_equal_0 : cX0_equal.data.toList.drop 0 = dktX0_equal_0 := by decide +kernel
theorem dksX0_equal_1 : cX0_equal.data.toList.drop 24 = dktX0_equal_1 := dk_seg dksX0_equal_0 24 rfl rfl
theorem dX0_equal_0 : decode cX0_equal 0 = .ok (.aload_n 3, 1) := dk_45 (dk_at dksX0_equal_0 0 rfl rfl)
theorem dX0_equal_1 : decode cX0_equal 1 = .ok (.iconst 0, 1) := dk_3 (dk_at dksX0_equal_0 1 rfl rfl)
theorem dX0_equal_2 : decode cX0_equal 2 = .ok (.aload_n 0, 1) := dk_42 (dk_at dksX0_equal_0 2 rfl rfl)
theorem dX0_equal_3 : decode cX0_equal 3 = .ok (.iload_n 1, 1) := dk_27 (dk_at dksX0_equal_0 3 rfl rfl)
theorem dX0_equal_4 : decode cX0_equal 4 = .ok (.iload_n 2, 1) := dk_28 (dk_at dksX0_equal_0 4 rfl rfl)
theorem dX0_equal_5 : decode cX0_equal 5 = .ok (.invokevirtual 66, 3) := dk_182 0 66 (dk_at dksX0_equal_0 5 rfl rfl)
theorem dX0_equal_8 : decode cX0_equal 8 = .ok (.i2l, 1) := dk_133 (dk_at dksX0_equal_0 8 rfl rfl)
theorem dX0_equal_9 : decode cX0_equal 9 = .ok (.lastore, 1) := dk_80 (dk_at dksX0_equal_0 9 rfl rfl)
theorem dX0_equal_10 : decode cX0_equal 10 = .ok (.goto 15, 3) := dk_167 0 15 (dk_at dksX0_equal_0 10 rfl rfl)
theorem dX0_equal_13 : decode cX0_equal 13 = .ok (.astore 4, 2) := dk_58 4 (dk_at dksX0_equal_0 13 rfl rfl)
theorem dX0_equal_15 : decode cX0_equal 15 = .ok (.iconst 1, 1) := dk_4 (dk_at dksX0_equal_0 15 rfl rfl)
theorem dX0_equal_16 : decode cX0_equal 16 = .ok (.ireturn, 1) := dk_172 (dk_at dksX0_equal_0 16 rfl rfl)
theorem dX0_equal_17 : decode cX0_equal 17 = .ok (.astore 4, 2) := dk_58 4 (dk_at dksX0_equal_0 17 rfl rfl)
theorem dX0_equal_19 : decode cX0_equal 19 = .ok (.iconst 2, 1) := dk_5 (dk_at dksX0_equal_0 19 rfl rfl)
theorem dX0_equal_20 : decode cX0_equal 20 = .ok (.ireturn, 1) := dk_172 (dk_at dksX0_equal_0 20 rfl rfl)
theorem dX0_equal_21 : decode cX0_equal 21 = .ok (.astore 4, 2) := dk_58 4 (dk_at dksX0_equal_0 21 rfl rfl)
theorem dX0_equal_23 : decode cX0_equal 23 = .ok (.iconst 3, 1) := dk_6 (dk_at dksX0_equal_0 23 rfl rfl)
theorem dX0_equal_24 : decode cX0_equal 24 = .ok (.ireturn, 1) := dk_172 (dk_at dksX0_equal_1 0 rfl rfl)
theorem dX0_equal_25 : decode cX0_equal 25 = .ok (.iconst 0, 1) := dk_3 (dk_at dksX0_equal_1 1 rfl rfl)
theorem dX0_equal_26 : decode cX0_equal 26 = .ok (.ireturn, 1) := dk_172 (dk_at dksX0_equal_1 2 rfl rfl)
def fX0_equal (e : Nat → Nat) (N : Nat) (m : Mm) (v0 : Option Nat) (v1 : Int32) (v2 : Int32) (v3 : Option Nat) : Rs (Int32) := ck_ m v0 1 (bd_ (fX1_equal e N m v0 v1 v2) (ch_ (fun x1 m1 => bj_ m1 v3 203 0 ((x1 : Int32).toInt64) (fun m2 => rt_ 0 m2)) (fun i_ m0 => if i_ = 0 then rt_ 1 m0 else if i_ = 1 then rt_ 2 m0 else if i_ = 2 then rt_ 3 m0 else none)))
abbrev cX1_atLeast : ByteArray := prog_1_method_38_code
def yX1_atLeast : MethodName := ⟨RX1, "atLeast", "(II)I"⟩
def dkwX1_atLeast_1 : List UInt8 := [182, 0, 242, 4, 183, 1, 143, 182, 1, 146, 172]
abbrev dktX1_atLeast_1 : List UInt8 := dkwX1_atLeast_1 ++ []
def dkwX1_atLeast_0 : List UInt8 := [42, 27, 182, 0, 191, 78, 28, 3, 17, 3, 231, 184, 0, 195, 42, 187, 1, 141, 89, 27, 45, 28]
abbrev dktX1_atLeast_0 : List UInt8 := dkwX1_atLeast_0 ++ dktX1_atLeast_1
theorem dksX1_atLeast_0 : cX1_atLeast.data.toList.drop 0 = dktX1_atLeast_0 := by decide +kernel
theorem dksX1_atLeast_1 : cX1_atLeast.data.toList.drop 22 = dktX1_atLeast_1 := dk_seg dksX1_atLeast_0 22 rfl rfl
theorem dX1_atLeast_0 : decode cX1_atLeast 0 = .ok (.aload_n 0, 1) := dk_42 (dk_at dksX1_atLeast_0 0 rfl rfl)
theorem dX1_atLeast_1 : decode cX1_atLeast 1 = .ok (.iload_n 1, 1) := dk_27 (dk_at dksX1_atLeast_0 1 rfl rfl)
theorem dX1_atLeast_2 : decode cX1_atLeast 2 = .ok (.invokevirtual 191, 3) := dk_182 0 191 (dk_at dksX1_atLeast_0 2 rfl rfl)
theorem dX1_atLeast_5 : decode cX1_atLeast 5 = .ok (.astore_n 3, 1) := dk_78 (dk_at dksX1_atLeast_0 5 rfl rfl)
theorem dX1_atLeast_6 : decode cX1_atLeast 6 = .ok (.iload_n 2, 1) := dk_28 (dk_at dksX1_atLeast_0 6 rfl rfl)
theorem dX1_atLeast_7 : decode cX1_atLeast 7 = .ok (.iconst 0, 1) := dk_3 (dk_at dksX1_atLeast_0 7 rfl rfl)
theorem dX1_atLeast_8 : decode cX1_atLeast 8 = .ok (.sipush 999, 3) := dk_17 3 231 (dk_at dksX1_atLeast_0 8 rfl rfl)
theorem dX1_atLeast_11 : decode cX1_atLeast 11 = .ok (.invokestatic 195, 3) := dk_184 0 195 (dk_at dksX1_atLeast_0 11 rfl rfl)
theorem dX1_atLeast_14 : decode cX1_atLeast 14 = .ok (.aload_n 0, 1) := dk_42 (dk_at dksX1_atLeast_0 14 rfl rfl)
theorem dX1_atLeast_15 : decode cX1_atLeast 15 = .ok (.new 397, 3) := dk_187 1 141 (dk_at dksX1_atLeast_0 15 rfl rfl)
theorem dX1_atLeast_18 : decode cX1_atLeast 18 = .ok (.dup, 1) := dk_89 (dk_at dksX1_atLeast_0 18 rfl rfl)
theorem dX1_atLeast_19 : decode cX1_atLeast 19 = .ok (.iload_n 1, 1) := dk_27 (dk_at dksX1_atLeast_0 19 rfl rfl)
theorem dX1_atLeast_20 : decode cX1_atLeast 20 = .ok (.aload_n 3, 1) := dk_45 (dk_at dksX1_atLeast_0 20 rfl rfl)
theorem dX1_atLeast_21 : decode cX1_atLeast 21 = .ok (.iload_n 2, 1) := dk_28 (dk_at dksX1_atLeast_0 21 rfl rfl)
theorem dX1_atLeast_22 : decode cX1_atLeast 22 = .ok (.invokevirtual 242, 3) := dk_182 0 242 (dk_at dksX1_atLeast_1 0 rfl rfl)
theorem dX1_atLeast_25 : decode cX1_atLeast 25 = .ok (.iconst 1, 1) := dk_4 (dk_at dksX1_atLeast_1 3 rfl rfl)
theorem dX1_atLeast_26 : decode cX1_atLeast 26 = .ok (.invokespecial 399, 3) := dk_183 1 143 (dk_at dksX1_atLeast_1 4 rfl rfl)
theorem dX1_atLeast_29 : decode cX1_atLeast 29 = .ok (.invokevirtual 402, 3) := dk_182 1 146 (dk_at dksX1_atLeast_1 7 rfl rfl)
theorem dX1_atLeast_32 : decode cX1_atLeast 32 = .ok (.ireturn, 1) := dk_172 (dk_at dksX1_atLeast_1 10 rfl rfl)
def fX1_atLeast (e : Nat → Nat) (N : Nat) (m : Mm) (v0 : Option Nat) (v1 : Int32) (v2 : Int32) : Rs (Int32 ⊕ Nat) := ck_ m v0 1 (bd_ (fX1_attributeAt e N m v0 v1) (xf_ (fun x1 m1 => bd_ (fX1_isWithin e N m1 v2 0 999) (xf_ (fun _ m2 => nw_ m2 8 3 (fun x2 m3 => ck_ m3 x1 5 (bd_ (fX5_key e N m3 x1 v2) (fun x3 m4 => bd_ (fX9_init e N m4 (some x2) v1 x3 1) (fun _ m5 => ck_ m5 v0 1 (bd_ (fX1_puts e N m5 v0 (some x2)) (xf_ (fun x4 m6 => rt_ (.inl x4) m6))))))))))))
abbrev cX0_atLeast : ByteArray := method_19_code
def yX0_atLeast : MethodName := ⟨RX0, "atLeast", "(LMasterTree;II[J)I"⟩
def dkwX0_atLeast_1 : List UInt8 := [172, 3, 172]
abbrev dktX0_atLeast_1 : List UInt8 := dkwX0_atLeast_1 ++ []
def dkwX0_atLeast_0 : List UInt8 := [45, 3, 42, 27, 28, 182, 0, 69, 133, 80, 167, 0, 15, 58, 4, 4, 172, 58, 4, 5, 172, 58, 4, 6]
abbrev dktX0_atLeast_0 : List UInt8 := dkwX0_atLeast_0 ++ dktX0_atLeast_1
theorem dksX0_atLeast_0 : cX0_atLeast.data.toList.drop 0 = dktX0_atLeast_0 := by decide +kernel
theorem dksX0_atLeast_1 : cX0_atLeast.data.toList.drop 24 = dktX0_atLeast_1 := dk_seg dksX0_atLeast_0 24 rfl rfl
theorem dX0_atLeast_0 : decode cX0_atLeast 0 = .ok (.aload_n 3, 1) := dk_45 (dk_at dksX0_atLeast_0 0 rfl rfl)
theorem dX0_atLeast_1 : decode cX0_atLeast 1 = .ok (.iconst 0, 1) := dk_3 (dk_at dksX0_atLeast_0 1 rfl rfl)
theorem dX0_atLeast_2 : decode cX0_atLeast 2 = .ok (.aload_n 0, 1) := dk_42 (dk_at dksX0_atLeast_0 2 rfl rfl)
theorem dX0_atLeast_3 : decode cX0_atLeast 3 = .ok (.iload_n 1, 1) := dk_27 (dk_at dksX0_atLeast_0 3 rfl rfl)
theorem dX0_atLeast_4 : decode cX0_atLeast 4 = .ok (.iload_n 2, 1) := dk_28 (dk_at dksX0_atLeast_0 4 rfl rfl)
theorem dX0_atLeast_5 : decode cX0_atLeast 5 = .ok (.invokevirtual 69, 3) := dk_182 0 69 (dk_at dksX0_atLeast_0 5 rfl rfl)
theorem dX0_atLeast_8 : decode cX0_atLeast 8 = .ok (.i2l, 1) := dk_133 (dk_at dksX0_atLeast_0 8 rfl rfl)
theorem dX0_atLeast_9 : decode cX0_atLeast 9 = .ok (.lastore, 1) := dk_80 (dk_at dksX0_atLeast_0 9 rfl rfl)
theorem dX0_atLeast_10 : decode cX0_atLeast 10 = .ok (.goto 15, 3) := dk_167 0 15 (dk_at dksX0_atLeast_0 10 rfl rfl)
theorem dX0_atLeast_13 : decode cX0_atLeast 13 = .ok (.astore 4, 2) := dk_58 4 (dk_at dksX0_atLeast_0 13 rfl rfl)
theorem dX0_atLeast_15 : decode cX0_atLeast 15 = .ok (.iconst 1, 1) := dk_4 (dk_at dksX0_atLeast_0 15 rfl rfl)
theorem dX0_atLeast_16 : decode cX0_atLeast 16 = .ok (.ireturn, 1) := dk_172 (dk_at dksX0_atLeast_0 16 rfl rfl)
theorem dX0_atLeast_17 : decode cX0_atLeast 17 = .ok (.astore 4, 2) := dk_58 4 (dk_at dksX0_atLeast_0 17 rfl rfl)
theorem dX0_atLeast_19 : decode cX0_atLeast 19 = .ok (.iconst 2, 1) := dk_5 (dk_at dksX0_atLeast_0 19 rfl rfl)
theorem dX0_atLeast_20 : decode cX0_atLeast 20 = .ok (.ireturn, 1) := dk_172 (dk_at dksX0_atLeast_0 20 rfl rfl)
theorem dX0_atLeast_21 : decode cX0_atLeast 21 = .ok (.astore 4, 2) := dk_58 4 (dk_at dksX0_atLeast_0 21 rfl rfl)
theorem dX0_atLeast_23 : decode cX0_atLeast 23 = .ok (.iconst 3, 1) := dk_6 (dk_at dksX0_atLeast_0 23 rfl rfl)
theorem dX0_atLeast_24 : decode cX0_atLeast 24 = .ok (.ireturn, 1) := dk_172 (dk_at dksX0_atLeast_1 0 rfl rfl)
theorem dX0_atLeast_25 : decode cX0_atLeast 25 = .ok (.iconst 0, 1) := dk_3 (dk_at dksX0_atLeast_1 1 rfl rfl)
theorem dX0_atLeast_26 : decode cX0_atLeast 26 = .ok (.ireturn, 1) := dk_172 (dk_at dksX0_atLeast_1 2 rfl rfl)
def fX0_atLeast (e : Nat → Nat) (N : Nat) (m : Mm) (v0 : Option Nat) (v1 : Int32) (v2 : Int32) (v3 : Option Nat) : Rs (Int32) := ck_ m v0 1 (bd_ (fX1_atLeast e N m v0 v1 v2) (ch_ (fun x1 m1 => bj_ m1 v3 203 0 ((x1 : Int32).toInt64) (fun m2 => rt_ 0 m2)) (fun i_ m0 => if i_ = 0 then rt_ 1 m0 else if i_ = 1 then rt_ 2 m0 else if i_ = 2 then rt_ 3 m0 else none)))
theorem wJ38_size_t21_b33 {l : Launch} {g : GG} {E : Me_} (C : Cx_ l g E "java/util/TreeMap$NavigableSubMap" cJ38_size 1 18) (hret : (eT_ E).sig.returnType = (Option.some Jvm.ClassFile.FieldType.int)) (h0 : ∀ x ∈ (eC_ E).exceptionTable.toList, False) (hin : (eT_ E).name = "size") (N : Nat) : ∀ (m : Mm) (s0 : Int32) (k n : Nat), Sm_ l g E 1 en_i (fJ38_size_t21_b33 (gE_ g) N m s0) k n 33 [] [vi_ s0] m := by
  intro m s0 k n
  unfold fJ38_size_t21_b33
  exact x_iret C hret rfl dJ38_size_33
theorem wJ38_size_t21_b24 {l : Launch} {g : GG} {E : Me_} (C : Cx_ l g E "java/util/TreeMap$NavigableSubMap" cJ38_size 1 18) (hret : (eT_ E).sig.returnType = (Option.some Jvm.ClassFile.FieldType.int)) (h0 : ∀ x ∈ (eC_ E).exceptionTable.toList, False) (hin : (eT_ E).name = "size") (N : Nat) : ∀ (m : Mm) (v0 : Option Nat) (k n : Nat), Sm_ l g E 1 en_i (fJ38_size_t21_b24 (gE_ g) N m v0) k n 24 [(0, vr_ v0)] [] m := by
  intro m v0 k n
  unfold fJ38_size_t21_b24
  refine s_aload_n C rfl 0 rfl dJ38_size_24 25 rfl ?_
  refine x_ck (fun hb_ hb0_ => ?_)
  refine x_callA (enc := en_r) (owner := "java/util/AbstractMap") C 14 0 [] 21 (ctJ39_entrySet C.2.2.2.2.2.2.2.2.1 N m v0) hb_ hb0_ rfl rfl q2335 q2336 q2337 q2067 q132 q2068 q2063 ⟨by decide +kernel, by decide +kernel, by decide +kernel⟩ (Nat.le_of_ble_eq_true rfl) (Nat.le_of_ble_eq_true rfl) rfl (Nat.le_of_ble_eq_true rfl) dJ38_size_25 28 rfl rfl hen_r (kk_r (fun x1 m1 k1 n1 => ?_)) (kx_n he_r)
  refine x_ck (fun hb_ hb0_ => ?_)
  refine x_callF (enc := en_i) C 17 0 [] 22 (ctJ40_size_t22 C.2.2.2.2.2.2.2.2.1 N m1 x1) hb_ hb0_ rfl rfl rfl fw_41 q2339 q2342 q2344 q133 q2346 hx16 (Nat.le_of_ble_eq_true rfl) (Nat.le_of_ble_eq_true rfl) rfl (Nat.le_of_ble_eq_true rfl) dJ38_size_28 33 rfl rfl hen_i (kk_i (fun x2 m2 k1 n1 => ?_)) (kx_n he_i)
  refine Sm_sub [] rfl ?_
  exact wJ38_size_t21_b33 C hret h0 hin N _ _ _ _
theorem wJ38_size_t21 {l : Launch} {g : GG} {E : Me_} (C : Cx_ l g E "java/util/TreeMap$NavigableSubMap" cJ38_size 1 18) (hret : (eT_ E).sig.returnType = (Option.some Jvm.ClassFile.FieldType.int)) (h0 : ∀ x ∈ (eC_ E).exceptionTable.toList, False) (hin : (eT_ E).name = "size") (N : Nat) : ∀ (m : Mm) (v0 : Option Nat) (k n : Nat), Sm_ l g E 1 en_i (fJ38_size_t21 (gE_ g) N m v0) k n 0 [(0, vr_ v0)] [] m := by
  intro m v0 k n
  unfold fJ38_size_t21
  refine s_aload_n C rfl 0 rfl dJ38_size_0 1 rfl ?_
  refine x_gi C 20 (RJ39, TJ39, 12) rfl 3 (Nat.le_of_ble_eq_true rfl) q2016 (Or.inl rfl) rfl 21 rfl dJ38_size_1 4 rfl (fun x1 => ?_)
  refine s_if_eq C dJ38_size_4 24 rfl 7 rfl (fun c_ => ?_) (fun c_ => ?_)
  · exact wJ38_size_t21_b24 C hret h0 hin N _ _ _ _
  · refine s_aload_n C rfl 0 rfl dJ38_size_7 8 rfl ?_
    refine x_gi C 20 (RJ39, TJ39, 12) rfl 4 (Nat.le_of_ble_eq_true rfl) q2018 (Or.inl rfl) rfl 21 rfl dJ38_size_8 11 rfl (fun x2 => ?_)
    refine s_if_eq C dJ38_size_11 24 rfl 14 rfl (fun c_ => ?_) (fun c_ => ?_)
    · exact wJ38_size_t21_b24 C hret h0 hin N _ _ _ _
    · refine s_aload_n C rfl 0 rfl dJ38_size_14 15 rfl ?_
      refine x_gr C 20 (RJ39, TJ39, 12) rfl 0 (Nat.le_of_ble_eq_true rfl) q2012 (Or.inl rfl) rfl 21 rfl dJ38_size_15 18 rfl (fun x3 => ?_)
      refine x_ck (fun hb_ hb0_ => ?_)
      refine x_callV (enc := en_i) C 10 0 [] 15 (ctJ4_size C.2.2.2.2.2.2.2.2.1 N m x3) hb_ hb0_ rfl rfl q2334 q2329 q3729 q87 q2330 hdJ4_size (Nat.le_of_ble_eq_true rfl) (Nat.le_of_ble_eq_true rfl) rfl (Nat.le_of_ble_eq_true rfl) dJ38_size_18 21 rfl rfl hen_i (kk_i (fun x4 m1 k1 n1 => ?_)) (kx_n he_i)
      refine s_goto C (off := 12) 33 dJ38_size_21 rfl ?_
      refine Sm_sub [] rfl ?_
      exact wJ38_size_t21_b33 C hret h0 hin N _ _ _ _
theorem hdJ38_size_t21 : ((⟨"java/util/TreeMap$NavigableSubMap", "size", "()I"⟩ : MethodName)).cls ≠ "java/lang/invoke/MethodHandle" ∧ ((⟨"java/util/TreeMap$NavigableSubMap", "size", "()I"⟩ : MethodName)).cls ≠ "java/lang/invoke/VarHandle" ∧ (parseMethodDescriptor ((⟨"java/util/TreeMap$NavigableSubMap", "size", "()I"⟩ : MethodName)).desc).map (fun d => d.parameters.length) = some 0 := ⟨by decide +kernel, by decide +kernel, by decide +kernel⟩
theorem ctJ38_size_t21 {l : Launch} {g : GG} (hst : l.stackTraces = false) (N : Nat) (m : Mm) (v0 : Option Nat) : ∀ v m' k n, fJ38_size_t21 (gE_ g) N m v0 = some (v, m', k, n) → Ct_ l g (⟨"java/util/TreeMap$NavigableSubMap", "size", "()I"⟩ : MethodName) (ws_ (⟨"java/util/TreeMap$NavigableSubMap", "size", "()I"⟩ : MethodName) cJ38_size 1 (Option.some Jvm.ClassFile.FieldType.int)) 18 [vr_ v0] m (en_i v) m' k n :=
  Ct_of (by decide +kernel) rfl hst (Nat.le_of_ble_eq_true rfl) rfl (fun E C hret h0 hin => wJ38_size_t21 C hret h0 hin N m v0 0 0)
theorem wX1_changeable {l : Launch} {g : GG} {E : Me_} (C : Cx_ l g E "MasterTree" cX1_changeable 2 17) (hret : (eT_ E).sig.returnType = (Option.some (Jvm.ClassFile.FieldType.object "MasterTree$Entry"))) (h0 : ∀ x ∈ (eC_ E).exceptionTable.toList, False) (hin : (eT_ E).name = "changeable") (N : Nat) : ∀ (m : Mm) (v0 : Option Nat) (v1 : Int32) (k n : Nat), Sm_ l g E 2 (xe_ en_r) (fX1_changeable (gE_ g) N m v0 v1) k n 0 [(0, vr_ v0), (1, vi_ v1)] [] m := by
  intro m v0 v1 k n
  unfold fX1_changeable
  refine s_iload_n C rfl 1 rfl dX1_changeable_0 1 rfl ?_
  refine s_if_ne C dX1_changeable_1 14 rfl 4 rfl (fun c_ => ?_) (fun c_ => ?_)
  · refine x_nx C 0 (by decide) q636 q637 q99 dX1_changeable_4 7 rfl (fun x1 m1 hz_x1 => ?_)
    refine s_dup C rfl dX1_changeable_7 8 rfl ?_
    refine x_ls C 21 21 rfl dX1_changeable_8 10 rfl ?_
    refine x_xi0 C q884 hz_x1 (Nat.le_of_ble_eq_true rfl) (Nat.le_of_ble_eq_true rfl) dX1_changeable_10 13 rfl (fun m2 => ?_)
    exact x_at C h0 0 (by decide) rfl dX1_changeable_13
  · refine s_aload_n C rfl 0 rfl dX1_changeable_14 15 rfl ?_
    refine s_iload_n C rfl 1 rfl dX1_changeable_15 16 rfl ?_
    refine x_callS (enc := (xe_ en_r)) C 16 2 [vr_ v0, vi_ v1] (ctX1_liveAt C.2.2.2.2.2.2.2.2.1 N m v0 v1) q968 q969 q81 q970 hdX1_liveAt (Nat.le_of_ble_eq_true rfl) (Nat.le_of_ble_eq_true rfl) rfl (Nat.le_of_ble_eq_true rfl) dX1_changeable_16 19 rfl rfl (hen_x hen_r) (kk_x (kk_r (fun x2 m3 k1 n1 => ?_))) (kx_x C h0 he_r)
    exact x_aret C hret (Or.inl ⟨_, rfl⟩) rfl dX1_changeable_19
theorem hdX1_changeable : ((⟨"MasterTree", "changeable", "(LMasterTree$Master;I)LMasterTree$Entry;"⟩ : MethodName)).cls ≠ "java/lang/invoke/MethodHandle" ∧ ((⟨"MasterTree", "changeable", "(LMasterTree$Master;I)LMasterTree$Entry;"⟩ : MethodName)).cls ≠ "java/lang/invoke/VarHandle" ∧ (parseMethodDescriptor ((⟨"MasterTree", "changeable", "(LMasterTree$Master;I)LMasterTree$Entry;"⟩ : MethodName)).desc).map (fun d => d.parameters.length) = some 2 := ⟨by decide +kernel, by decide +kernel, by decide +kernel⟩
theorem ctX1_changeable {l : Launch} {g : GG} (hst : l.stackTraces = false) (N : Nat) (m : Mm) (v0 : Option Nat) (v1 : Int32) : ∀ v m' k n, fX1_changeable (gE_ g) N m v0 v1 = some (v, m', k, n) → Ct_ l g (⟨"MasterTree", "changeable", "(LMasterTree$Master;I)LMasterTree$Entry;"⟩ : MethodName) (ws_ (⟨"MasterTree", "changeable", "(LMasterTree$Master;I)LMasterTree$Entry;"⟩ : MethodName) cX1_changeable 2 (Option.some (Jvm.ClassFile.FieldType.object "MasterTree$Entry"))) 17 [vr_ v0, vi_ v1] m ((xe_ en_r) v) m' k n :=
  Ct_of (by decide +kernel) rfl hst (Nat.le_of_ble_eq_true rfl) rfl (fun E C hret h0 hin => wX1_changeable C hret h0 hin N m v0 v1 0 0)
theorem wX1_isIn_b51 {l : Launch} {g : GG} {E : Me_} (C : Cx_ l g E "MasterTree" cX1_isIn 5 13) (hret : (eT_ E).sig.returnType = (Option.some Jvm.ClassFile.FieldType.boolean)) (h0 : ∀ x ∈ (eC_ E).exceptionTable.toList, False) (hin : (eT_ E).name = "isIn") (N : Nat) : ∀ (m : Mm) (s0 : Int32) (k n : Nat), Sm_ l g E 5 en_i (fX1_isIn_b51 (gE_ g) N m s0) k n 51 [] [vi_ s0] m := by
  intro m s0 k n
  unfold fX1_isIn_b51
  exact x_zret C hret rfl dX1_isIn_51
theorem wX1_isIn_b38 {l : Launch} {g : GG} {E : Me_} (C : Cx_ l g E "MasterTree" cX1_isIn 5 13) (hret : (eT_ E).sig.returnType = (Option.some Jvm.ClassFile.FieldType.boolean)) (h0 : ∀ x ∈ (eC_ E).exceptionTable.toList, False) (hin : (eT_ E).name = "isIn") (N : Nat) : ∀ (m : Mm) (v2 : Int32) (s0 : Int32) (k n : Nat), Sm_ l g E 5 en_i (fX1_isIn_b38 (gE_ g) N m v2 s0) k n 38 [(2, vi_ v2)] [vi_ s0] m := by
  intro m v2 s0 k n
  unfold fX1_isIn_b38
  refine s_iload_n C rfl 0 rfl dX1_isIn_38 39 rfl ?_
  refine s_ishr C dX1_isIn_39 40 rfl ?_
  refine s_iconst C 1 rfl dX1_isIn_40 41 rfl ?_
  refine s_iand C dX1_isIn_41 42 rfl ?_
  refine s_iconst C 1 rfl dX1_isIn_42 43 rfl ?_
  refine s_icmp_ne C dX1_isIn_43 50 rfl 46 rfl (fun c_ => ?_) (fun c_ => ?_)
  · refine s_iconst C 1 rfl dX1_isIn_46 47 rfl ?_
    refine s_goto C (off := 4) 51 dX1_isIn_47 rfl ?_
    refine Sm_sub [] rfl ?_
    exact wX1_isIn_b51 C hret h0 hin N _ _ _ _
  · refine s_iconst C 0 rfl dX1_isIn_50 51 rfl ?_
    refine Sm_sub [] rfl ?_
    exact wX1_isIn_b51 C hret h0 hin N _ _ _ _
theorem wX1_isIn {l : Launch} {g : GG} {E : Me_} (C : Cx_ l g E "MasterTree" cX1_isIn 5 13) (hret : (eT_ E).sig.returnType = (Option.some Jvm.ClassFile.FieldType.boolean)) (h0 : ∀ x ∈ (eC_ E).exceptionTable.toList, False) (hin : (eT_ E).name = "isIn") (N : Nat) : ∀ (m : Mm) (v0 : Option Nat) (v1 : Option Nat) (v2 : Int32) (v3 : Int32) (k n : Nat), Sm_ l g E 5 en_i (fX1_isIn (gE_ g) N m v0 v1 v2 v3) k n 0 [(0, vr_ v0), (1, vr_ v1), (2, vi_ v2), (3, vi_ v3)] [] m := by
  intro m v0 v1 v2 v3 k n
  unfold fX1_isIn
  refine s_aload_n C rfl 0 rfl dX1_isIn_0 1 rfl ?_
  refine x_gr C 0 (RX1, TX1, 9) rfl 1 (Nat.le_of_ble_eq_true rfl) q446 (Or.inl rfl) rfl 1 rfl dX1_isIn_1 4 rfl (fun x1 => ?_)
  refine s_aload_n C rfl 1 rfl dX1_isIn_4 5 rfl ?_
  refine x_grN C 2 (RX3, TX3, 9) rfl 3 (Nat.le_of_ble_eq_true rfl) q254 rfl rfl 3 rfl dX1_isIn_5 8 rfl (fun x2 => ?_)
  refine x_giN C 6 (RX7, TX7, 9) rfl 7 (Nat.le_of_ble_eq_true rfl) q1763 rfl rfl 7 rfl dX1_isIn_8 11 rfl (fun x3 => ?_)
  refine x_ck (fun hb_ hb0_ => ?_)
  refine x_callF (enc := en_r) C 12 1 [vi_ x3] 13 (ctJ2_get C.2.2.2.2.2.2.2.2.1 N m x1 x3) hb_ hb0_ rfl rfl rfl fw_3 q888 q891 q893 q84 q895 hx2 (Nat.le_of_ble_eq_true rfl) (Nat.le_of_ble_eq_true rfl) rfl (Nat.le_of_ble_eq_true rfl) dX1_isIn_11 16 rfl rfl hen_r (kk_r (fun x4 m1 k1 n1 => ?_)) (kx_n he_r)
  refine x_cc C "MasterTree$Klass" [6] (fun k hk => by rw [List.mem_singleton.mp hk]; exact ⟨rfl, Or.inr rfl⟩) q906 dX1_isIn_16 19 rfl ?_
  refine s_astore C (Nat.le_of_ble_eq_true rfl) [2, 3] rfl rfl dX1_isIn_19 21 rfl ?_
  refine s_iload_n C rfl 2 rfl dX1_isIn_21 22 rfl ?_
  refine s_if_eq C dX1_isIn_22 33 rfl 25 rfl (fun c_ => ?_) (fun c_ => ?_)
  · refine s_aload C 0 rfl dX1_isIn_33 35 rfl ?_
    refine x_giN C 5 (RX6, TX6, 3) rfl 2 (Nat.le_of_ble_eq_true rfl) q919 rfl rfl 6 rfl dX1_isIn_35 38 rfl (fun x5 => ?_)
    refine Sm_sub [1] rfl ?_
    exact wX1_isIn_b38 C hret h0 hin N _ _ _ _ _
  · refine s_aload C 0 rfl dX1_isIn_25 27 rfl ?_
    refine x_giN C 5 (RX6, TX6, 3) rfl 1 (Nat.le_of_ble_eq_true rfl) q917 rfl rfl 6 rfl dX1_isIn_27 30 rfl (fun x6 => ?_)
    refine s_goto C (off := 8) 38 dX1_isIn_30 rfl ?_
    refine Sm_sub [1] rfl ?_
    exact wX1_isIn_b38 C hret h0 hin N _ _ _ _ _
theorem hdX1_isIn : ((⟨"MasterTree", "isIn", "(LMasterTree$Entry;IZ)Z"⟩ : MethodName)).cls ≠ "java/lang/invoke/MethodHandle" ∧ ((⟨"MasterTree", "isIn", "(LMasterTree$Entry;IZ)Z"⟩ : MethodName)).cls ≠ "java/lang/invoke/VarHandle" ∧ (parseMethodDescriptor ((⟨"MasterTree", "isIn", "(LMasterTree$Entry;IZ)Z"⟩ : MethodName)).desc).map (fun d => d.parameters.length) = some 3 := ⟨by decide +kernel, by decide +kernel, by decide +kernel⟩
theorem ctX1_isIn {l : Launch} {g : GG} (hst : l.stackTraces = false) (N : Nat) (m : Mm) (v0 : Option Nat) (v1 : Option Nat) (v2 : Int32) (v3 : Int32) : ∀ v m' k n, fX1_isIn (gE_ g) N m v0 v1 v2 v3 = some (v, m', k, n) → Ct_ l g (⟨"MasterTree", "isIn", "(LMasterTree$Entry;IZ)Z"⟩ : MethodName) (ws_ (⟨"MasterTree", "isIn", "(LMasterTree$Entry;IZ)Z"⟩ : MethodName) cX1_isIn 5 (Option.some Jvm.ClassFile.FieldType.boolean)) 13 [vr_ v0, vr_ v1, vi_ v2, vi_ v3] m (en_i v) m' k n :=
  Ct_of (by decide +kernel) rfl hst (Nat.le_of_ble_eq_true rfl) rfl (fun E C hret h0 hin => wX1_isIn C hret h0 hin N m v0 v1 v2 v3 0 0)
theorem wJ40_isEmpty_t22_b31 {l : Launch} {g : GG} {E : Me_} (C : Cx_ l g E "java/util/TreeMap$NavigableSubMap$EntrySetView" cJ40_isEmpty 2 16) (hret : (eT_ E).sig.returnType = (Option.some Jvm.ClassFile.FieldType.boolean)) (h0 : ∀ x ∈ (eC_ E).exceptionTable.toList, False) (hin : (eT_ E).name = "isEmpty") (N : Nat) : ∀ (m : Mm) (s0 : Int32) (k n : Nat), Sm_ l g E 2 en_i (fJ40_isEmpty_t22_b31 (gE_ g) N m s0) k n 31 [] [vi_ s0] m := by
  intro m s0 k n
  unfold fJ40_isEmpty_t22_b31
  exact x_zret C hret rfl dJ40_isEmpty_31
theorem wJ40_isEmpty_t22_b26 {l : Launch} {g : GG} {E : Me_} (C : Cx_ l g E "java/util/TreeMap$NavigableSubMap$EntrySetView" cJ40_isEmpty 2 16) (hret : (eT_ E).sig.returnType = (Option.some Jvm.ClassFile.FieldType.boolean)) (h0 : ∀ x ∈ (eC_ E).exceptionTable.toList, False) (hin : (eT_ E).name = "isEmpty") (N : Nat) : ∀ (m : Mm) (k n : Nat), Sm_ l g E 2 en_i (fJ40_isEmpty_t22_b26 (gE_ g) N m) k n 26 [] [] m := by
  intro m k n
  unfold fJ40_isEmpty_t22_b26
  refine s_iconst C 1 rfl dJ40_isEmpty_26 27 rfl ?_
  refine s_goto C (off := 4) 31 dJ40_isEmpty_27 rfl ?_
  exact wJ40_isEmpty_t22_b31 C hret h0 hin N _ _ _ _
theorem wJ40_isEmpty_t22 {l : Launch} {g : GG} {E : Me_} (C : Cx_ l g E "java/util/TreeMap$NavigableSubMap$EntrySetView" cJ40_isEmpty 2 16) (hret : (eT_ E).sig.returnType = (Option.some Jvm.ClassFile.FieldType.boolean)) (h0 : ∀ x ∈ (eC_ E).exceptionTable.toList, False) (hin : (eT_ E).name = "isEmpty") (N : Nat) : ∀ (m : Mm) (v0 : Option Nat) (k n : Nat), Sm_ l g E 2 en_i (fJ40_isEmpty_t22 (gE_ g) N m v0) k n 0 [(0, vr_ v0)] [] m := by
  intro m v0 k n
  unfold fJ40_isEmpty_t22
  refine s_aload_n C rfl 0 rfl dJ40_isEmpty_0 1 rfl ?_
  refine x_gr C 21 (RJ41, TJ41, 4) rfl 2 (Nat.le_of_ble_eq_true rfl) q2081 (Or.inl rfl) rfl 22 rfl dJ40_isEmpty_1 4 rfl (fun x1 => ?_)
  refine x_ck (fun hb_ hb0_ => ?_)
  refine x_callU (enc := en_r) (owner := "java/util/TreeMap$NavigableSubMap") C 15 0 [] 21 (ctJ38_absLowest_t21 C.2.2.2.2.2.2.2.2.1 N m x1) hb_ hb0_ rfl rfl q2394 q3730 q3731 q1028 q131 q1029 rfl ⟨by decide +kernel, by decide +kernel, by decide +kernel⟩ (Nat.le_of_ble_eq_true rfl) (Nat.le_of_ble_eq_true rfl) rfl (Nat.le_of_ble_eq_true rfl) dJ40_isEmpty_4 7 rfl rfl hen_r (kk_r (fun x2 m1 k1 n1 => ?_)) (kx_n he_r)
  refine s_astore_n C rfl (Nat.le_of_ble_eq_true rfl) [0] rfl rfl dJ40_isEmpty_7 8 rfl ?_
  refine s_aload_n C rfl 0 rfl dJ40_isEmpty_8 9 rfl ?_
  refine s_ifnull C dJ40_isEmpty_9 26 rfl 12 rfl (fun c_ => ?_) (fun c_ => ?_)
  · refine Sm_sub [] rfl ?_
    exact wJ40_isEmpty_t22_b26 C hret h0 hin N _ _ _
  · refine s_aload_n C rfl 1 rfl dJ40_isEmpty_12 13 rfl ?_
    refine x_gr C 21 (RJ41, TJ41, 4) rfl 2 (Nat.le_of_ble_eq_true rfl) q2081 (Or.inl rfl) rfl 22 rfl dJ40_isEmpty_13 16 rfl (fun x3 => ?_)
    refine s_aload_n C rfl 0 rfl dJ40_isEmpty_16 17 rfl ?_
    refine x_gr C 15 (RJ37, TJ37, 6) rfl 0 (Nat.le_of_ble_eq_true rfl) q1895 (Or.inl rfl) rfl 16 rfl dJ40_isEmpty_17 20 rfl (fun x4 => ?_)
    refine x_ck (fun hb_ hb0_ => ?_)
    refine x_callU (enc := en_i) (owner := "java/util/TreeMap$NavigableSubMap") C 14 1 [vr_ x4] 21 (ctJ38_tooHigh_t21 C.2.2.2.2.2.2.2.2.1 N m1 x3 x4) hb_ hb0_ rfl rfl q2395 q1334 q1335 q1333 q131 q1336 rfl ⟨by decide +kernel, by decide +kernel, by decide +kernel⟩ (Nat.le_of_ble_eq_true rfl) (Nat.le_of_ble_eq_true rfl) rfl (Nat.le_of_ble_eq_true rfl) dJ40_isEmpty_20 23 rfl rfl hen_i (kk_i (fun x5 m2 k1 n1 => ?_)) (kx_n he_i)
    refine s_if_eq C dJ40_isEmpty_23 30 rfl 26 rfl (fun c_ => ?_) (fun c_ => ?_)
    · refine s_iconst C 0 rfl dJ40_isEmpty_30 31 rfl ?_
      refine Sm_sub [] rfl ?_
      exact wJ40_isEmpty_t22_b31 C hret h0 hin N _ _ _ _
    · refine Sm_sub [] rfl ?_
      exact wJ40_isEmpty_t22_b26 C hret h0 hin N _ _ _
theorem hdJ40_isEmpty_t22 : ((⟨"java/util/TreeMap$NavigableSubMap$EntrySetView", "isEmpty", "()Z"⟩ : MethodName)).cls ≠ "java/lang/invoke/MethodHandle" ∧ ((⟨"java/util/TreeMap$NavigableSubMap$EntrySetView", "isEmpty", "()Z"⟩ : MethodName)).cls ≠ "java/lang/invoke/VarHandle" ∧ (parseMethodDescriptor ((⟨"java/util/TreeMap$NavigableSubMap$EntrySetView", "isEmpty", "()Z"⟩ : MethodName)).desc).map (fun d => d.parameters.length) = some 0 := ⟨by decide +kernel, by decide +kernel, by decide +kernel⟩
theorem ctJ40_isEmpty_t22 {l : Launch} {g : GG} (hst : l.stackTraces = false) (N : Nat) (m : Mm) (v0 : Option Nat) : ∀ v m' k n, fJ40_isEmpty_t22 (gE_ g) N m v0 = some (v, m', k, n) → Ct_ l g (⟨"java/util/TreeMap$NavigableSubMap$EntrySetView", "isEmpty", "()Z"⟩ : MethodName) (ws_ (⟨"java/util/TreeMap$NavigableSubMap$EntrySetView", "isEmpty", "()Z"⟩ : MethodName) cJ40_isEmpty 2 (Option.some Jvm.ClassFile.FieldType.boolean)) 16 [vr_ v0] m (en_i v) m' k n :=
  Ct_of (by decide +kernel) rfl hst (Nat.le_of_ble_eq_true rfl) rfl (fun E C hret h0 hin => wJ40_isEmpty_t22 C hret h0 hin N m v0 0 0)
theorem wJ3_isEmpty_t15_b12 {l : Launch} {g : GG} {E : Me_} (C : Cx_ l g E "java/util/AbstractMap" cJ3_isEmpty 1 11) (hret : (eT_ E).sig.returnType = (Option.some Jvm.ClassFile.FieldType.boolean)) (h0 : ∀ x ∈ (eC_ E).exceptionTable.toList, False) (hin : (eT_ E).name = "isEmpty") (N : Nat) : ∀ (m : Mm) (s0 : Int32) (k n : Nat), Sm_ l g E 1 en_i (fJ3_isEmpty_t15_b12 (gE_ g) N m s0) k n 12 [] [vi_ s0] m := by
  intro m s0 k n
  unfold fJ3_isEmpty_t15_b12
  exact x_zret C hret rfl dJ3_isEmpty_12
theorem wJ3_isEmpty_t15 {l : Launch} {g : GG} {E : Me_} (C : Cx_ l g E "java/util/AbstractMap" cJ3_isEmpty 1 11) (hret : (eT_ E).sig.returnType = (Option.some Jvm.ClassFile.FieldType.boolean)) (h0 : ∀ x ∈ (eC_ E).exceptionTable.toList, False) (hin : (eT_ E).name = "isEmpty") (N : Nat) : ∀ (m : Mm) (v0 : Option Nat) (k n : Nat), Sm_ l g E 1 en_i (fJ3_isEmpty_t15 (gE_ g) N m v0) k n 0 [(0, vr_ v0)] [] m := by
  intro m v0 k n
  unfold fJ3_isEmpty_t15
  refine s_aload_n C rfl 0 rfl dJ3_isEmpty_0 1 rfl ?_
  refine x_ck (fun hb_ hb0_ => ?_)
  refine x_callA (enc := en_i) (owner := "java/util/AbstractMap") C 10 0 [] 15 (ctJ4_size C.2.2.2.2.2.2.2.2.1 N m v0) hb_ hb0_ rfl rfl q2325 q2327 q2328 q2329 q87 q2330 q2375 ⟨by decide +kernel, by decide +kernel, by decide +kernel⟩ (Nat.le_of_ble_eq_true rfl) (Nat.le_of_ble_eq_true rfl) rfl (Nat.le_of_ble_eq_true rfl) dJ3_isEmpty_1 4 rfl rfl hen_i (kk_i (fun x1 m1 k1 n1 => ?_)) (kx_n he_i)
  refine s_if_ne C dJ3_isEmpty_4 11 rfl 7 rfl (fun c_ => ?_) (fun c_ => ?_)
  · refine s_iconst C 1 rfl dJ3_isEmpty_7 8 rfl ?_
    refine s_goto C (off := 4) 12 dJ3_isEmpty_8 rfl ?_
    refine Sm_sub [] rfl ?_
    exact wJ3_isEmpty_t15_b12 C hret h0 hin N _ _ _ _
  · refine s_iconst C 0 rfl dJ3_isEmpty_11 12 rfl ?_
    refine Sm_sub [] rfl ?_
    exact wJ3_isEmpty_t15_b12 C hret h0 hin N _ _ _ _
theorem hdJ3_isEmpty_t15 : ((⟨"java/util/AbstractMap", "isEmpty", "()Z"⟩ : MethodName)).cls ≠ "java/lang/invoke/MethodHandle" ∧ ((⟨"java/util/AbstractMap", "isEmpty", "()Z"⟩ : MethodName)).cls ≠ "java/lang/invoke/VarHandle" ∧ (parseMethodDescriptor ((⟨"java/util/AbstractMap", "isEmpty", "()Z"⟩ : MethodName)).desc).map (fun d => d.parameters.length) = some 0 := ⟨by decide +kernel, by decide +kernel, by decide +kernel⟩
theorem ctJ3_isEmpty_t15 {l : Launch} {g : GG} (hst : l.stackTraces = false) (N : Nat) (m : Mm) (v0 : Option Nat) : ∀ v m' k n, fJ3_isEmpty_t15 (gE_ g) N m v0 = some (v, m', k, n) → Ct_ l g (⟨"java/util/AbstractMap", "isEmpty", "()Z"⟩ : MethodName) (ws_ (⟨"java/util/AbstractMap", "isEmpty", "()Z"⟩ : MethodName) cJ3_isEmpty 1 (Option.some Jvm.ClassFile.FieldType.boolean)) 11 [vr_ v0] m (en_i v) m' k n :=
  Ct_of (by decide +kernel) rfl hst (Nat.le_of_ble_eq_true rfl) rfl (fun E C hret h0 hin => wJ3_isEmpty_t15 C hret h0 hin N m v0 0 0)
theorem wJ38_isEmpty_t21_b33 {l : Launch} {g : GG} {E : Me_} (C : Cx_ l g E "java/util/TreeMap$NavigableSubMap" cJ38_isEmpty 1 17) (hret : (eT_ E).sig.returnType = (Option.some Jvm.ClassFile.FieldType.boolean)) (h0 : ∀ x ∈ (eC_ E).exceptionTable.toList, False) (hin : (eT_ E).name = "isEmpty") (N : Nat) : ∀ (m : Mm) (s0 : Int32) (k n : Nat), Sm_ l g E 1 en_i (fJ38_isEmpty_t21_b33 (gE_ g) N m s0) k n 33 [] [vi_ s0] m := by
  intro m s0 k n
  unfold fJ38_isEmpty_t21_b33
  exact x_zret C hret rfl dJ38_isEmpty_33
theorem wJ38_isEmpty_t21_b24 {l : Launch} {g : GG} {E : Me_} (C : Cx_ l g E "java/util/TreeMap$NavigableSubMap" cJ38_isEmpty 1 17) (hret : (eT_ E).sig.returnType = (Option.some Jvm.ClassFile.FieldType.boolean)) (h0 : ∀ x ∈ (eC_ E).exceptionTable.toList, False) (hin : (eT_ E).name = "isEmpty") (N : Nat) : ∀ (m : Mm) (v0 : Option Nat) (k n : Nat), Sm_ l g E 1 en_i (fJ38_isEmpty_t21_b24 (gE_ g) N m v0) k n 24 [(0, vr_ v0)] [] m := by
  intro m v0 k n
  unfold fJ38_isEmpty_t21_b24
  refine s_aload_n C rfl 0 rfl dJ38_isEmpty_24 25 rfl ?_
  refine x_ck (fun hb_ hb0_ => ?_)
  refine x_callA (enc := en_r) (owner := "java/util/AbstractMap") C 14 0 [] 21 (ctJ39_entrySet C.2.2.2.2.2.2.2.2.1 N m v0) hb_ hb0_ rfl rfl q2335 q2336 q2337 q2067 q132 q2068 q2063 ⟨by decide +kernel, by decide +kernel, by decide +kernel⟩ (Nat.le_of_ble_eq_true rfl) (Nat.le_of_ble_eq_true rfl) rfl (Nat.le_of_ble_eq_true rfl) dJ38_isEmpty_25 28 rfl rfl hen_r (kk_r (fun x1 m1 k1 n1 => ?_)) (kx_n he_r)
  refine x_ck (fun hb_ hb0_ => ?_)
  refine x_callF (enc := en_i) C 16 0 [] 22 (ctJ40_isEmpty_t22 C.2.2.2.2.2.2.2.2.1 N m1 x1) hb_ hb0_ rfl rfl rfl fw_47 q2386 q2389 q2391 q133 q2393 hx18 (Nat.le_of_ble_eq_true rfl) (Nat.le_of_ble_eq_true rfl) rfl (Nat.le_of_ble_eq_true rfl) dJ38_isEmpty_28 33 rfl rfl hen_i (kk_i (fun x2 m2 k1 n1 => ?_)) (kx_n he_i)
  refine Sm_sub [] rfl ?_
  exact wJ38_isEmpty_t21_b33 C hret h0 hin N _ _ _ _
theorem wJ38_isEmpty_t21 {l : Launch} {g : GG} {E : Me_} (C : Cx_ l g E "java/util/TreeMap$NavigableSubMap" cJ38_isEmpty 1 17) (hret : (eT_ E).sig.returnType = (Option.some Jvm.ClassFile.FieldType.boolean)) (h0 : ∀ x ∈ (eC_ E).exceptionTable.toList, False) (hin : (eT_ E).name = "isEmpty") (N : Nat) : ∀ (m : Mm) (v0 : Option Nat) (k n : Nat), Sm_ l g E 1 en_i (fJ38_isEmpty_t21 (gE_ g) N m v0) k n 0 [(0, vr_ v0)] [] m := by
  intro m v0 k n
  unfold fJ38_isEmpty_t21
  refine s_aload_n C rfl 0 rfl dJ38_isEmpty_0 1 rfl ?_
  refine x_gi C 20 (RJ39, TJ39, 12) rfl 3 (Nat.le_of_ble_eq_true rfl) q2016 (Or.inl rfl) rfl 21 rfl dJ38_isEmpty_1 4 rfl (fun x1 => ?_)
  refine s_if_eq C dJ38_isEmpty_4 24 rfl 7 rfl (fun c_ => ?_) (fun c_ => ?_)
  · exact wJ38_isEmpty_t21_b24 C hret h0 hin N _ _ _ _
  · refine s_aload_n C rfl 0 rfl dJ38_isEmpty_7 8 rfl ?_
    refine x_gi C 20 (RJ39, TJ39, 12) rfl 4 (Nat.le_of_ble_eq_true rfl) q2018 (Or.inl rfl) rfl 21 rfl dJ38_isEmpty_8 11 rfl (fun x2 => ?_)
    refine s_if_eq C dJ38_isEmpty_11 24 rfl 14 rfl (fun c_ => ?_) (fun c_ => ?_)
    · exact wJ38_isEmpty_t21_b24 C hret h0 hin N _ _ _ _
    · refine s_aload_n C rfl 0 rfl dJ38_isEmpty_14 15 rfl ?_
      refine x_gr C 20 (RJ39, TJ39, 12) rfl 0 (Nat.le_of_ble_eq_true rfl) q2012 (Or.inl rfl) rfl 21 rfl dJ38_isEmpty_15 18 rfl (fun x3 => ?_)
      refine x_ck (fun hb_ hb0_ => ?_)
      refine x_callU (enc := en_i) (owner := "java/util/AbstractMap") C 11 0 [] 15 (ctJ3_isEmpty_t15 C.2.2.2.2.2.2.2.2.1 N m x3) hb_ hb0_ rfl rfl q2381 q2382 q2384 q2322 q86 q2324 rfl ⟨by decide +kernel, by decide +kernel, by decide +kernel⟩ (Nat.le_of_ble_eq_true rfl) (Nat.le_of_ble_eq_true rfl) rfl (Nat.le_of_ble_eq_true rfl) dJ38_isEmpty_18 21 rfl rfl hen_i (kk_i (fun x4 m1 k1 n1 => ?_)) (kx_n he_i)
      refine s_goto C (off := 12) 33 dJ38_isEmpty_21 rfl ?_
      refine Sm_sub [] rfl ?_
      exact wJ38_isEmpty_t21_b33 C hret h0 hin N _ _ _ _
theorem hdJ38_isEmpty_t21 : ((⟨"java/util/TreeMap$NavigableSubMap", "isEmpty", "()Z"⟩ : MethodName)).cls ≠ "java/lang/invoke/MethodHandle" ∧ ((⟨"java/util/TreeMap$NavigableSubMap", "isEmpty", "()Z"⟩ : MethodName)).cls ≠ "java/lang/invoke/VarHandle" ∧ (parseMethodDescriptor ((⟨"java/util/TreeMap$NavigableSubMap", "isEmpty", "()Z"⟩ : MethodName)).desc).map (fun d => d.parameters.length) = some 0 := ⟨by decide +kernel, by decide +kernel, by decide +kernel⟩
theorem ctJ38_isEmpty_t21 {l : Launch} {g : GG} (hst : l.stackTraces = false) (N : Nat) (m : Mm) (v0 : Option Nat) : ∀ v m' k n, fJ38_isEmpty_t21 (gE_ g) N m v0 = some (v, m', k, n) → Ct_ l g (⟨"java/util/TreeMap$NavigableSubMap", "isEmpty", "()Z"⟩ : MethodName) (ws_ (⟨"java/util/TreeMap$NavigableSubMap", "isEmpty", "()Z"⟩ : MethodName) cJ38_isEmpty 1 (Option.some Jvm.ClassFile.FieldType.boolean)) 17 [vr_ v0] m (en_i v) m' k n :=
  Ct_of (by decide +kernel) rfl hst (Nat.le_of_ble_eq_true rfl) rfl (fun E C hret h0 hin => wJ38_isEmpty_t21 C hret h0 hin N m v0 0 0)
theorem wX1_addValue_b87 {l : Launch} {g : GG} {E : Me_} (C : Cx_ l g E "MasterTree" cX1_addValue 9 25) (hret : (eT_ E).sig.returnType = (Option.some Jvm.ClassFile.FieldType.int)) (h0 : ∀ x ∈ (eC_ E).exceptionTable.toList, False) (hin : (eT_ E).name = "addValue") (N : Nat) : ∀ (m : Mm) (v0 : Option Nat) (v2 : Int32) (v3 : Int32) (v4 : Int32) (v5 : Option Nat) (v6 : Option Nat) (s0 : Int32) (k n : Nat), Sm_ l g E 9 (xe_ en_i) (fX1_addValue_b87 (gE_ g) N m v0 v2 v3 v4 v5 v6 s0) k n 87 [(0, vr_ v0), (2, vi_ v2), (3, vi_ v3), (4, vi_ v4), (5, vr_ v5), (6, vr_ v6)] [vi_ s0] m := by
  intro m v0 v2 v3 v4 v5 v6 s0 k n
  unfold fX1_addValue_b87
  refine s_istore C (Nat.le_of_ble_eq_true rfl) [0, 1, 2, 3, 4, 5] rfl rfl dX1_addValue_87 89 rfl ?_
  refine s_iload C 0 rfl dX1_addValue_89 91 rfl ?_
  refine x_lsw C 22 22 rfl dX1_addValue_91 94 rfl ?_
  refine x_callS (enc := (xe_ en_v)) C 10 2 [vi_ s0, vr_ (some (gE_ g (100 + 22)))] (ctX1_must C.2.2.2.2.2.2.2.2.1 N m s0 (some (gE_ g (100 + 22)))) q510 q511 q81 q512 hdX1_must (Nat.le_of_ble_eq_true rfl) (Nat.le_of_ble_eq_true rfl) rfl (Nat.le_of_ble_eq_true rfl) dX1_addValue_94 97 rfl rfl (hen_x hen_v) (kk_x (kk_v (fun m1 k1 n1 => ?_))) (kx_x C h0 he_v)
  refine s_aload_n C rfl 1 rfl dX1_addValue_97 98 rfl ?_
  refine s_aload C 5 rfl dX1_addValue_98 100 rfl ?_
  refine x_gs C 9 (vr_ (some (gE_ g 7))) rfl q2424 rfl dX1_addValue_100 103 rfl ?_
  refine s_iload_n C rfl 2 rfl dX1_addValue_103 104 rfl ?_
  refine s_iload_n C rfl 3 rfl dX1_addValue_104 105 rfl ?_
  refine s_iload C 4 rfl dX1_addValue_105 107 rfl ?_
  refine x_ck (fun hb_ hb0_ => ?_)
  refine x_callV (enc := en_v) C 24 5 [vr_ v5, vr_ (some (gE_ g 7)), vi_ v2, vi_ v3, vi_ v4] 1 (ctX1_makes_2 C.2.2.2.2.2.2.2.2.1 N m1 v0 v5 (some (gE_ g 7)) v2 v3 v4) hb_ hb0_ rfl rfl q2426 q2428 qs25 q81 q2429 hdX1_makes_2 (Nat.le_of_ble_eq_true rfl) (Nat.le_of_ble_eq_true rfl) rfl (Nat.le_of_ble_eq_true rfl) dX1_addValue_107 110 rfl rfl hen_v (kk_v (fun m2 k1 n1 => ?_)) (kx_n he_v)
  refine s_aload C 6 rfl dX1_addValue_110 112 rfl ?_
  refine s_iload_n C rfl 3 rfl dX1_addValue_112 113 rfl ?_
  refine x_ck (fun hb_ hb0_ => ?_)
  refine x_callV (enc := en_r) C 18 1 [vi_ v3] 3 (ctX3_valuesOf C.2.2.2.2.2.2.2.2.1 N m2 v6 v3) hb_ hb0_ rfl rfl q2315 q1988 q1989 q88 q1990 hdX3_valuesOf (Nat.le_of_ble_eq_true rfl) (Nat.le_of_ble_eq_true rfl) rfl (Nat.le_of_ble_eq_true rfl) dX1_addValue_113 116 rfl rfl hen_r (kk_r (fun x1 m3 k1 n1 => ?_)) (kx_n he_r)
  refine x_ck (fun hb_ hb0_ => ?_)
  refine x_callF (enc := en_i) C 18 0 [] 21 (ctJ38_size_t21 C.2.2.2.2.2.2.2.2.1 N m3 x1) hb_ hb0_ rfl rfl rfl fw_45 q2431 q2372 q2332 q131 q2333 hx17 (Nat.le_of_ble_eq_true rfl) (Nat.le_of_ble_eq_true rfl) rfl (Nat.le_of_ble_eq_true rfl) dX1_addValue_116 121 rfl rfl hen_i (kk_i (fun x2 m4 k1 n1 => ?_)) (kx_n he_i)
  exact x_iret C hret rfl dX1_addValue_121
theorem wX1_addValue_b82 {l : Launch} {g : GG} {E : Me_} (C : Cx_ l g E "MasterTree" cX1_addValue 9 25) (hret : (eT_ E).sig.returnType = (Option.some Jvm.ClassFile.FieldType.int)) (h0 : ∀ x ∈ (eC_ E).exceptionTable.toList, False) (hin : (eT_ E).name = "addValue") (N : Nat) : ∀ (m : Mm) (v0 : Option Nat) (v2 : Int32) (v3 : Int32) (v4 : Int32) (v5 : Option Nat) (v6 : Option Nat) (k n : Nat), Sm_ l g E 9 (xe_ en_i) (fX1_addValue_b82 (gE_ g) N m v0 v2 v3 v4 v5 v6) k n 82 [(0, vr_ v0), (2, vi_ v2), (3, vi_ v3), (4, vi_ v4), (5, vr_ v5), (6, vr_ v6)] [] m := by
  intro m v0 v2 v3 v4 v5 v6 k n
  unfold fX1_addValue_b82
  refine s_iconst C 1 rfl dX1_addValue_82 83 rfl ?_
  refine s_goto C (off := 4) 87 dX1_addValue_83 rfl ?_
  exact wX1_addValue_b87 C hret h0 hin N _ _ _ _ _ _ _ _ _ _
theorem wX1_addValue_b86 {l : Launch} {g : GG} {E : Me_} (C : Cx_ l g E "MasterTree" cX1_addValue 9 25) (hret : (eT_ E).sig.returnType = (Option.some Jvm.ClassFile.FieldType.int)) (h0 : ∀ x ∈ (eC_ E).exceptionTable.toList, False) (hin : (eT_ E).name = "addValue") (N : Nat) : ∀ (m : Mm) (v0 : Option Nat) (v2 : Int32) (v3 : Int32) (v4 : Int32) (v5 : Option Nat) (v6 : Option Nat) (k n : Nat), Sm_ l g E 9 (xe_ en_i) (fX1_addValue_b86 (gE_ g) N m v0 v2 v3 v4 v5 v6) k n 86 [(0, vr_ v0), (2, vi_ v2), (3, vi_ v3), (4, vi_ v4), (5, vr_ v5), (6, vr_ v6)] [] m := by
  intro m v0 v2 v3 v4 v5 v6 k n
  unfold fX1_addValue_b86
  refine s_iconst C 0 rfl dX1_addValue_86 87 rfl ?_
  exact wX1_addValue_b87 C hret h0 hin N _ _ _ _ _ _ _ _ _ _
theorem wX1_addValue {l : Launch} {g : GG} {E : Me_} (C : Cx_ l g E "MasterTree" cX1_addValue 9 25) (hret : (eT_ E).sig.returnType = (Option.some Jvm.ClassFile.FieldType.int)) (h0 : ∀ x ∈ (eC_ E).exceptionTable.toList, False) (hin : (eT_ E).name = "addValue") (N : Nat) : ∀ (m : Mm) (v0 : Option Nat) (v1 : Int32) (v2 : Int32) (v3 : Int32) (v4 : Int32) (k n : Nat), Sm_ l g E 9 (xe_ en_i) (fX1_addValue (gE_ g) N m v0 v1 v2 v3 v4) k n 0 [(0, vr_ v0), (1, vi_ v1), (2, vi_ v2), (3, vi_ v3), (4, vi_ v4)] [] m := by
  intro m v0 v1 v2 v3 v4 k n
  unfold fX1_addValue
  refine s_aload_n C rfl 0 rfl dX1_addValue_0 1 rfl ?_
  refine s_iload_n C rfl 1 rfl dX1_addValue_1 2 rfl ?_
  refine x_ck (fun hb_ hb0_ => ?_)
  refine x_callV (enc := (xe_ en_r)) C 17 1 [vi_ v1] 1 (ctX1_at C.2.2.2.2.2.2.2.2.1 N m v0 v1) hb_ hb0_ rfl rfl q934 q936 qs5 q81 q937 hdX1_at (Nat.le_of_ble_eq_true rfl) (Nat.le_of_ble_eq_true rfl) rfl (Nat.le_of_ble_eq_true rfl) dX1_addValue_2 5 rfl rfl (hen_x hen_r) (kk_x (kk_r (fun x1 m1 k1 n1 => ?_))) (kx_x C h0 he_r)
  refine s_astore C (Nat.le_of_ble_eq_true rfl) [0, 2, 3, 4] rfl rfl dX1_addValue_5 7 rfl ?_
  refine s_aload C 0 rfl dX1_addValue_7 9 rfl ?_
  refine s_iload_n C rfl 2 rfl dX1_addValue_9 10 rfl ?_
  refine x_callS (enc := (xe_ en_r)) C 17 2 [vr_ x1, vi_ v2] (ctX1_changeable C.2.2.2.2.2.2.2.2.1 N m1 x1 v2) q2306 q2307 q81 q2308 hdX1_changeable (Nat.le_of_ble_eq_true rfl) (Nat.le_of_ble_eq_true rfl) rfl (Nat.le_of_ble_eq_true rfl) dX1_addValue_10 13 rfl rfl (hen_x hen_r) (kk_x (kk_r (fun x2 m2 k1 n1 => ?_))) (kx_x C h0 he_r)
  refine s_astore C (Nat.le_of_ble_eq_true rfl) [0, 1, 2, 3, 4] rfl rfl dX1_addValue_13 15 rfl ?_
  refine s_aload_n C rfl 2 rfl dX1_addValue_15 16 rfl ?_
  refine s_iload_n C rfl 4 rfl dX1_addValue_16 17 rfl ?_
  refine x_ck (fun hb_ hb0_ => ?_)
  refine x_callV (enc := (xe_ en_r)) C 17 1 [vi_ v3] 1 (ctX1_attributeAt C.2.2.2.2.2.2.2.2.1 N m2 v0 v3) hb_ hb0_ rfl rfl q948 q950 qs6 q81 q951 hdX1_attributeAt (Nat.le_of_ble_eq_true rfl) (Nat.le_of_ble_eq_true rfl) rfl (Nat.le_of_ble_eq_true rfl) dX1_addValue_17 20 rfl rfl (hen_x hen_r) (kk_x (kk_r (fun x3 m3 k1 n1 => ?_))) (kx_x C h0 he_r)
  refine s_astore C (Nat.le_of_ble_eq_true rfl) [0, 1, 2, 3, 4, 5] rfl rfl dX1_addValue_20 22 rfl ?_
  refine s_iload C 6 rfl dX1_addValue_22 24 rfl ?_
  refine s_iconst C 0 rfl dX1_addValue_24 25 rfl ?_
  refine s_sipush C 999 rfl dX1_addValue_25 28 rfl ?_
  refine x_callS (enc := (xe_ en_v)) C 16 3 [vi_ v4, vi_ 0, vi_ 999] (ctX1_isWithin C.2.2.2.2.2.2.2.2.1 N m3 v4 0 999) q953 q954 q81 q955 hdX1_isWithin (Nat.le_of_ble_eq_true rfl) (Nat.le_of_ble_eq_true rfl) rfl (Nat.le_of_ble_eq_true rfl) dX1_addValue_28 31 rfl rfl (hen_x hen_v) (kk_x (kk_v (fun m4 k1 n1 => ?_))) (kx_x C h0 he_v)
  refine s_aload_n C rfl 3 rfl dX1_addValue_31 32 rfl ?_
  refine s_aload C 2 rfl dX1_addValue_32 34 rfl ?_
  refine s_iload_n C rfl 4 rfl dX1_addValue_34 35 rfl ?_
  refine x_ck (fun hb_ hb0_ => ?_)
  refine x_callV (enc := (xe_ en_v)) C 19 2 [vr_ x1, vi_ v2] 1 (ctX1_mayWrite C.2.2.2.2.2.2.2.2.1 N m4 v0 x1 v2) hb_ hb0_ rfl rfl q981 q983 qs7 q81 q984 hdX1_mayWrite (Nat.le_of_ble_eq_true rfl) (Nat.le_of_ble_eq_true rfl) rfl (Nat.le_of_ble_eq_true rfl) dX1_addValue_35 38 rfl rfl (hen_x hen_v) (kk_x (kk_v (fun m5 k1 n1 => ?_))) (kx_x C h0 he_v)
  refine s_aload_n C rfl 3 rfl dX1_addValue_38 39 rfl ?_
  refine s_aload C 1 rfl dX1_addValue_39 41 rfl ?_
  refine s_iload_n C rfl 5 rfl dX1_addValue_41 42 rfl ?_
  refine s_iconst C 0 rfl dX1_addValue_42 43 rfl ?_
  refine x_ck (fun hb_ hb0_ => ?_)
  refine x_callV (enc := en_i) C 13 3 [vr_ x2, vi_ v3, vi_ 0] 1 (ctX1_isIn C.2.2.2.2.2.2.2.2.1 N m5 v0 x2 v3 0) hb_ hb0_ rfl rfl q2310 q2312 qs24 q81 q2313 hdX1_isIn (Nat.le_of_ble_eq_true rfl) (Nat.le_of_ble_eq_true rfl) rfl (Nat.le_of_ble_eq_true rfl) dX1_addValue_43 46 rfl rfl hen_i (kk_i (fun x4 m6 k1 n1 => ?_)) (kx_n he_i)
  refine s_if_eq C dX1_addValue_46 86 rfl 49 rfl (fun c_ => ?_) (fun c_ => ?_)
  · refine Sm_sub [3, 4, 5, 6, 2, 1] rfl ?_
    exact wX1_addValue_b86 C hret h0 hin N _ _ _ _ _ _ _ _ _
  · refine s_aload C 1 rfl dX1_addValue_49 51 rfl ?_
    refine s_iload_n C rfl 5 rfl dX1_addValue_51 52 rfl ?_
    refine s_iload C 6 rfl dX1_addValue_52 54 rfl ?_
    refine x_ck (fun hb_ hb0_ => ?_)
    refine x_callV (enc := en_i) C 15 2 [vi_ v3, vi_ v4] 3 (ctX3_has C.2.2.2.2.2.2.2.2.1 N m6 x2 v3 v4) hb_ hb0_ rfl rfl q2314 q1605 q1606 q88 q1607 hdX3_has (Nat.le_of_ble_eq_true rfl) (Nat.le_of_ble_eq_true rfl) rfl (Nat.le_of_ble_eq_true rfl) dX1_addValue_54 57 rfl rfl hen_i (kk_i (fun x5 m7 k1 n1 => ?_)) (kx_n he_i)
    refine s_if_ne C dX1_addValue_57 86 rfl 60 rfl (fun c_ => ?_) (fun c_ => ?_)
    · refine s_aload C 0 rfl dX1_addValue_60 62 rfl ?_
      refine x_giN C 4 (RX5, TX5, 2) rfl 0 (Nat.le_of_ble_eq_true rfl) q590 rfl rfl 5 rfl dX1_addValue_62 65 rfl (fun x6 => ?_)
      refine s_if_eq C dX1_addValue_65 82 rfl 68 rfl (fun c_ => ?_) (fun c_ => ?_)
      · refine Sm_sub [3, 4, 5, 6, 2, 1] rfl ?_
        exact wX1_addValue_b82 C hret h0 hin N _ _ _ _ _ _ _ _ _
      · refine s_aload C 1 rfl dX1_addValue_68 70 rfl ?_
        refine s_iload_n C rfl 5 rfl dX1_addValue_70 71 rfl ?_
        refine x_ck (fun hb_ hb0_ => ?_)
        refine x_callV (enc := en_r) C 18 1 [vi_ v3] 3 (ctX3_valuesOf C.2.2.2.2.2.2.2.2.1 N m7 x2 v3) hb_ hb0_ rfl rfl q2315 q1988 q1989 q88 q1990 hdX3_valuesOf (Nat.le_of_ble_eq_true rfl) (Nat.le_of_ble_eq_true rfl) rfl (Nat.le_of_ble_eq_true rfl) dX1_addValue_71 74 rfl rfl hen_r (kk_r (fun x7 m8 k1 n1 => ?_)) (kx_n he_r)
        refine x_ck (fun hb_ hb0_ => ?_)
        refine x_callF (enc := en_i) C 17 0 [] 21 (ctJ38_isEmpty_t21 C.2.2.2.2.2.2.2.2.1 N m8 x7) hb_ hb0_ rfl rfl rfl fw_46 q2317 q2376 q2378 q131 q2380 hx19 (Nat.le_of_ble_eq_true rfl) (Nat.le_of_ble_eq_true rfl) rfl (Nat.le_of_ble_eq_true rfl) dX1_addValue_74 79 rfl rfl hen_i (kk_i (fun x8 m9 k1 n1 => ?_)) (kx_n he_i)
        refine s_if_eq C dX1_addValue_79 86 rfl 82 rfl (fun c_ => ?_) (fun c_ => ?_)
        · refine Sm_sub [3, 4, 5, 6, 2, 1] rfl ?_
          exact wX1_addValue_b86 C hret h0 hin N _ _ _ _ _ _ _ _ _
        · refine Sm_sub [3, 4, 5, 6, 2, 1] rfl ?_
          exact wX1_addValue_b82 C hret h0 hin N _ _ _ _ _ _ _ _ _
    · refine Sm_sub [3, 4, 5, 6, 2, 1] rfl ?_
      exact wX1_addValue_b86 C hret h0 hin N _ _ _ _ _ _ _ _ _
theorem hdX1_addValue : ((⟨"MasterTree", "addValue", "(IIII)I"⟩ : MethodName)).cls ≠ "java/lang/invoke/MethodHandle" ∧ ((⟨"MasterTree", "addValue", "(IIII)I"⟩ : MethodName)).cls ≠ "java/lang/invoke/VarHandle" ∧ (parseMethodDescriptor ((⟨"MasterTree", "addValue", "(IIII)I"⟩ : MethodName)).desc).map (fun d => d.parameters.length) = some 4 := ⟨by decide +kernel, by decide +kernel, by decide +kernel⟩
theorem ctX1_addValue {l : Launch} {g : GG} (hst : l.stackTraces = false) (N : Nat) (m : Mm) (v0 : Option Nat) (v1 : Int32) (v2 : Int32) (v3 : Int32) (v4 : Int32) : ∀ v m' k n, fX1_addValue (gE_ g) N m v0 v1 v2 v3 v4 = some (v, m', k, n) → Ct_ l g (⟨"MasterTree", "addValue", "(IIII)I"⟩ : MethodName) (ws_ (⟨"MasterTree", "addValue", "(IIII)I"⟩ : MethodName) cX1_addValue 9 (Option.some Jvm.ClassFile.FieldType.int)) 25 [vr_ v0, vi_ v1, vi_ v2, vi_ v3, vi_ v4] m ((xe_ en_i) v) m' k n :=
  Ct_of (by decide +kernel) rfl hst (Nat.le_of_ble_eq_true rfl) rfl (fun E C hret h0 hin => wX1_addValue C hret h0 hin N m v0 v1 v2 v3 v4 0 0)
theorem wX0_addValue {l : Launch} {g : GG} {E : Me_} (C : Cx_ l g E "MasterTreeLaw" cX0_addValue 7 26) (hret : (eT_ E).sig.returnType = (Option.some Jvm.ClassFile.FieldType.int)) (h0 : (eC_ E).exceptionTable.toList = tableOf [(0, 14, 17, 19), (0, 14, 21, 28), (0, 14, 25, 13)]) (hin : (eT_ E).name = "addValue") (N : Nat) : ∀ (m : Mm) (v0 : Option Nat) (v1 : Int32) (v2 : Int32) (v3 : Int32) (v4 : Int32) (v5 : Option Nat) (k n : Nat), Sm_ l g E 7 en_i (fX0_addValue (gE_ g) N m v0 v1 v2 v3 v4 v5) k n 0 [(0, vr_ v0), (1, vi_ v1), (2, vi_ v2), (3, vi_ v3), (4, vi_ v4), (5, vr_ v5)] [] m := by
  intro m v0 v1 v2 v3 v4 v5 k n
  unfold fX0_addValue
  refine s_aload C 5 rfl dX0_addValue_0 2 rfl ?_
  refine s_iconst C 0 rfl dX0_addValue_2 3 rfl ?_
  refine s_aload_n C rfl 0 rfl dX0_addValue_3 4 rfl ?_
  refine s_iload_n C rfl 1 rfl dX0_addValue_4 5 rfl ?_
  refine s_iload_n C rfl 2 rfl dX0_addValue_5 6 rfl ?_
  refine s_iload_n C rfl 3 rfl dX0_addValue_6 7 rfl ?_
  refine s_iload C 4 rfl dX0_addValue_7 9 rfl ?_
  refine x_ck (fun hb_ hb0_ => ?_)
  refine x_callV (enc := (xe_ en_i)) C 25 4 [vi_ v1, vi_ v2, vi_ v3, vi_ v4] 1 (ctX1_addValue C.2.2.2.2.2.2.2.2.1 N m v0 v1 v2 v3 v4) hb_ hb0_ rfl rfl q2302 q2303 q2304 q81 q2305 hdX1_addValue (Nat.le_of_ble_eq_true rfl) (Nat.le_of_ble_eq_true rfl) rfl (Nat.le_of_ble_eq_true rfl) dX0_addValue_9 12 rfl rfl (hen_x hen_i) (kk_c (kk_i (fun x1 m1 k1 n1 => ?_))) (kx_c he_i (fun i_ m0 k0 n0 => ?_))
  · refine s_i2l C dX0_addValue_12 13 rfl ?_
    refine x_bj3 C 203 rfl dX0_addValue_13 14 rfl (fun m2 => ?_)
    refine s_goto C (off := 15) 29 dX0_addValue_14 rfl ?_
    refine s_iconst C 0 rfl dX0_addValue_29 30 rfl ?_
    exact x_iret C hret rfl dX0_addValue_30
  · refine Sx_if ?_ ?_
    · refine Sx_ctch C h0 0 [] ({ startPc := 0, endPc := 14, handlerPc := 17, catchType := 19 } : ExceptionTableEntry) [{ startPc := 0, endPc := 14, handlerPc := 21, catchType := 28 }, { startPc := 0, endPc := 14, handlerPc := 25, catchType := 13 }] rfl (fun z hz => by cases hz) (by decide) (by decide) q600 q638 17 rfl (fun q_ => ?_)
      refine s_astore C (Nat.le_of_ble_eq_true rfl) [] rfl rfl dX0_addValue_17 19 rfl ?_
      refine s_iconst C 1 rfl dX0_addValue_19 20 rfl ?_
      exact x_iret C hret rfl dX0_addValue_20
    refine Sx_if ?_ ?_
    · refine Sx_ctch C h0 1 [{ startPc := 0, endPc := 14, handlerPc := 17, catchType := 19 }] ({ startPc := 0, endPc := 14, handlerPc := 21, catchType := 28 } : ExceptionTableEntry) [{ startPc := 0, endPc := 14, handlerPc := 25, catchType := 13 }] rfl (List.forall_mem_cons.mpr ⟨Or.inr ⟨by decide, "java/lang/IndexOutOfBoundsException", q600, List.mem_of_getElem? (i := 2) rfl⟩, fun z hz => by cases hz⟩) (by decide) (by decide) q943 q845 21 rfl (fun q_ => ?_)
      refine s_astore C (Nat.le_of_ble_eq_true rfl) [] rfl rfl dX0_addValue_21 23 rfl ?_
      refine s_iconst C 2 rfl dX0_addValue_23 24 rfl ?_
      exact x_iret C hret rfl dX0_addValue_24
    refine Sx_if ?_ ?_
    · refine Sx_ctch C h0 2 [{ startPc := 0, endPc := 14, handlerPc := 17, catchType := 19 }, { startPc := 0, endPc := 14, handlerPc := 21, catchType := 28 }] ({ startPc := 0, endPc := 14, handlerPc := 25, catchType := 13 } : ExceptionTableEntry) [] rfl (List.forall_mem_cons.mpr ⟨Or.inr ⟨by decide, "java/lang/IndexOutOfBoundsException", q600, List.mem_of_getElem? (i := 4) rfl⟩, List.forall_mem_cons.mpr ⟨Or.inr ⟨by decide, "java/lang/IllegalArgumentException", q943, List.mem_of_getElem? (i := 5) rfl⟩, fun z hz => by cases hz⟩⟩) (by decide) (by decide) q504 q515 25 rfl (fun q_ => ?_)
      refine s_astore C (Nat.le_of_ble_eq_true rfl) [] rfl rfl dX0_addValue_25 27 rfl ?_
      refine s_iconst C 3 rfl dX0_addValue_27 28 rfl ?_
      exact x_iret C hret rfl dX0_addValue_28
    exact Sx_none
theorem hdX0_addValue : ((⟨"MasterTreeLaw", "addValue", "(LMasterTree;IIII[J)I"⟩ : MethodName)).cls ≠ "java/lang/invoke/MethodHandle" ∧ ((⟨"MasterTreeLaw", "addValue", "(LMasterTree;IIII[J)I"⟩ : MethodName)).cls ≠ "java/lang/invoke/VarHandle" ∧ (parseMethodDescriptor ((⟨"MasterTreeLaw", "addValue", "(LMasterTree;IIII[J)I"⟩ : MethodName)).desc).map (fun d => d.parameters.length) = some 6 := ⟨by decide +kernel, by decide +kernel, by decide +kernel⟩
theorem ctX0_addValue {l : Launch} {g : GG} (hst : l.stackTraces = false) (N : Nat) (m : Mm) (v0 : Option Nat) (v1 : Int32) (v2 : Int32) (v3 : Int32) (v4 : Int32) (v5 : Option Nat) : ∀ v m' k n, fX0_addValue (gE_ g) N m v0 v1 v2 v3 v4 v5 = some (v, m', k, n) → Ct_ l g (⟨"MasterTreeLaw", "addValue", "(LMasterTree;IIII[J)I"⟩ : MethodName) (wsW_ (⟨"MasterTreeLaw", "addValue", "(LMasterTree;IIII[J)I"⟩ : MethodName) cX0_addValue 7 (Option.some Jvm.ClassFile.FieldType.int) [(0, 14, 17, 19), (0, 14, 21, 28), (0, 14, 25, 13)]) 26 [vr_ v0, vi_ v1, vi_ v2, vi_ v3, vi_ v4, vr_ v5] m (en_i v) m' k n :=
  Ct_ofW (by decide +kernel) rfl hst (Nat.le_of_ble_eq_true rfl) rfl (fun E C hret h0 hin => wX0_addValue C hret h0 hin N m v0 v1 v2 v3 v4 v5 0 0)
theorem wX1_removeValue_b79 {l : Launch} {g : GG} {E : Me_} (C : Cx_ l g E "MasterTree" cX1_removeValue 8 25) (hret : (eT_ E).sig.returnType = (Option.some Jvm.ClassFile.FieldType.int)) (h0 : ∀ x ∈ (eC_ E).exceptionTable.toList, False) (hin : (eT_ E).name = "removeValue") (N : Nat) : ∀ (m : Mm) (v0 : Option Nat) (v2 : Int32) (v3 : Int32) (v4 : Int32) (v5 : Option Nat) (v6 : Option Nat) (s0 : Int32) (k n : Nat), Sm_ l g E 8 (xe_ en_i) (fX1_removeValue_b79 (gE_ g) N m v0 v2 v3 v4 v5 v6 s0) k n 79 [(0, vr_ v0), (2, vi_ v2), (3, vi_ v3), (4, vi_ v4), (5, vr_ v5), (6, vr_ v6)] [vi_ s0] m := by
  intro m v0 v2 v3 v4 v5 v6 s0 k n
  unfold fX1_removeValue_b79
  refine s_istore C (Nat.le_of_ble_eq_true rfl) [0, 1, 2, 3, 4, 5] rfl rfl dX1_removeValue_79 81 rfl ?_
  refine s_iload C 0 rfl dX1_removeValue_81 83 rfl ?_
  refine x_lsw C 23 23 rfl dX1_removeValue_83 86 rfl ?_
  refine x_callS (enc := (xe_ en_v)) C 10 2 [vi_ s0, vr_ (some (gE_ g (100 + 23)))] (ctX1_must C.2.2.2.2.2.2.2.2.1 N m s0 (some (gE_ g (100 + 23)))) q510 q511 q81 q512 hdX1_must (Nat.le_of_ble_eq_true rfl) (Nat.le_of_ble_eq_true rfl) rfl (Nat.le_of_ble_eq_true rfl) dX1_removeValue_86 89 rfl rfl (hen_x hen_v) (kk_x (kk_v (fun m1 k1 n1 => ?_))) (kx_x C h0 he_v)
  refine s_aload_n C rfl 1 rfl dX1_removeValue_89 90 rfl ?_
  refine s_aload C 5 rfl dX1_removeValue_90 92 rfl ?_
  refine x_gs C 10 (vr_ (some (gE_ g 8))) rfl q2441 rfl dX1_removeValue_92 95 rfl ?_
  refine s_iload_n C rfl 2 rfl dX1_removeValue_95 96 rfl ?_
  refine s_iload_n C rfl 3 rfl dX1_removeValue_96 97 rfl ?_
  refine s_iload C 4 rfl dX1_removeValue_97 99 rfl ?_
  refine x_ck (fun hb_ hb0_ => ?_)
  refine x_callV (enc := en_v) C 24 5 [vr_ v5, vr_ (some (gE_ g 8)), vi_ v2, vi_ v3, vi_ v4] 1 (ctX1_makes_2 C.2.2.2.2.2.2.2.2.1 N m1 v0 v5 (some (gE_ g 8)) v2 v3 v4) hb_ hb0_ rfl rfl q2426 q2428 qs25 q81 q2429 hdX1_makes_2 (Nat.le_of_ble_eq_true rfl) (Nat.le_of_ble_eq_true rfl) rfl (Nat.le_of_ble_eq_true rfl) dX1_removeValue_99 102 rfl rfl hen_v (kk_v (fun m2 k1 n1 => ?_)) (kx_n he_v)
  refine s_aload C 6 rfl dX1_removeValue_102 104 rfl ?_
  refine s_iload_n C rfl 3 rfl dX1_removeValue_104 105 rfl ?_
  refine x_ck (fun hb_ hb0_ => ?_)
  refine x_callV (enc := en_r) C 18 1 [vi_ v3] 3 (ctX3_valuesOf C.2.2.2.2.2.2.2.2.1 N m2 v6 v3) hb_ hb0_ rfl rfl q2315 q1988 q1989 q88 q1990 hdX3_valuesOf (Nat.le_of_ble_eq_true rfl) (Nat.le_of_ble_eq_true rfl) rfl (Nat.le_of_ble_eq_true rfl) dX1_removeValue_105 108 rfl rfl hen_r (kk_r (fun x1 m3 k1 n1 => ?_)) (kx_n he_r)
  refine x_ck (fun hb_ hb0_ => ?_)
  refine x_callF (enc := en_i) C 18 0 [] 21 (ctJ38_size_t21 C.2.2.2.2.2.2.2.2.1 N m3 x1) hb_ hb0_ rfl rfl rfl fw_45 q2431 q2372 q2332 q131 q2333 hx17 (Nat.le_of_ble_eq_true rfl) (Nat.le_of_ble_eq_true rfl) rfl (Nat.le_of_ble_eq_true rfl) dX1_removeValue_108 113 rfl rfl hen_i (kk_i (fun x2 m4 k1 n1 => ?_)) (kx_n he_i)
  exact x_iret C hret rfl dX1_removeValue_113
theorem wX1_removeValue_b74 {l : Launch} {g : GG} {E : Me_} (C : Cx_ l g E "MasterTree" cX1_removeValue 8 25) (hret : (eT_ E).sig.returnType = (Option.some Jvm.ClassFile.FieldType.int)) (h0 : ∀ x ∈ (eC_ E).exceptionTable.toList, False) (hin : (eT_ E).name = "removeValue") (N : Nat) : ∀ (m : Mm) (v0 : Option Nat) (v2 : Int32) (v3 : Int32) (v4 : Int32) (v5 : Option Nat) (v6 : Option Nat) (k n : Nat), Sm_ l g E 8 (xe_ en_i) (fX1_removeValue_b74 (gE_ g) N m v0 v2 v3 v4 v5 v6) k n 74 [(0, vr_ v0), (2, vi_ v2), (3, vi_ v3), (4, vi_ v4), (5, vr_ v5), (6, vr_ v6)] [] m := by
  intro m v0 v2 v3 v4 v5 v6 k n
  unfold fX1_removeValue_b74
  refine s_iconst C 1 rfl dX1_removeValue_74 75 rfl ?_
  refine s_goto C (off := 4) 79 dX1_removeValue_75 rfl ?_
  exact wX1_removeValue_b79 C hret h0 hin N _ _ _ _ _ _ _ _ _ _
theorem wX1_removeValue_b78 {l : Launch} {g : GG} {E : Me_} (C : Cx_ l g E "MasterTree" cX1_removeValue 8 25) (hret : (eT_ E).sig.returnType = (Option.some Jvm.ClassFile.FieldType.int)) (h0 : ∀ x ∈ (eC_ E).exceptionTable.toList, False) (hin : (eT_ E).name = "removeValue") (N : Nat) : ∀ (m : Mm) (v0 : Option Nat) (v2 : Int32) (v3 : Int32) (v4 : Int32) (v5 : Option Nat) (v6 : Option Nat) (k n : Nat), Sm_ l g E 8 (xe_ en_i) (fX1_removeValue_b78 (gE_ g) N m v0 v2 v3 v4 v5 v6) k n 78 [(0, vr_ v0), (2, vi_ v2), (3, vi_ v3), (4, vi_ v4), (5, vr_ v5), (6, vr_ v6)] [] m := by
  intro m v0 v2 v3 v4 v5 v6 k n
  unfold fX1_removeValue_b78
  refine s_iconst C 0 rfl dX1_removeValue_78 79 rfl ?_
  exact wX1_removeValue_b79 C hret h0 hin N _ _ _ _ _ _ _ _ _ _
theorem wX1_removeValue {l : Launch} {g : GG} {E : Me_} (C : Cx_ l g E "MasterTree" cX1_removeValue 8 25) (hret : (eT_ E).sig.returnType = (Option.some Jvm.ClassFile.FieldType.int)) (h0 : ∀ x ∈ (eC_ E).exceptionTable.toList, False) (hin : (eT_ E).name = "removeValue") (N : Nat) : ∀ (m : Mm) (v0 : Option Nat) (v1 : Int32) (v2 : Int32) (v3 : Int32) (v4 : Int32) (k n : Nat), Sm_ l g E 8 (xe_ en_i) (fX1_removeValue (gE_ g) N m v0 v1 v2 v3 v4) k n 0 [(0, vr_ v0), (1, vi_ v1), (2, vi_ v2), (3, vi_ v3), (4, vi_ v4)] [] m := by
  intro m v0 v1 v2 v3 v4 k n
  unfold fX1_removeValue
  refine s_aload_n C rfl 0 rfl dX1_removeValue_0 1 rfl ?_
  refine s_iload_n C rfl 1 rfl dX1_removeValue_1 2 rfl ?_
  refine x_ck (fun hb_ hb0_ => ?_)
  refine x_callV (enc := (xe_ en_r)) C 17 1 [vi_ v1] 1 (ctX1_at C.2.2.2.2.2.2.2.2.1 N m v0 v1) hb_ hb0_ rfl rfl q934 q936 qs5 q81 q937 hdX1_at (Nat.le_of_ble_eq_true rfl) (Nat.le_of_ble_eq_true rfl) rfl (Nat.le_of_ble_eq_true rfl) dX1_removeValue_2 5 rfl rfl (hen_x hen_r) (kk_x (kk_r (fun x1 m1 k1 n1 => ?_))) (kx_x C h0 he_r)
  refine s_astore C (Nat.le_of_ble_eq_true rfl) [0, 2, 3, 4] rfl rfl dX1_removeValue_5 7 rfl ?_
  refine s_aload C 0 rfl dX1_removeValue_7 9 rfl ?_
  refine s_iload_n C rfl 2 rfl dX1_removeValue_9 10 rfl ?_
  refine x_callS (enc := (xe_ en_r)) C 17 2 [vr_ x1, vi_ v2] (ctX1_changeable C.2.2.2.2.2.2.2.2.1 N m1 x1 v2) q2306 q2307 q81 q2308 hdX1_changeable (Nat.le_of_ble_eq_true rfl) (Nat.le_of_ble_eq_true rfl) rfl (Nat.le_of_ble_eq_true rfl) dX1_removeValue_10 13 rfl rfl (hen_x hen_r) (kk_x (kk_r (fun x2 m2 k1 n1 => ?_))) (kx_x C h0 he_r)
  refine s_astore C (Nat.le_of_ble_eq_true rfl) [0, 1, 2, 3, 4] rfl rfl dX1_removeValue_13 15 rfl ?_
  refine s_aload_n C rfl 2 rfl dX1_removeValue_15 16 rfl ?_
  refine s_iload_n C rfl 4 rfl dX1_removeValue_16 17 rfl ?_
  refine x_ck (fun hb_ hb0_ => ?_)
  refine x_callV (enc := (xe_ en_r)) C 17 1 [vi_ v3] 1 (ctX1_attributeAt C.2.2.2.2.2.2.2.2.1 N m2 v0 v3) hb_ hb0_ rfl rfl q948 q950 qs6 q81 q951 hdX1_attributeAt (Nat.le_of_ble_eq_true rfl) (Nat.le_of_ble_eq_true rfl) rfl (Nat.le_of_ble_eq_true rfl) dX1_removeValue_17 20 rfl rfl (hen_x hen_r) (kk_x (kk_r (fun x3 m3 k1 n1 => ?_))) (kx_x C h0 he_r)
  refine s_pop C rfl dX1_removeValue_20 21 rfl ?_
  refine s_iload C 5 rfl dX1_removeValue_21 23 rfl ?_
  refine s_iconst C 0 rfl dX1_removeValue_23 24 rfl ?_
  refine s_sipush C 999 rfl dX1_removeValue_24 27 rfl ?_
  refine x_callS (enc := (xe_ en_v)) C 16 3 [vi_ v4, vi_ 0, vi_ 999] (ctX1_isWithin C.2.2.2.2.2.2.2.2.1 N m3 v4 0 999) q953 q954 q81 q955 hdX1_isWithin (Nat.le_of_ble_eq_true rfl) (Nat.le_of_ble_eq_true rfl) rfl (Nat.le_of_ble_eq_true rfl) dX1_removeValue_27 30 rfl rfl (hen_x hen_v) (kk_x (kk_v (fun m4 k1 n1 => ?_))) (kx_x C h0 he_v)
  refine s_aload_n C rfl 2 rfl dX1_removeValue_30 31 rfl ?_
  refine s_aload C 1 rfl dX1_removeValue_31 33 rfl ?_
  refine s_iload_n C rfl 3 rfl dX1_removeValue_33 34 rfl ?_
  refine x_ck (fun hb_ hb0_ => ?_)
  refine x_callV (enc := (xe_ en_v)) C 19 2 [vr_ x1, vi_ v2] 1 (ctX1_mayWrite C.2.2.2.2.2.2.2.2.1 N m4 v0 x1 v2) hb_ hb0_ rfl rfl q981 q983 qs7 q81 q984 hdX1_mayWrite (Nat.le_of_ble_eq_true rfl) (Nat.le_of_ble_eq_true rfl) rfl (Nat.le_of_ble_eq_true rfl) dX1_removeValue_34 37 rfl rfl (hen_x hen_v) (kk_x (kk_v (fun m5 k1 n1 => ?_))) (kx_x C h0 he_v)
  refine s_aload C 0 rfl dX1_removeValue_37 39 rfl ?_
  refine s_iload_n C rfl 4 rfl dX1_removeValue_39 40 rfl ?_
  refine s_iload C 5 rfl dX1_removeValue_40 42 rfl ?_
  refine x_ck (fun hb_ hb0_ => ?_)
  refine x_callV (enc := en_i) C 15 2 [vi_ v3, vi_ v4] 3 (ctX3_has C.2.2.2.2.2.2.2.2.1 N m5 x2 v3 v4) hb_ hb0_ rfl rfl q2314 q1605 q1606 q88 q1607 hdX3_has (Nat.le_of_ble_eq_true rfl) (Nat.le_of_ble_eq_true rfl) rfl (Nat.le_of_ble_eq_true rfl) dX1_removeValue_42 45 rfl rfl hen_i (kk_i (fun x4 m6 k1 n1 => ?_)) (kx_n he_i)
  refine s_if_eq C dX1_removeValue_45 78 rfl 48 rfl (fun c_ => ?_) (fun c_ => ?_)
  · refine Sm_sub [2, 3, 4, 5, 1, 0] rfl ?_
    exact wX1_removeValue_b78 C hret h0 hin N _ _ _ _ _ _ _ _ _
  · refine s_aload_n C rfl 2 rfl dX1_removeValue_48 49 rfl ?_
    refine s_aload C 0 rfl dX1_removeValue_49 51 rfl ?_
    refine s_iload_n C rfl 4 rfl dX1_removeValue_51 52 rfl ?_
    refine s_iconst C 1 rfl dX1_removeValue_52 53 rfl ?_
    refine x_ck (fun hb_ hb0_ => ?_)
    refine x_callV (enc := en_i) C 13 3 [vr_ x2, vi_ v3, vi_ 1] 1 (ctX1_isIn C.2.2.2.2.2.2.2.2.1 N m6 v0 x2 v3 1) hb_ hb0_ rfl rfl q2310 q2312 qs24 q81 q2313 hdX1_isIn (Nat.le_of_ble_eq_true rfl) (Nat.le_of_ble_eq_true rfl) rfl (Nat.le_of_ble_eq_true rfl) dX1_removeValue_53 56 rfl rfl hen_i (kk_i (fun x5 m7 k1 n1 => ?_)) (kx_n he_i)
    refine s_if_eq C dX1_removeValue_56 74 rfl 59 rfl (fun c_ => ?_) (fun c_ => ?_)
    · refine Sm_sub [2, 3, 4, 5, 1, 0] rfl ?_
      exact wX1_removeValue_b74 C hret h0 hin N _ _ _ _ _ _ _ _ _
    · refine s_aload C 0 rfl dX1_removeValue_59 61 rfl ?_
      refine s_iload_n C rfl 4 rfl dX1_removeValue_61 62 rfl ?_
      refine x_ck (fun hb_ hb0_ => ?_)
      refine x_callV (enc := en_r) C 18 1 [vi_ v3] 3 (ctX3_valuesOf C.2.2.2.2.2.2.2.2.1 N m7 x2 v3) hb_ hb0_ rfl rfl q2315 q1988 q1989 q88 q1990 hdX3_valuesOf (Nat.le_of_ble_eq_true rfl) (Nat.le_of_ble_eq_true rfl) rfl (Nat.le_of_ble_eq_true rfl) dX1_removeValue_62 65 rfl rfl hen_r (kk_r (fun x6 m8 k1 n1 => ?_)) (kx_n he_r)
      refine x_ck (fun hb_ hb0_ => ?_)
      refine x_callF (enc := en_i) C 18 0 [] 21 (ctJ38_size_t21 C.2.2.2.2.2.2.2.2.1 N m8 x6) hb_ hb0_ rfl rfl rfl fw_45 q2431 q2372 q2332 q131 q2333 hx17 (Nat.le_of_ble_eq_true rfl) (Nat.le_of_ble_eq_true rfl) rfl (Nat.le_of_ble_eq_true rfl) dX1_removeValue_65 70 rfl rfl hen_i (kk_i (fun x7 m9 k1 n1 => ?_)) (kx_n he_i)
      refine s_iconst C 1 rfl dX1_removeValue_70 71 rfl ?_
      refine s_icmp_le C dX1_removeValue_71 78 rfl 74 rfl (fun c_ => ?_) (fun c_ => ?_)
      · refine Sm_sub [2, 3, 4, 5, 1, 0] rfl ?_
        exact wX1_removeValue_b74 C hret h0 hin N _ _ _ _ _ _ _ _ _
      · refine Sm_sub [2, 3, 4, 5, 1, 0] rfl ?_
        exact wX1_removeValue_b78 C hret h0 hin N _ _ _ _ _ _ _ _ _
theorem hdX1_removeValue : ((⟨"MasterTree", "removeValue", "(IIII)I"⟩ : MethodName)).cls ≠ "java/lang/invoke/MethodHandle" ∧ ((⟨"MasterTree", "removeValue", "(IIII)I"⟩ : MethodName)).cls ≠ "java/lang/invoke/VarHandle" ∧ (parseMethodDescriptor ((⟨"MasterTree", "removeValue", "(IIII)I"⟩ : MethodName)).desc).map (fun d => d.parameters.length) = some 4 := ⟨by decide +kernel, by decide +kernel, by decide +kernel⟩
theorem ctX1_removeValue {l : Launch} {g : GG} (hst : l.stackTraces = false) (N : Nat) (m : Mm) (v0 : Option Nat) (v1 : Int32) (v2 : Int32) (v3 : Int32) (v4 : Int32) : ∀ v m' k n, fX1_removeValue (gE_ g) N m v0 v1 v2 v3 v4 = some (v, m', k, n) → Ct_ l g (⟨"MasterTree", "removeValue", "(IIII)I"⟩ : MethodName) (ws_ (⟨"MasterTree", "removeValue", "(IIII)I"⟩ : MethodName) cX1_removeValue 8 (Option.some Jvm.ClassFile.FieldType.int)) 25 [vr_ v0, vi_ v1, vi_ v2, vi_ v3, vi_ v4] m ((xe_ en_i) v) m' k n :=
  Ct_of (by decide +kernel) rfl hst (Nat.le_of_ble_eq_true rfl) rfl (fun E C hret h0 hin => wX1_removeValue C hret h0 hin N m v0 v1 v2 v3 v4 0 0)
theorem wX0_removeValue {l : Launch} {g : GG} {E : Me_} (C : Cx_ l g E "MasterTreeLaw" cX0_removeValue 7 26) (hret : (eT_ E).sig.returnType = (Option.some Jvm.ClassFile.FieldType.int)) (h0 : (eC_ E).exceptionTable.toList = tableOf [(0, 14, 17, 19), (0, 14, 21, 28), (0, 14, 25, 13)]) (hin : (eT_ E).name = "removeValue") (N : Nat) : ∀ (m : Mm) (v0 : Option Nat) (v1 : Int32) (v2 : Int32) (v3 : Int32) (v4 : Int32) (v5 : Option Nat) (k n : Nat), Sm_ l g E 7 en_i (fX0_removeValue (gE_ g) N m v0 v1 v2 v3 v4 v5) k n 0 [(0, vr_ v0), (1, vi_ v1), (2, vi_ v2), (3, vi_ v3), (4, vi_ v4), (5, vr_ v5)] [] m := by
  intro m v0 v1 v2 v3 v4 v5 k n
  unfold fX0_removeValue
  refine s_aload C 5 rfl dX0_removeValue_0 2 rfl ?_
  refine s_iconst C 0 rfl dX0_removeValue_2 3 rfl ?_
  refine s_aload_n C rfl 0 rfl dX0_removeValue_3 4 rfl ?_
  refine s_iload_n C rfl 1 rfl dX0_removeValue_4 5 rfl ?_
  refine s_iload_n C rfl 2 rfl dX0_removeValue_5 6 rfl ?_
  refine s_iload_n C rfl 3 rfl dX0_removeValue_6 7 rfl ?_
  refine s_iload C 4 rfl dX0_removeValue_7 9 rfl ?_
  refine x_ck (fun hb_ hb0_ => ?_)
  refine x_callV (enc := (xe_ en_i)) C 25 4 [vi_ v1, vi_ v2, vi_ v3, vi_ v4] 1 (ctX1_removeValue C.2.2.2.2.2.2.2.2.1 N m v0 v1 v2 v3 v4) hb_ hb0_ rfl rfl q2436 q2437 q2438 q81 q2439 hdX1_removeValue (Nat.le_of_ble_eq_true rfl) (Nat.le_of_ble_eq_true rfl) rfl (Nat.le_of_ble_eq_true rfl) dX0_removeValue_9 12 rfl rfl (hen_x hen_i) (kk_c (kk_i (fun x1 m1 k1 n1 => ?_))) (kx_c he_i (fun i_ m0 k0 n0 => ?_))
  · refine s_i2l C dX0_removeValue_12 13 rfl ?_
    refine x_bj3 C 203 rfl dX0_removeValue_13 14 rfl (fun m2 => ?_)
    refine s_goto C (off := 15) 29 dX0_removeValue_14 rfl ?_
    refine s_iconst C 0 rfl dX0_removeValue_29 30 rfl ?_
    exact x_iret C hret rfl dX0_removeValue_30
  · refine Sx_if ?_ ?_
    · refine Sx_ctch C h0 0 [] ({ startPc := 0, endPc := 14, handlerPc := 17, catchType := 19 } : ExceptionTableEntry) [{ startPc := 0, endPc := 14, handlerPc := 21, catchType := 28 }, { startPc := 0, endPc := 14, handlerPc := 25, catchType := 13 }] rfl (fun z hz => by cases hz) (by decide) (by decide) q600 q638 17 rfl (fun q_ => ?_)
      refine s_astore C (Nat.le_of_ble_eq_true rfl) [] rfl rfl dX0_removeValue_17 19 rfl ?_
      refine s_iconst C 1 rfl dX0_removeValue_19 20 rfl ?_
      exact x_iret C hret rfl dX0_removeValue_20
    refine Sx_if ?_ ?_
    · refine Sx_ctch C h0 1 [{ startPc := 0, endPc := 14, handlerPc := 17, catchType := 19 }] ({ startPc := 0, endPc := 14, handlerPc := 21, catchType := 28 } : ExceptionTableEntry) [{ startPc := 0, endPc := 14, handlerPc := 25, catchType := 13 }] rfl (List.forall_mem_cons.mpr ⟨Or.inr ⟨by decide, "java/lang/IndexOutOfBoundsException", q600, List.mem_of_getElem? (i := 2) rfl⟩, fun z hz => by cases hz⟩) (by decide) (by decide) q943 q845 21 rfl (fun q_ => ?_)
      refine s_astore C (Nat.le_of_ble_eq_true rfl) [] rfl rfl dX0_removeValue_21 23 rfl ?_
      refine s_iconst C 2 rfl dX0_removeValue_23 24 rfl ?_
      exact x_iret C hret rfl dX0_removeValue_24
    refine Sx_if ?_ ?_
    · refine Sx_ctch C h0 2 [{ startPc := 0, endPc := 14, handlerPc := 17, catchType := 19 }, { startPc := 0, endPc := 14, handlerPc := 21, catchType := 28 }] ({ startPc := 0, endPc := 14, handlerPc := 25, catchType := 13 } : ExceptionTableEntry) [] rfl (List.forall_mem_cons.mpr ⟨Or.inr ⟨by decide, "java/lang/IndexOutOfBoundsException", q600, List.mem_of_getElem? (i := 4) rfl⟩, List.forall_mem_cons.mpr ⟨Or.inr ⟨by decide, "java/lang/IllegalArgumentException", q943, List.mem_of_getElem? (i := 5) rfl⟩, fun z hz => by cases hz⟩⟩) (by decide) (by decide) q504 q515 25 rfl (fun q_ => ?_)
      refine s_astore C (Nat.le_of_ble_eq_true rfl) [] rfl rfl dX0_removeValue_25 27 rfl ?_
      refine s_iconst C 3 rfl dX0_removeValue_27 28 rfl ?_
      exact x_iret C hret rfl dX0_removeValue_28
    exact Sx_none
theorem hdX0_removeValue : ((⟨"MasterTreeLaw", "removeValue", "(LMasterTree;IIII[J)I"⟩ : MethodName)).cls ≠ "java/lang/invoke/MethodHandle" ∧ ((⟨"MasterTreeLaw", "removeValue", "(LMasterTree;IIII[J)I"⟩ : MethodName)).cls ≠ "java/lang/invoke/VarHandle" ∧ (parseMethodDescriptor ((⟨"MasterTreeLaw", "removeValue", "(LMasterTree;IIII[J)I"⟩ : MethodName)).desc).map (fun d => d.parameters.length) = some 6 := ⟨by decide +kernel, by decide +kernel, by decide +kernel⟩
theorem ctX0_removeValue {l : Launch} {g : GG} (hst : l.stackTraces = false) (N : Nat) (m : Mm) (v0 : Option Nat) (v1 : Int32) (v2 : Int32) (v3 : Int32) (v4 : Int32) (v5 : Option Nat) : ∀ v m' k n, fX0_removeValue (gE_ g) N m v0 v1 v2 v3 v4 v5 = some (v, m', k, n) → Ct_ l g (⟨"MasterTreeLaw", "removeValue", "(LMasterTree;IIII[J)I"⟩ : MethodName) (wsW_ (⟨"MasterTreeLaw", "removeValue", "(LMasterTree;IIII[J)I"⟩ : MethodName) cX0_removeValue 7 (Option.some Jvm.ClassFile.FieldType.int) [(0, 14, 17, 19), (0, 14, 21, 28), (0, 14, 25, 13)]) 26 [vr_ v0, vi_ v1, vi_ v2, vi_ v3, vi_ v4, vr_ v5] m (en_i v) m' k n :=
  Ct_ofW (by decide +kernel) rfl hst (Nat.le_of_ble_eq_true rfl) rfl (fun E C hret h0 hin => wX0_removeValue C hret h0 hin N m v0 v1 v2 v3 v4 v5 0 0)
theorem wX1_replace {l : Launch} {g : GG} {E : Me_} (C : Cx_ l g E "MasterTree" cX1_replace 8 25) (hret : (eT_ E).sig.returnType = (Option.some Jvm.ClassFile.FieldType.int)) (h0 : ∀ x ∈ (eC_ E).exceptionTable.toList, False) (hin : (eT_ E).name = "replace") (N : Nat) : ∀ (m : Mm) (v0 : Option Nat) (v1 : Int32) (v2 : Int32) (v3 : Int32) (v4 : Int32) (k n : Nat), Sm_ l g E 8 (xe_ en_i) (fX1_replace (gE_ g) N m v0 v1 v2 v3 v4) k n 0 [(0, vr_ v0), (1, vi_ v1), (2, vi_ v2), (3, vi_ v3), (4, vi_ v4)] [] m := by
  intro m v0 v1 v2 v3 v4 k n
  unfold fX1_replace
  refine s_aload_n C rfl 0 rfl dX1_replace_0 1 rfl ?_
  refine s_iload_n C rfl 1 rfl dX1_replace_1 2 rfl ?_
  refine x_ck (fun hb_ hb0_ => ?_)
  refine x_callV (enc := (xe_ en_r)) C 17 1 [vi_ v1] 1 (ctX1_at C.2.2.2.2.2.2.2.2.1 N m v0 v1) hb_ hb0_ rfl rfl q934 q936 qs5 q81 q937 hdX1_at (Nat.le_of_ble_eq_true rfl) (Nat.le_of_ble_eq_true rfl) rfl (Nat.le_of_ble_eq_true rfl) dX1_replace_2 5 rfl rfl (hen_x hen_r) (kk_x (kk_r (fun x1 m1 k1 n1 => ?_))) (kx_x C h0 he_r)
  refine s_astore C (Nat.le_of_ble_eq_true rfl) [0, 2, 3, 4] rfl rfl dX1_replace_5 7 rfl ?_
  refine s_aload C 0 rfl dX1_replace_7 9 rfl ?_
  refine s_iload_n C rfl 2 rfl dX1_replace_9 10 rfl ?_
  refine x_callS (enc := (xe_ en_r)) C 17 2 [vr_ x1, vi_ v2] (ctX1_changeable C.2.2.2.2.2.2.2.2.1 N m1 x1 v2) q2306 q2307 q81 q2308 hdX1_changeable (Nat.le_of_ble_eq_true rfl) (Nat.le_of_ble_eq_true rfl) rfl (Nat.le_of_ble_eq_true rfl) dX1_replace_10 13 rfl rfl (hen_x hen_r) (kk_x (kk_r (fun x2 m2 k1 n1 => ?_))) (kx_x C h0 he_r)
  refine s_astore C (Nat.le_of_ble_eq_true rfl) [0, 1, 2, 3, 4] rfl rfl dX1_replace_13 15 rfl ?_
  refine s_aload_n C rfl 2 rfl dX1_replace_15 16 rfl ?_
  refine s_iload_n C rfl 4 rfl dX1_replace_16 17 rfl ?_
  refine x_ck (fun hb_ hb0_ => ?_)
  refine x_callV (enc := (xe_ en_r)) C 17 1 [vi_ v3] 1 (ctX1_attributeAt C.2.2.2.2.2.2.2.2.1 N m2 v0 v3) hb_ hb0_ rfl rfl q948 q950 qs6 q81 q951 hdX1_attributeAt (Nat.le_of_ble_eq_true rfl) (Nat.le_of_ble_eq_true rfl) rfl (Nat.le_of_ble_eq_true rfl) dX1_replace_17 20 rfl rfl (hen_x hen_r) (kk_x (kk_r (fun x3 m3 k1 n1 => ?_))) (kx_x C h0 he_r)
  refine s_pop C rfl dX1_replace_20 21 rfl ?_
  refine s_iload C 5 rfl dX1_replace_21 23 rfl ?_
  refine s_iconst C 0 rfl dX1_replace_23 24 rfl ?_
  refine s_sipush C 999 rfl dX1_replace_24 27 rfl ?_
  refine x_callS (enc := (xe_ en_v)) C 16 3 [vi_ v4, vi_ 0, vi_ 999] (ctX1_isWithin C.2.2.2.2.2.2.2.2.1 N m3 v4 0 999) q953 q954 q81 q955 hdX1_isWithin (Nat.le_of_ble_eq_true rfl) (Nat.le_of_ble_eq_true rfl) rfl (Nat.le_of_ble_eq_true rfl) dX1_replace_27 30 rfl rfl (hen_x hen_v) (kk_x (kk_v (fun m4 k1 n1 => ?_))) (kx_x C h0 he_v)
  refine s_aload_n C rfl 2 rfl dX1_replace_30 31 rfl ?_
  refine s_aload C 1 rfl dX1_replace_31 33 rfl ?_
  refine s_iload_n C rfl 3 rfl dX1_replace_33 34 rfl ?_
  refine x_ck (fun hb_ hb0_ => ?_)
  refine x_callV (enc := (xe_ en_v)) C 19 2 [vr_ x1, vi_ v2] 1 (ctX1_mayWrite C.2.2.2.2.2.2.2.2.1 N m4 v0 x1 v2) hb_ hb0_ rfl rfl q981 q983 qs7 q81 q984 hdX1_mayWrite (Nat.le_of_ble_eq_true rfl) (Nat.le_of_ble_eq_true rfl) rfl (Nat.le_of_ble_eq_true rfl) dX1_replace_34 37 rfl rfl (hen_x hen_v) (kk_x (kk_v (fun m5 k1 n1 => ?_))) (kx_x C h0 he_v)
  refine s_aload_n C rfl 2 rfl dX1_replace_37 38 rfl ?_
  refine s_aload C 0 rfl dX1_replace_38 40 rfl ?_
  refine s_iload_n C rfl 4 rfl dX1_replace_40 41 rfl ?_
  refine s_iconst C 0 rfl dX1_replace_41 42 rfl ?_
  refine x_ck (fun hb_ hb0_ => ?_)
  refine x_callV (enc := en_i) C 13 3 [vr_ x2, vi_ v3, vi_ 0] 1 (ctX1_isIn C.2.2.2.2.2.2.2.2.1 N m5 v0 x2 v3 0) hb_ hb0_ rfl rfl q2310 q2312 qs24 q81 q2313 hdX1_isIn (Nat.le_of_ble_eq_true rfl) (Nat.le_of_ble_eq_true rfl) rfl (Nat.le_of_ble_eq_true rfl) dX1_replace_42 45 rfl rfl hen_i (kk_i (fun x4 m6 k1 n1 => ?_)) (kx_n he_i)
  refine x_lsw C 24 24 rfl dX1_replace_45 48 rfl ?_
  refine x_callS (enc := (xe_ en_v)) C 10 2 [vi_ x4, vr_ (some (gE_ g (100 + 24)))] (ctX1_must C.2.2.2.2.2.2.2.2.1 N m6 x4 (some (gE_ g (100 + 24)))) q510 q511 q81 q512 hdX1_must (Nat.le_of_ble_eq_true rfl) (Nat.le_of_ble_eq_true rfl) rfl (Nat.le_of_ble_eq_true rfl) dX1_replace_48 51 rfl rfl (hen_x hen_v) (kk_x (kk_v (fun m7 k1 n1 => ?_))) (kx_x C h0 he_v)
  refine s_aload C 0 rfl dX1_replace_51 53 rfl ?_
  refine s_iload_n C rfl 4 rfl dX1_replace_53 54 rfl ?_
  refine x_ck (fun hb_ hb0_ => ?_)
  refine x_callV (enc := en_r) C 18 1 [vi_ v3] 3 (ctX3_valuesOf C.2.2.2.2.2.2.2.2.1 N m7 x2 v3) hb_ hb0_ rfl rfl q2315 q1988 q1989 q88 q1990 hdX3_valuesOf (Nat.le_of_ble_eq_true rfl) (Nat.le_of_ble_eq_true rfl) rfl (Nat.le_of_ble_eq_true rfl) dX1_replace_54 57 rfl rfl hen_r (kk_r (fun x5 m8 k1 n1 => ?_)) (kx_n he_r)
  refine x_ck (fun hb_ hb0_ => ?_)
  refine x_callF (enc := en_i) C 18 0 [] 21 (ctJ38_size_t21 C.2.2.2.2.2.2.2.2.1 N m8 x5) hb_ hb0_ rfl rfl rfl fw_45 q2431 q2372 q2332 q131 q2333 hx17 (Nat.le_of_ble_eq_true rfl) (Nat.le_of_ble_eq_true rfl) rfl (Nat.le_of_ble_eq_true rfl) dX1_replace_57 62 rfl rfl hen_i (kk_i (fun x6 m9 k1 n1 => ?_)) (kx_n he_i)
  refine s_istore C (Nat.le_of_ble_eq_true rfl) [1, 2, 3, 4, 5] rfl rfl dX1_replace_62 64 rfl ?_
  refine s_aload_n C rfl 2 rfl dX1_replace_64 65 rfl ?_
  refine s_aload C 1 rfl dX1_replace_65 67 rfl ?_
  refine x_gs C 11 (vr_ (some (gE_ g 9))) rfl q2451 rfl dX1_replace_67 70 rfl ?_
  refine s_iload_n C rfl 3 rfl dX1_replace_70 71 rfl ?_
  refine s_iload_n C rfl 4 rfl dX1_replace_71 72 rfl ?_
  refine s_iload C 5 rfl dX1_replace_72 74 rfl ?_
  refine x_ck (fun hb_ hb0_ => ?_)
  refine x_callV (enc := en_v) C 24 5 [vr_ x1, vr_ (some (gE_ g 9)), vi_ v2, vi_ v3, vi_ v4] 1 (ctX1_makes_2 C.2.2.2.2.2.2.2.2.1 N m9 v0 x1 (some (gE_ g 9)) v2 v3 v4) hb_ hb0_ rfl rfl q2426 q2428 qs25 q81 q2429 hdX1_makes_2 (Nat.le_of_ble_eq_true rfl) (Nat.le_of_ble_eq_true rfl) rfl (Nat.le_of_ble_eq_true rfl) dX1_replace_74 77 rfl rfl hen_v (kk_v (fun m10 k1 n1 => ?_)) (kx_n he_v)
  refine s_iload C 0 rfl dX1_replace_77 79 rfl ?_
  exact x_iret C hret rfl dX1_replace_79
theorem hdX1_replace : ((⟨"MasterTree", "replace", "(IIII)I"⟩ : MethodName)).cls ≠ "java/lang/invoke/MethodHandle" ∧ ((⟨"MasterTree", "replace", "(IIII)I"⟩ : MethodName)).cls ≠ "java/lang/invoke/VarHandle" ∧ (parseMethodDescriptor ((⟨"MasterTree", "replace", "(IIII)I"⟩ : MethodName)).desc).map (fun d => d.parameters.length) = some 4 := ⟨by decide +kernel, by decide +kernel, by decide +kernel⟩
theorem ctX1_replace {l : Launch} {g : GG} (hst : l.stackTraces = false) (N : Nat) (m : Mm) (v0 : Option Nat) (v1 : Int32) (v2 : Int32) (v3 : Int32) (v4 : Int32) : ∀ v m' k n, fX1_replace (gE_ g) N m v0 v1 v2 v3 v4 = some (v, m', k, n) → Ct_ l g (⟨"MasterTree", "replace", "(IIII)I"⟩ : MethodName) (ws_ (⟨"MasterTree", "replace", "(IIII)I"⟩ : MethodName) cX1_replace 8 (Option.some Jvm.ClassFile.FieldType.int)) 25 [vr_ v0, vi_ v1, vi_ v2, vi_ v3, vi_ v4] m ((xe_ en_i) v) m' k n :=
  Ct_of (by decide +kernel) rfl hst (Nat.le_of_ble_eq_true rfl) rfl (fun E C hret h0 hin => wX1_replace C hret h0 hin N m v0 v1 v2 v3 v4 0 0)
theorem wX0_replace {l : Launch} {g : GG} {E : Me_} (C : Cx_ l g E "MasterTreeLaw" cX0_replace 7 26) (hret : (eT_ E).sig.returnType = (Option.some Jvm.ClassFile.FieldType.int)) (h0 : (eC_ E).exceptionTable.toList = tableOf [(0, 14, 17, 19), (0, 14, 21, 28), (0, 14, 25, 13)]) (hin : (eT_ E).name = "replace") (N : Nat) : ∀ (m : Mm) (v0 : Option Nat) (v1 : Int32) (v2 : Int32) (v3 : Int32) (v4 : Int32) (v5 : Option Nat) (k n : Nat), Sm_ l g E 7 en_i (fX0_replace (gE_ g) N m v0 v1 v2 v3 v4 v5) k n 0 [(0, vr_ v0), (1, vi_ v1), (2, vi_ v2), (3, vi_ v3), (4, vi_ v4), (5, vr_ v5)] [] m := by
  intro m v0 v1 v2 v3 v4 v5 k n
  unfold fX0_replace
  refine s_aload C 5 rfl dX0_replace_0 2 rfl ?_
  refine s_iconst C 0 rfl dX0_replace_2 3 rfl ?_
  refine s_aload_n C rfl 0 rfl dX0_replace_3 4 rfl ?_
  refine s_iload_n C rfl 1 rfl dX0_replace_4 5 rfl ?_
  refine s_iload_n C rfl 2 rfl dX0_replace_5 6 rfl ?_
  refine s_iload_n C rfl 3 rfl dX0_replace_6 7 rfl ?_
  refine s_iload C 4 rfl dX0_replace_7 9 rfl ?_
  refine x_ck (fun hb_ hb0_ => ?_)
  refine x_callV (enc := (xe_ en_i)) C 25 4 [vi_ v1, vi_ v2, vi_ v3, vi_ v4] 1 (ctX1_replace C.2.2.2.2.2.2.2.2.1 N m v0 v1 v2 v3 v4) hb_ hb0_ rfl rfl q2446 q2447 q2448 q81 q2449 hdX1_replace (Nat.le_of_ble_eq_true rfl) (Nat.le_of_ble_eq_true rfl) rfl (Nat.le_of_ble_eq_true rfl) dX0_replace_9 12 rfl rfl (hen_x hen_i) (kk_c (kk_i (fun x1 m1 k1 n1 => ?_))) (kx_c he_i (fun i_ m0 k0 n0 => ?_))
  · refine s_i2l C dX0_replace_12 13 rfl ?_
    refine x_bj3 C 203 rfl dX0_replace_13 14 rfl (fun m2 => ?_)
    refine s_goto C (off := 15) 29 dX0_replace_14 rfl ?_
    refine s_iconst C 0 rfl dX0_replace_29 30 rfl ?_
    exact x_iret C hret rfl dX0_replace_30
  · refine Sx_if ?_ ?_
    · refine Sx_ctch C h0 0 [] ({ startPc := 0, endPc := 14, handlerPc := 17, catchType := 19 } : ExceptionTableEntry) [{ startPc := 0, endPc := 14, handlerPc := 21, catchType := 28 }, { startPc := 0, endPc := 14, handlerPc := 25, catchType := 13 }] rfl (fun z hz => by cases hz) (by decide) (by decide) q600 q638 17 rfl (fun q_ => ?_)
      refine s_astore C (Nat.le_of_ble_eq_true rfl) [] rfl rfl dX0_replace_17 19 rfl ?_
      refine s_iconst C 1 rfl dX0_replace_19 20 rfl ?_
      exact x_iret C hret rfl dX0_replace_20
    refine Sx_if ?_ ?_
    · refine Sx_ctch C h0 1 [{ startPc := 0, endPc := 14, handlerPc := 17, catchType := 19 }] ({ startPc := 0, endPc := 14, handlerPc := 21, catchType := 28 } : ExceptionTableEntry) [{ startPc := 0, endPc := 14, handlerPc := 25, catchType := 13 }] rfl (List.forall_mem_cons.mpr ⟨Or.inr ⟨by decide, "java/lang/IndexOutOfBoundsException", q600, List.mem_of_getElem? (i := 2) rfl⟩, fun z hz => by cases hz⟩) (by decide) (by decide) q943 q845 21 rfl (fun q_ => ?_)
      refine s_astore C (Nat.le_of_ble_eq_true rfl) [] rfl rfl dX0_replace_21 23 rfl ?_
      refine s_iconst C 2 rfl dX0_replace_23 24 rfl ?_
      exact x_iret C hret rfl dX0_replace_24
    refine Sx_if ?_ ?_
    · refine Sx_ctch C h0 2 [{ startPc := 0, endPc := 14, handlerPc := 17, catchType := 19 }, { startPc := 0, endPc := 14, handlerPc := 21, catchType := 28 }] ({ startPc := 0, endPc := 14, handlerPc := 25, catchType := 13 } : ExceptionTableEntry) [] rfl (List.forall_mem_cons.mpr ⟨Or.inr ⟨by decide, "java/lang/IndexOutOfBoundsException", q600, List.mem_of_getElem? (i := 4) rfl⟩, List.forall_mem_cons.mpr ⟨Or.inr ⟨by decide, "java/lang/IllegalArgumentException", q943, List.mem_of_getElem? (i := 5) rfl⟩, fun z hz => by cases hz⟩⟩) (by decide) (by decide) q504 q515 25 rfl (fun q_ => ?_)
      refine s_astore C (Nat.le_of_ble_eq_true rfl) [] rfl rfl dX0_replace_25 27 rfl ?_
      refine s_iconst C 3 rfl dX0_replace_27 28 rfl ?_
      exact x_iret C hret rfl dX0_replace_28
    exact Sx_none
theorem hdX0_replace : ((⟨"MasterTreeLaw", "replace", "(LMasterTree;IIII[J)I"⟩ : MethodName)).cls ≠ "java/lang/invoke/MethodHandle" ∧ ((⟨"MasterTreeLaw", "replace", "(LMasterTree;IIII[J)I"⟩ : MethodName)).cls ≠ "java/lang/invoke/VarHandle" ∧ (parseMethodDescriptor ((⟨"MasterTreeLaw", "replace", "(LMasterTree;IIII[J)I"⟩ : MethodName)).desc).map (fun d => d.parameters.length) = some 6 := ⟨by decide +kernel, by decide +kernel, by decide +kernel⟩
theorem ctX0_replace {l : Launch} {g : GG} (hst : l.stackTraces = false) (N : Nat) (m : Mm) (v0 : Option Nat) (v1 : Int32) (v2 : Int32) (v3 : Int32) (v4 : Int32) (v5 : Option Nat) : ∀ v m' k n, fX0_replace (gE_ g) N m v0 v1 v2 v3 v4 v5 = some (v, m', k, n) → Ct_ l g (⟨"MasterTreeLaw", "replace", "(LMasterTree;IIII[J)I"⟩ : MethodName) (wsW_ (⟨"MasterTreeLaw", "replace", "(LMasterTree;IIII[J)I"⟩ : MethodName) cX0_replace 7 (Option.some Jvm.ClassFile.FieldType.int) [(0, 14, 17, 19), (0, 14, 21, 28), (0, 14, 25, 13)]) 26 [vr_ v0, vi_ v1, vi_ v2, vi_ v3, vi_ v4, vr_ v5] m (en_i v) m' k n :=
  Ct_ofW (by decide +kernel) rfl hst (Nat.le_of_ble_eq_true rfl) rfl (fun E C hret h0 hin => wX0_replace C hret h0 hin N m v0 v1 v2 v3 v4 v5 0 0)
theorem wX1_rename_b49 {l : Launch} {g : GG} {E : Me_} (C : Cx_ l g E "MasterTree" cX1_rename 6 25) (hret : (eT_ E).sig.returnType = (Option.some Jvm.ClassFile.FieldType.int)) (h0 : ∀ x ∈ (eC_ E).exceptionTable.toList, False) (hin : (eT_ E).name = "rename") (N : Nat) : ∀ (m : Mm) (v0 : Option Nat) (v2 : Int32) (v3 : Int32) (v4 : Option Nat) (s0 : Int32) (k n : Nat), Sm_ l g E 6 (xe_ en_i) (fX1_rename_b49 (gE_ g) N m v0 v2 v3 v4 s0) k n 49 [(0, vr_ v0), (2, vi_ v2), (3, vi_ v3), (4, vr_ v4)] [vi_ s0] m := by
  intro m v0 v2 v3 v4 s0 k n
  unfold fX1_rename_b49
  refine x_lsw C 25 25 rfl dX1_rename_49 52 rfl ?_
  refine x_callS (enc := (xe_ en_v)) C 10 2 [vi_ s0, vr_ (some (gE_ g (100 + 25)))] (ctX1_must C.2.2.2.2.2.2.2.2.1 N m s0 (some (gE_ g (100 + 25)))) q510 q511 q81 q512 hdX1_must (Nat.le_of_ble_eq_true rfl) (Nat.le_of_ble_eq_true rfl) rfl (Nat.le_of_ble_eq_true rfl) dX1_rename_52 55 rfl rfl (hen_x hen_v) (kk_x (kk_v (fun m1 k1 n1 => ?_))) (kx_x C h0 he_v)
  refine s_aload C 3 rfl dX1_rename_55 57 rfl ?_
  refine s_iload_n C rfl 1 rfl dX1_rename_57 58 rfl ?_
  refine x_ck (fun hb_ hb0_ => ?_)
  refine x_callV (enc := en_i) C 15 1 [vi_ v2] 2 (ctX2_shownName C.2.2.2.2.2.2.2.2.1 N m1 v4 v2) hb_ hb0_ rfl rfl q2462 q1668 q1669 q85 q1670 hdX2_shownName (Nat.le_of_ble_eq_true rfl) (Nat.le_of_ble_eq_true rfl) rfl (Nat.le_of_ble_eq_true rfl) dX1_rename_58 61 rfl rfl hen_i (kk_i (fun x1 m2 k1 n1 => ?_)) (kx_n he_i)
  refine s_istore C (Nat.le_of_ble_eq_true rfl) [0, 1, 2, 3] rfl rfl dX1_rename_61 63 rfl ?_
  refine s_aload_n C rfl 1 rfl dX1_rename_63 64 rfl ?_
  refine s_aload C 4 rfl dX1_rename_64 66 rfl ?_
  refine x_gs C 12 (vr_ (some (gE_ g 10))) rfl q2463 rfl dX1_rename_66 69 rfl ?_
  refine s_iload_n C rfl 2 rfl dX1_rename_69 70 rfl ?_
  refine s_iload_n C rfl 3 rfl dX1_rename_70 71 rfl ?_
  refine s_iconst C 0 rfl dX1_rename_71 72 rfl ?_
  refine x_ck (fun hb_ hb0_ => ?_)
  refine x_callV (enc := en_v) C 24 5 [vr_ v4, vr_ (some (gE_ g 10)), vi_ v2, vi_ v3, vi_ 0] 1 (ctX1_makes_2 C.2.2.2.2.2.2.2.2.1 N m2 v0 v4 (some (gE_ g 10)) v2 v3 0) hb_ hb0_ rfl rfl q2426 q2428 qs25 q81 q2429 hdX1_makes_2 (Nat.le_of_ble_eq_true rfl) (Nat.le_of_ble_eq_true rfl) rfl (Nat.le_of_ble_eq_true rfl) dX1_rename_72 75 rfl rfl hen_v (kk_v (fun m3 k1 n1 => ?_)) (kx_n he_v)
  refine s_iload C 0 rfl dX1_rename_75 77 rfl ?_
  exact x_iret C hret rfl dX1_rename_77
theorem wX1_rename {l : Launch} {g : GG} {E : Me_} (C : Cx_ l g E "MasterTree" cX1_rename 6 25) (hret : (eT_ E).sig.returnType = (Option.some Jvm.ClassFile.FieldType.int)) (h0 : ∀ x ∈ (eC_ E).exceptionTable.toList, False) (hin : (eT_ E).name = "rename") (N : Nat) : ∀ (m : Mm) (v0 : Option Nat) (v1 : Int32) (v2 : Int32) (v3 : Int32) (k n : Nat), Sm_ l g E 6 (xe_ en_i) (fX1_rename (gE_ g) N m v0 v1 v2 v3) k n 0 [(0, vr_ v0), (1, vi_ v1), (2, vi_ v2), (3, vi_ v3)] [] m := by
  intro m v0 v1 v2 v3 k n
  unfold fX1_rename
  refine s_aload_n C rfl 0 rfl dX1_rename_0 1 rfl ?_
  refine s_iload_n C rfl 1 rfl dX1_rename_1 2 rfl ?_
  refine x_ck (fun hb_ hb0_ => ?_)
  refine x_callV (enc := (xe_ en_r)) C 17 1 [vi_ v1] 1 (ctX1_at C.2.2.2.2.2.2.2.2.1 N m v0 v1) hb_ hb0_ rfl rfl q934 q936 qs5 q81 q937 hdX1_at (Nat.le_of_ble_eq_true rfl) (Nat.le_of_ble_eq_true rfl) rfl (Nat.le_of_ble_eq_true rfl) dX1_rename_2 5 rfl rfl (hen_x hen_r) (kk_x (kk_r (fun x1 m1 k1 n1 => ?_))) (kx_x C h0 he_r)
  refine s_astore C (Nat.le_of_ble_eq_true rfl) [0, 2, 3] rfl rfl dX1_rename_5 7 rfl ?_
  refine s_aload C 0 rfl dX1_rename_7 9 rfl ?_
  refine s_iload_n C rfl 2 rfl dX1_rename_9 10 rfl ?_
  refine x_callS (enc := (xe_ en_r)) C 17 2 [vr_ x1, vi_ v2] (ctX1_changeable C.2.2.2.2.2.2.2.2.1 N m1 x1 v2) q2306 q2307 q81 q2308 hdX1_changeable (Nat.le_of_ble_eq_true rfl) (Nat.le_of_ble_eq_true rfl) rfl (Nat.le_of_ble_eq_true rfl) dX1_rename_10 13 rfl rfl (hen_x hen_r) (kk_x (kk_r (fun x2 m2 k1 n1 => ?_))) (kx_x C h0 he_r)
  refine s_pop C rfl dX1_rename_13 14 rfl ?_
  refine s_iload_n C rfl 3 rfl dX1_rename_14 15 rfl ?_
  refine s_iconst C 0 rfl dX1_rename_15 16 rfl ?_
  refine s_bipush C 99 rfl dX1_rename_16 18 rfl ?_
  refine x_callS (enc := (xe_ en_v)) C 16 3 [vi_ v3, vi_ 0, vi_ 99] (ctX1_isWithin C.2.2.2.2.2.2.2.2.1 N m2 v3 0 99) q953 q954 q81 q955 hdX1_isWithin (Nat.le_of_ble_eq_true rfl) (Nat.le_of_ble_eq_true rfl) rfl (Nat.le_of_ble_eq_true rfl) dX1_rename_18 21 rfl rfl (hen_x hen_v) (kk_x (kk_v (fun m3 k1 n1 => ?_))) (kx_x C h0 he_v)
  refine s_aload_n C rfl 1 rfl dX1_rename_21 22 rfl ?_
  refine s_aload C 0 rfl dX1_rename_22 24 rfl ?_
  refine s_iload_n C rfl 2 rfl dX1_rename_24 25 rfl ?_
  refine x_ck (fun hb_ hb0_ => ?_)
  refine x_callV (enc := (xe_ en_v)) C 19 2 [vr_ x1, vi_ v2] 1 (ctX1_mayWrite C.2.2.2.2.2.2.2.2.1 N m3 v0 x1 v2) hb_ hb0_ rfl rfl q981 q983 qs7 q81 q984 hdX1_mayWrite (Nat.le_of_ble_eq_true rfl) (Nat.le_of_ble_eq_true rfl) rfl (Nat.le_of_ble_eq_true rfl) dX1_rename_25 28 rfl rfl (hen_x hen_v) (kk_x (kk_v (fun m4 k1 n1 => ?_))) (kx_x C h0 he_v)
  refine s_aload C 0 rfl dX1_rename_28 30 rfl ?_
  refine s_aload C 0 rfl dX1_rename_30 32 rfl ?_
  refine s_iload_n C rfl 2 rfl dX1_rename_32 33 rfl ?_
  refine x_ck (fun hb_ hb0_ => ?_)
  refine x_callV (enc := en_i) C 12 1 [vi_ v2] 2 (ctX2_shownAt C.2.2.2.2.2.2.2.2.1 N m4 x1 v2) hb_ hb0_ rfl rfl q2460 q1655 q1656 q85 q1657 hdX2_shownAt (Nat.le_of_ble_eq_true rfl) (Nat.le_of_ble_eq_true rfl) rfl (Nat.le_of_ble_eq_true rfl) dX1_rename_33 36 rfl rfl hen_i (kk_i (fun x3 m5 k1 n1 => ?_)) (kx_n he_i)
  refine s_iload_n C rfl 3 rfl dX1_rename_36 37 rfl ?_
  refine s_iload_n C rfl 2 rfl dX1_rename_37 38 rfl ?_
  refine x_ck (fun hb_ hb0_ => ?_)
  refine x_callV (enc := en_i) C 16 3 [vi_ x3, vi_ v3, vi_ v2] 2 (ctX2_isShown C.2.2.2.2.2.2.2.2.1 N m5 x1 x3 v3 v2) hb_ hb0_ rfl rfl q1659 q1660 q1661 q85 q1662 hdX2_isShown (Nat.le_of_ble_eq_true rfl) (Nat.le_of_ble_eq_true rfl) rfl (Nat.le_of_ble_eq_true rfl) dX1_rename_38 41 rfl rfl hen_i (kk_i (fun x4 m6 k1 n1 => ?_)) (kx_n he_i)
  refine s_if_ne C dX1_rename_41 48 rfl 44 rfl (fun c_ => ?_) (fun c_ => ?_)
  · refine s_iconst C 1 rfl dX1_rename_44 45 rfl ?_
    refine s_goto C (off := 4) 49 dX1_rename_45 rfl ?_
    refine Sm_sub [1, 2, 3, 0] rfl ?_
    exact wX1_rename_b49 C hret h0 hin N _ _ _ _ _ _ _ _
  · refine s_iconst C 0 rfl dX1_rename_48 49 rfl ?_
    refine Sm_sub [1, 2, 3, 0] rfl ?_
    exact wX1_rename_b49 C hret h0 hin N _ _ _ _ _ _ _ _
theorem hdX1_rename : ((⟨"MasterTree", "rename", "(III)I"⟩ : MethodName)).cls ≠ "java/lang/invoke/MethodHandle" ∧ ((⟨"MasterTree", "rename", "(III)I"⟩ : MethodName)).cls ≠ "java/lang/invoke/VarHandle" ∧ (parseMethodDescriptor ((⟨"MasterTree", "rename", "(III)I"⟩ : MethodName)).desc).map (fun d => d.parameters.length) = some 3 := ⟨by decide +kernel, by decide +kernel, by decide +kernel⟩
theorem ctX1_rename {l : Launch} {g : GG} (hst : l.stackTraces = false) (N : Nat) (m : Mm) (v0 : Option Nat) (v1 : Int32) (v2 : Int32) (v3 : Int32) : ∀ v m' k n, fX1_rename (gE_ g) N m v0 v1 v2 v3 = some (v, m', k, n) → Ct_ l g (⟨"MasterTree", "rename", "(III)I"⟩ : MethodName) (ws_ (⟨"MasterTree", "rename", "(III)I"⟩ : MethodName) cX1_rename 6 (Option.some Jvm.ClassFile.FieldType.int)) 25 [vr_ v0, vi_ v1, vi_ v2, vi_ v3] m ((xe_ en_i) v) m' k n :=
  Ct_of (by decide +kernel) rfl hst (Nat.le_of_ble_eq_true rfl) rfl (fun E C hret h0 hin => wX1_rename C hret h0 hin N m v0 v1 v2 v3 0 0)
theorem wX0_rename {l : Launch} {g : GG} {E : Me_} (C : Cx_ l g E "MasterTreeLaw" cX0_rename 6 26) (hret : (eT_ E).sig.returnType = (Option.some Jvm.ClassFile.FieldType.int)) (h0 : (eC_ E).exceptionTable.toList = tableOf [(0, 12, 15, 19), (0, 12, 19, 28), (0, 12, 23, 13)]) (hin : (eT_ E).name = "rename") (N : Nat) : ∀ (m : Mm) (v0 : Option Nat) (v1 : Int32) (v2 : Int32) (v3 : Int32) (v4 : Option Nat) (k n : Nat), Sm_ l g E 6 en_i (fX0_rename (gE_ g) N m v0 v1 v2 v3 v4) k n 0 [(0, vr_ v0), (1, vi_ v1), (2, vi_ v2), (3, vi_ v3), (4, vr_ v4)] [] m := by
  intro m v0 v1 v2 v3 v4 k n
  unfold fX0_rename
  refine s_aload C 4 rfl dX0_rename_0 2 rfl ?_
  refine s_iconst C 0 rfl dX0_rename_2 3 rfl ?_
  refine s_aload_n C rfl 0 rfl dX0_rename_3 4 rfl ?_
  refine s_iload_n C rfl 1 rfl dX0_rename_4 5 rfl ?_
  refine s_iload_n C rfl 2 rfl dX0_rename_5 6 rfl ?_
  refine s_iload_n C rfl 3 rfl dX0_rename_6 7 rfl ?_
  refine x_ck (fun hb_ hb0_ => ?_)
  refine x_callV (enc := (xe_ en_i)) C 25 3 [vi_ v1, vi_ v2, vi_ v3] 1 (ctX1_rename C.2.2.2.2.2.2.2.2.1 N m v0 v1 v2 v3) hb_ hb0_ rfl rfl q2456 q2457 q2458 q81 q2459 hdX1_rename (Nat.le_of_ble_eq_true rfl) (Nat.le_of_ble_eq_true rfl) rfl (Nat.le_of_ble_eq_true rfl) dX0_rename_7 10 rfl rfl (hen_x hen_i) (kk_c (kk_i (fun x1 m1 k1 n1 => ?_))) (kx_c he_i (fun i_ m0 k0 n0 => ?_))
  · refine s_i2l C dX0_rename_10 11 rfl ?_
    refine x_bj3 C 203 rfl dX0_rename_11 12 rfl (fun m2 => ?_)
    refine s_goto C (off := 15) 27 dX0_rename_12 rfl ?_
    refine s_iconst C 0 rfl dX0_rename_27 28 rfl ?_
    exact x_iret C hret rfl dX0_rename_28
  · refine Sx_if ?_ ?_
    · refine Sx_ctch C h0 0 [] ({ startPc := 0, endPc := 12, handlerPc := 15, catchType := 19 } : ExceptionTableEntry) [{ startPc := 0, endPc := 12, handlerPc := 19, catchType := 28 }, { startPc := 0, endPc := 12, handlerPc := 23, catchType := 13 }] rfl (fun z hz => by cases hz) (by decide) (by decide) q600 q638 15 rfl (fun q_ => ?_)
      refine s_astore C (Nat.le_of_ble_eq_true rfl) [] rfl rfl dX0_rename_15 17 rfl ?_
      refine s_iconst C 1 rfl dX0_rename_17 18 rfl ?_
      exact x_iret C hret rfl dX0_rename_18
    refine Sx_if ?_ ?_
    · refine Sx_ctch C h0 1 [{ startPc := 0, endPc := 12, handlerPc := 15, catchType := 19 }] ({ startPc := 0, endPc := 12, handlerPc := 19, catchType := 28 } : ExceptionTableEntry) [{ startPc := 0, endPc := 12, handlerPc := 23, catchType := 13 }] rfl (List.forall_mem_cons.mpr ⟨Or.inr ⟨by decide, "java/lang/IndexOutOfBoundsException", q600, List.mem_of_getElem? (i := 2) rfl⟩, fun z hz => by cases hz⟩) (by decide) (by decide) q943 q845 19 rfl (fun q_ => ?_)
      refine s_astore C (Nat.le_of_ble_eq_true rfl) [] rfl rfl dX0_rename_19 21 rfl ?_
      refine s_iconst C 2 rfl dX0_rename_21 22 rfl ?_
      exact x_iret C hret rfl dX0_rename_22
    refine Sx_if ?_ ?_
    · refine Sx_ctch C h0 2 [{ startPc := 0, endPc := 12, handlerPc := 15, catchType := 19 }, { startPc := 0, endPc := 12, handlerPc := 19, catchType := 28 }] ({ startPc := 0, endPc := 12, handlerPc := 23, catchType := 13 } : ExceptionTableEntry) [] rfl (List.forall_mem_cons.mpr ⟨Or.inr ⟨by decide, "java/lang/IndexOutOfBoundsException", q600, List.mem_of_getElem? (i := 4) rfl⟩, List.forall_mem_cons.mpr ⟨Or.inr ⟨by decide, "java/lang/IllegalArgumentException", q943, List.mem_of_getElem? (i := 5) rfl⟩, fun z hz => by cases hz⟩⟩) (by decide) (by decide) q504 q515 23 rfl (fun q_ => ?_)
      refine s_astore C (Nat.le_of_ble_eq_true rfl) [] rfl rfl dX0_rename_23 25 rfl ?_
      refine s_iconst C 3 rfl dX0_rename_25 26 rfl ?_
      exact x_iret C hret rfl dX0_rename_26
    exact Sx_none
theorem hdX0_rename : ((⟨"MasterTreeLaw", "rename", "(LMasterTree;III[J)I"⟩ : MethodName)).cls ≠ "java/lang/invoke/MethodHandle" ∧ ((⟨"MasterTreeLaw", "rename", "(LMasterTree;III[J)I"⟩ : MethodName)).cls ≠ "java/lang/invoke/VarHandle" ∧ (parseMethodDescriptor ((⟨"MasterTreeLaw", "rename", "(LMasterTree;III[J)I"⟩ : MethodName)).desc).map (fun d => d.parameters.length) = some 5 := ⟨by decide +kernel, by decide +kernel, by decide +kernel⟩
theorem ctX0_rename {l : Launch} {g : GG} (hst : l.stackTraces = false) (N : Nat) (m : Mm) (v0 : Option Nat) (v1 : Int32) (v2 : Int32) (v3 : Int32) (v4 : Option Nat) : ∀ v m' k n, fX0_rename (gE_ g) N m v0 v1 v2 v3 v4 = some (v, m', k, n) → Ct_ l g (⟨"MasterTreeLaw", "rename", "(LMasterTree;III[J)I"⟩ : MethodName) (wsW_ (⟨"MasterTreeLaw", "rename", "(LMasterTree;III[J)I"⟩ : MethodName) cX0_rename 6 (Option.some Jvm.ClassFile.FieldType.int) [(0, 12, 15, 19), (0, 12, 19, 28), (0, 12, 23, 13)]) 26 [vr_ v0, vi_ v1, vi_ v2, vi_ v3, vr_ v4] m (en_i v) m' k n :=
  Ct_ofW (by decide +kernel) rfl hst (Nat.le_of_ble_eq_true rfl) rfl (fun E C hret h0 hin => wX0_rename C hret h0 hin N m v0 v1 v2 v3 v4 0 0)
theorem wX1_move_b69 {l : Launch} {g : GG} {E : Me_} (C : Cx_ l g E "MasterTree" cX1_move 7 25) (hret : (eT_ E).sig.returnType = (Option.some Jvm.ClassFile.FieldType.int)) (h0 : ∀ x ∈ (eC_ E).exceptionTable.toList, False) (hin : (eT_ E).name = "move") (N : Nat) : ∀ (m : Mm) (v0 : Option Nat) (v2 : Int32) (v3 : Int32) (v4 : Option Nat) (s0 : Int32) (k n : Nat), Sm_ l g E 7 (xe_ en_i) (fX1_move_b69 (gE_ g) N m v0 v2 v3 v4 s0) k n 69 [(0, vr_ v0), (2, vi_ v2), (3, vi_ v3), (4, vr_ v4)] [vi_ s0] m := by
  intro m v0 v2 v3 v4 s0 k n
  unfold fX1_move_b69
  refine x_lsw C 26 26 rfl dX1_move_69 72 rfl ?_
  refine x_callS (enc := (xe_ en_v)) C 10 2 [vi_ s0, vr_ (some (gE_ g (100 + 26)))] (ctX1_must C.2.2.2.2.2.2.2.2.1 N m s0 (some (gE_ g (100 + 26)))) q510 q511 q81 q512 hdX1_must (Nat.le_of_ble_eq_true rfl) (Nat.le_of_ble_eq_true rfl) rfl (Nat.le_of_ble_eq_true rfl) dX1_move_72 75 rfl rfl (hen_x hen_v) (kk_x (kk_v (fun m1 k1 n1 => ?_))) (kx_x C h0 he_v)
  refine s_aload C 3 rfl dX1_move_75 77 rfl ?_
  refine s_iload_n C rfl 1 rfl dX1_move_77 78 rfl ?_
  refine x_ck (fun hb_ hb0_ => ?_)
  refine x_callV (enc := en_i) C 12 1 [vi_ v2] 2 (ctX2_shownAt C.2.2.2.2.2.2.2.2.1 N m1 v4 v2) hb_ hb0_ rfl rfl q2460 q1655 q1656 q85 q1657 hdX2_shownAt (Nat.le_of_ble_eq_true rfl) (Nat.le_of_ble_eq_true rfl) rfl (Nat.le_of_ble_eq_true rfl) dX1_move_78 81 rfl rfl hen_i (kk_i (fun x1 m2 k1 n1 => ?_)) (kx_n he_i)
  refine s_istore C (Nat.le_of_ble_eq_true rfl) [0, 1, 2, 3] rfl rfl dX1_move_81 83 rfl ?_
  refine s_aload_n C rfl 1 rfl dX1_move_83 84 rfl ?_
  refine s_aload C 4 rfl dX1_move_84 86 rfl ?_
  refine x_gs C 15 (vr_ (some (gE_ g 13))) rfl q2295 rfl dX1_move_86 89 rfl ?_
  refine s_iload_n C rfl 2 rfl dX1_move_89 90 rfl ?_
  refine s_iload_n C rfl 3 rfl dX1_move_90 91 rfl ?_
  refine s_iconst C 0 rfl dX1_move_91 92 rfl ?_
  refine x_ck (fun hb_ hb0_ => ?_)
  refine x_callV (enc := en_v) C 24 5 [vr_ v4, vr_ (some (gE_ g 13)), vi_ v2, vi_ v3, vi_ 0] 1 (ctX1_makes_2 C.2.2.2.2.2.2.2.2.1 N m2 v0 v4 (some (gE_ g 13)) v2 v3 0) hb_ hb0_ rfl rfl q2426 q2428 qs25 q81 q2429 hdX1_makes_2 (Nat.le_of_ble_eq_true rfl) (Nat.le_of_ble_eq_true rfl) rfl (Nat.le_of_ble_eq_true rfl) dX1_move_92 95 rfl rfl hen_v (kk_v (fun m3 k1 n1 => ?_)) (kx_n he_v)
  refine s_iload C 0 rfl dX1_move_95 97 rfl ?_
  exact x_iret C hret rfl dX1_move_97
theorem wX1_move_b68 {l : Launch} {g : GG} {E : Me_} (C : Cx_ l g E "MasterTree" cX1_move 7 25) (hret : (eT_ E).sig.returnType = (Option.some Jvm.ClassFile.FieldType.int)) (h0 : ∀ x ∈ (eC_ E).exceptionTable.toList, False) (hin : (eT_ E).name = "move") (N : Nat) : ∀ (m : Mm) (v0 : Option Nat) (v2 : Int32) (v3 : Int32) (v4 : Option Nat) (k n : Nat), Sm_ l g E 7 (xe_ en_i) (fX1_move_b68 (gE_ g) N m v0 v2 v3 v4) k n 68 [(0, vr_ v0), (2, vi_ v2), (3, vi_ v3), (4, vr_ v4)] [] m := by
  intro m v0 v2 v3 v4 k n
  unfold fX1_move_b68
  refine s_iconst C 0 rfl dX1_move_68 69 rfl ?_
  exact wX1_move_b69 C hret h0 hin N _ _ _ _ _ _ _ _
theorem wX1_move {l : Launch} {g : GG} {E : Me_} (C : Cx_ l g E "MasterTree" cX1_move 7 25) (hret : (eT_ E).sig.returnType = (Option.some Jvm.ClassFile.FieldType.int)) (h0 : ∀ x ∈ (eC_ E).exceptionTable.toList, False) (hin : (eT_ E).name = "move") (N : Nat) : ∀ (m : Mm) (v0 : Option Nat) (v1 : Int32) (v2 : Int32) (v3 : Int32) (k n : Nat), Sm_ l g E 7 (xe_ en_i) (fX1_move (gE_ g) N m v0 v1 v2 v3) k n 0 [(0, vr_ v0), (1, vi_ v1), (2, vi_ v2), (3, vi_ v3)] [] m := by
  intro m v0 v1 v2 v3 k n
  unfold fX1_move
  refine s_aload_n C rfl 0 rfl dX1_move_0 1 rfl ?_
  refine s_iload_n C rfl 1 rfl dX1_move_1 2 rfl ?_
  refine x_ck (fun hb_ hb0_ => ?_)
  refine x_callV (enc := (xe_ en_r)) C 17 1 [vi_ v1] 1 (ctX1_at C.2.2.2.2.2.2.2.2.1 N m v0 v1) hb_ hb0_ rfl rfl q934 q936 qs5 q81 q937 hdX1_at (Nat.le_of_ble_eq_true rfl) (Nat.le_of_ble_eq_true rfl) rfl (Nat.le_of_ble_eq_true rfl) dX1_move_2 5 rfl rfl (hen_x hen_r) (kk_x (kk_r (fun x1 m1 k1 n1 => ?_))) (kx_x C h0 he_r)
  refine s_astore C (Nat.le_of_ble_eq_true rfl) [0, 2, 3] rfl rfl dX1_move_5 7 rfl ?_
  refine s_aload C 0 rfl dX1_move_7 9 rfl ?_
  refine s_iload_n C rfl 2 rfl dX1_move_9 10 rfl ?_
  refine x_callS (enc := (xe_ en_r)) C 17 2 [vr_ x1, vi_ v2] (ctX1_changeable C.2.2.2.2.2.2.2.2.1 N m1 x1 v2) q2306 q2307 q81 q2308 hdX1_changeable (Nat.le_of_ble_eq_true rfl) (Nat.le_of_ble_eq_true rfl) rfl (Nat.le_of_ble_eq_true rfl) dX1_move_10 13 rfl rfl (hen_x hen_r) (kk_x (kk_r (fun x2 m2 k1 n1 => ?_))) (kx_x C h0 he_r)
  refine s_astore C (Nat.le_of_ble_eq_true rfl) [0, 1, 2, 3] rfl rfl dX1_move_13 15 rfl ?_
  refine s_aload C 1 rfl dX1_move_15 17 rfl ?_
  refine s_iload_n C rfl 4 rfl dX1_move_17 18 rfl ?_
  refine x_callS (enc := (xe_ en_r)) C 16 2 [vr_ x1, vi_ v3] (ctX1_liveAt C.2.2.2.2.2.2.2.2.1 N m2 x1 v3) q968 q969 q81 q970 hdX1_liveAt (Nat.le_of_ble_eq_true rfl) (Nat.le_of_ble_eq_true rfl) rfl (Nat.le_of_ble_eq_true rfl) dX1_move_18 21 rfl rfl (hen_x hen_r) (kk_x (kk_r (fun x3 m3 k1 n1 => ?_))) (kx_x C h0 he_r)
  refine s_pop C rfl dX1_move_21 22 rfl ?_
  refine s_aload_n C rfl 2 rfl dX1_move_22 23 rfl ?_
  refine s_aload C 1 rfl dX1_move_23 25 rfl ?_
  refine s_iload_n C rfl 3 rfl dX1_move_25 26 rfl ?_
  refine x_ck (fun hb_ hb0_ => ?_)
  refine x_callV (enc := (xe_ en_v)) C 19 2 [vr_ x1, vi_ v2] 1 (ctX1_mayWrite C.2.2.2.2.2.2.2.2.1 N m3 v0 x1 v2) hb_ hb0_ rfl rfl q981 q983 qs7 q81 q984 hdX1_mayWrite (Nat.le_of_ble_eq_true rfl) (Nat.le_of_ble_eq_true rfl) rfl (Nat.le_of_ble_eq_true rfl) dX1_move_26 29 rfl rfl (hen_x hen_v) (kk_x (kk_v (fun m4 k1 n1 => ?_))) (kx_x C h0 he_v)
  refine s_aload_n C rfl 2 rfl dX1_move_29 30 rfl ?_
  refine s_aload C 1 rfl dX1_move_30 32 rfl ?_
  refine s_iload_n C rfl 4 rfl dX1_move_32 33 rfl ?_
  refine x_ck (fun hb_ hb0_ => ?_)
  refine x_callV (enc := (xe_ en_v)) C 19 2 [vr_ x1, vi_ v3] 1 (ctX1_mayWrite C.2.2.2.2.2.2.2.2.1 N m4 v0 x1 v3) hb_ hb0_ rfl rfl q981 q983 qs7 q81 q984 hdX1_mayWrite (Nat.le_of_ble_eq_true rfl) (Nat.le_of_ble_eq_true rfl) rfl (Nat.le_of_ble_eq_true rfl) dX1_move_33 36 rfl rfl (hen_x hen_v) (kk_x (kk_v (fun m5 k1 n1 => ?_))) (kx_x C h0 he_v)
  refine s_aload C 1 rfl dX1_move_36 38 rfl ?_
  refine x_grN C 1 (RX2, TX2, 12) rfl 7 (Nat.le_of_ble_eq_true rfl) q311 rfl rfl 2 rfl dX1_move_38 41 rfl (fun x4 => ?_)
  refine s_iload_n C rfl 3 rfl dX1_move_41 42 rfl ?_
  refine s_iload_n C rfl 4 rfl dX1_move_42 43 rfl ?_
  refine x_callS (enc := en_i) C 10 3 [vr_ x4, vi_ v2, vi_ v3] (ctX1_isAbove C.2.2.2.2.2.2.2.2.1 N m5 x4 v2 v3) q2296 q2297 q81 q2298 hdX1_isAbove (Nat.le_of_ble_eq_true rfl) (Nat.le_of_ble_eq_true rfl) rfl (Nat.le_of_ble_eq_true rfl) dX1_move_43 46 rfl rfl hen_i (kk_i (fun x5 m6 k1 n1 => ?_)) (kx_n he_i)
  refine s_if_ne C dX1_move_46 68 rfl 49 rfl (fun c_ => ?_) (fun c_ => ?_)
  · refine s_aload C 1 rfl dX1_move_49 51 rfl ?_
    refine s_iload_n C rfl 4 rfl dX1_move_51 52 rfl ?_
    refine s_aload C 0 rfl dX1_move_52 54 rfl ?_
    refine x_giN C 2 (RX3, TX3, 9) rfl 5 (Nat.le_of_ble_eq_true rfl) q262 rfl rfl 3 rfl dX1_move_54 57 rfl (fun x6 => ?_)
    refine s_iload_n C rfl 3 rfl dX1_move_57 58 rfl ?_
    refine x_ck (fun hb_ hb0_ => ?_)
    refine x_callV (enc := en_i) C 16 3 [vi_ v3, vi_ x6, vi_ v2] 2 (ctX2_isShown C.2.2.2.2.2.2.2.2.1 N m6 x1 v3 x6 v2) hb_ hb0_ rfl rfl q1659 q1660 q1661 q85 q1662 hdX2_isShown (Nat.le_of_ble_eq_true rfl) (Nat.le_of_ble_eq_true rfl) rfl (Nat.le_of_ble_eq_true rfl) dX1_move_58 61 rfl rfl hen_i (kk_i (fun x7 m7 k1 n1 => ?_)) (kx_n he_i)
    refine s_if_ne C dX1_move_61 68 rfl 64 rfl (fun c_ => ?_) (fun c_ => ?_)
    · refine s_iconst C 1 rfl dX1_move_64 65 rfl ?_
      refine s_goto C (off := 4) 69 dX1_move_65 rfl ?_
      refine Sm_sub [2, 3, 4, 1] rfl ?_
      exact wX1_move_b69 C hret h0 hin N _ _ _ _ _ _ _ _
    · refine Sm_sub [2, 3, 4, 1] rfl ?_
      exact wX1_move_b68 C hret h0 hin N _ _ _ _ _ _ _
  · refine Sm_sub [2, 3, 4, 1] rfl ?_
    exact wX1_move_b68 C hret h0 hin N _ _ _ _ _ _ _
theorem hdX1_move : ((⟨"MasterTree", "move", "(III)I"⟩ : MethodName)).cls ≠ "java/lang/invoke/MethodHandle" ∧ ((⟨"MasterTree", "move", "(III)I"⟩ : MethodName)).cls ≠ "java/lang/invoke/VarHandle" ∧ (parseMethodDescriptor ((⟨"MasterTree", "move", "(III)I"⟩ : MethodName)).desc).map (fun d => d.parameters.length) = some 3 := ⟨by decide +kernel, by decide +kernel, by decide +kernel⟩
theorem ctX1_move {l : Launch} {g : GG} (hst : l.stackTraces = false) (N : Nat) (m : Mm) (v0 : Option Nat) (v1 : Int32) (v2 : Int32) (v3 : Int32) : ∀ v m' k n, fX1_move (gE_ g) N m v0 v1 v2 v3 = some (v, m', k, n) → Ct_ l g (⟨"MasterTree", "move", "(III)I"⟩ : MethodName) (ws_ (⟨"MasterTree", "move", "(III)I"⟩ : MethodName) cX1_move 7 (Option.some Jvm.ClassFile.FieldType.int)) 25 [vr_ v0, vi_ v1, vi_ v2, vi_ v3] m ((xe_ en_i) v) m' k n :=
  Ct_of (by decide +kernel) rfl hst (Nat.le_of_ble_eq_true rfl) rfl (fun E C hret h0 hin => wX1_move C hret h0 hin N m v0 v1 v2 v3 0 0)
theorem wX0_move {l : Launch} {g : GG} {E : Me_} (C : Cx_ l g E "MasterTreeLaw" cX0_move 6 26) (hret : (eT_ E).sig.returnType = (Option.some Jvm.ClassFile.FieldType.int)) (h0 : (eC_ E).exceptionTable.toList = tableOf [(0, 12, 15, 19), (0, 12, 19, 13)]) (hin : (eT_ E).name = "move") (N : Nat) : ∀ (m : Mm) (v0 : Option Nat) (v1 : Int32) (v2 : Int32) (v3 : Int32) (v4 : Option Nat) (k n : Nat), Sm_ l g E 6 en_i (fX0_move (gE_ g) N m v0 v1 v2 v3 v4) k n 0 [(0, vr_ v0), (1, vi_ v1), (2, vi_ v2), (3, vi_ v3), (4, vr_ v4)] [] m := by
  intro m v0 v1 v2 v3 v4 k n
  unfold fX0_move
  refine s_aload C 4 rfl dX0_move_0 2 rfl ?_
  refine s_iconst C 0 rfl dX0_move_2 3 rfl ?_
  refine s_aload_n C rfl 0 rfl dX0_move_3 4 rfl ?_
  refine s_iload_n C rfl 1 rfl dX0_move_4 5 rfl ?_
  refine s_iload_n C rfl 2 rfl dX0_move_5 6 rfl ?_
  refine s_iload_n C rfl 3 rfl dX0_move_6 7 rfl ?_
  refine x_ck (fun hb_ hb0_ => ?_)
  refine x_callV (enc := (xe_ en_i)) C 25 3 [vi_ v1, vi_ v2, vi_ v3] 1 (ctX1_move C.2.2.2.2.2.2.2.2.1 N m v0 v1 v2 v3) hb_ hb0_ rfl rfl q2468 q2469 q2470 q81 q2471 hdX1_move (Nat.le_of_ble_eq_true rfl) (Nat.le_of_ble_eq_true rfl) rfl (Nat.le_of_ble_eq_true rfl) dX0_move_7 10 rfl rfl (hen_x hen_i) (kk_c (kk_i (fun x1 m1 k1 n1 => ?_))) (kx_c he_i (fun i_ m0 k0 n0 => ?_))
  · refine s_i2l C dX0_move_10 11 rfl ?_
    refine x_bj3 C 203 rfl dX0_move_11 12 rfl (fun m2 => ?_)
    refine s_goto C (off := 11) 23 dX0_move_12 rfl ?_
    refine s_iconst C 0 rfl dX0_move_23 24 rfl ?_
    exact x_iret C hret rfl dX0_move_24
  · refine Sx_if ?_ ?_
    · refine Sx_ctch C h0 0 [] ({ startPc := 0, endPc := 12, handlerPc := 15, catchType := 19 } : ExceptionTableEntry) [{ startPc := 0, endPc := 12, handlerPc := 19, catchType := 13 }] rfl (fun z hz => by cases hz) (by decide) (by decide) q600 q638 15 rfl (fun q_ => ?_)
      refine s_astore C (Nat.le_of_ble_eq_true rfl) [] rfl rfl dX0_move_15 17 rfl ?_
      refine s_iconst C 1 rfl dX0_move_17 18 rfl ?_
      exact x_iret C hret rfl dX0_move_18
    refine Sx_if ?_ ?_
    · refine Sx_ctch C h0 2 [{ startPc := 0, endPc := 12, handlerPc := 15, catchType := 19 }] ({ startPc := 0, endPc := 12, handlerPc := 19, catchType := 13 } : ExceptionTableEntry) [] rfl (List.forall_mem_cons.mpr ⟨Or.inr ⟨by decide, "java/lang/IndexOutOfBoundsException", q600, List.mem_of_getElem? (i := 4) rfl⟩, fun z hz => by cases hz⟩) (by decide) (by decide) q504 q515 19 rfl (fun q_ => ?_)
      refine s_astore C (Nat.le_of_ble_eq_true rfl) [] rfl rfl dX0_move_19 21 rfl ?_
      refine s_iconst C 2 rfl dX0_move_21 22 rfl ?_
      exact x_iret C hret rfl dX0_move_22
    exact Sx_none
theorem hdX0_move : ((⟨"MasterTreeLaw", "move", "(LMasterTree;III[J)I"⟩ : MethodName)).cls ≠ "java/lang/invoke/MethodHandle" ∧ ((⟨"MasterTreeLaw", "move", "(LMasterTree;III[J)I"⟩ : MethodName)).cls ≠ "java/lang/invoke/VarHandle" ∧ (parseMethodDescriptor ((⟨"MasterTreeLaw", "move", "(LMasterTree;III[J)I"⟩ : MethodName)).desc).map (fun d => d.parameters.length) = some 5 := ⟨by decide +kernel, by decide +kernel, by decide +kernel⟩
theorem ctX0_move {l : Launch} {g : GG} (hst : l.stackTraces = false) (N : Nat) (m : Mm) (v0 : Option Nat) (v1 : Int32) (v2 : Int32) (v3 : Int32) (v4 : Option Nat) : ∀ v m' k n, fX0_move (gE_ g) N m v0 v1 v2 v3 v4 = some (v, m', k, n) → Ct_ l g (⟨"MasterTreeLaw", "move", "(LMasterTree;III[J)I"⟩ : MethodName) (wsW_ (⟨"MasterTreeLaw", "move", "(LMasterTree;III[J)I"⟩ : MethodName) cX0_move 6 (Option.some Jvm.ClassFile.FieldType.int) [(0, 12, 15, 19), (0, 12, 19, 13)]) 26 [vr_ v0, vi_ v1, vi_ v2, vi_ v3, vr_ v4] m (en_i v) m' k n :=
  Ct_ofW (by decide +kernel) rfl hst (Nat.le_of_ble_eq_true rfl) rfl (fun E C hret h0 hin => wX0_move C hret h0 hin N m v0 v1 v2 v3 v4 0 0)
theorem wX2_isKnownToAll_b86 {l : Launch} {g : GG} {E : Me_} (C : Cx_ l g E "MasterTree$Master" cX2_isKnownToAll 7 12) (hret : (eT_ E).sig.returnType = (Option.some Jvm.ClassFile.FieldType.boolean)) (h0 : ∀ x ∈ (eC_ E).exceptionTable.toList, False) (hin : (eT_ E).name = "isKnownToAll") (N : Nat) {k23 : Mm → Option Nat → Option Nat → Int32 → Int32 → Int32 → Option Nat → Rs (Int32)} (hk23 : ∀ (m : Mm) (v0 : Option Nat) (v1 : Option Nat) (v2 : Int32) (v3 : Int32) (v4 : Int32) (v5 : Option Nat) (k n : Nat), Sm_ l g E 7 en_i (k23 m v0 v1 v2 v3 v4 v5) k n 23 [(0, vr_ v0), (1, vr_ v1), (2, vi_ v2), (3, vi_ v3), (4, vi_ v4), (5, vr_ v5)] [] m) : ∀ (m : Mm) (v0 : Option Nat) (v1 : Option Nat) (v2 : Int32) (v3 : Int32) (v5 : Option Nat) (s0 : Int32) (k n : Nat), Sm_ l g E 7 en_i (fX2_isKnownToAll_b86 (gE_ g) N k23 m v0 v1 v2 v3 v5 s0) k n 86 [(0, vr_ v0), (1, vr_ v1), (2, vi_ v2), (3, vi_ v3), (5, vr_ v5)] [vi_ s0] m := by
  intro m v0 v1 v2 v3 v5 s0 k n
  unfold fX2_isKnownToAll_b86
  refine s_istore C (Nat.le_of_ble_eq_true rfl) [0, 1, 2, 3, 4] rfl rfl dX2_isKnownToAll_86 88 rfl ?_
  refine s_goto C (off := -65) 23 dX2_isKnownToAll_88 rfl ?_
  refine Sm_sub [1, 2, 3, 4, 0, 5] rfl ?_
  exact hk23 _ _ _ _ _ _ _ _ _
theorem wX2_isKnownToAll_b81 {l : Launch} {g : GG} {E : Me_} (C : Cx_ l g E "MasterTree$Master" cX2_isKnownToAll 7 12) (hret : (eT_ E).sig.returnType = (Option.some Jvm.ClassFile.FieldType.boolean)) (h0 : ∀ x ∈ (eC_ E).exceptionTable.toList, False) (hin : (eT_ E).name = "isKnownToAll") (N : Nat) {k23 : Mm → Option Nat → Option Nat → Int32 → Int32 → Int32 → Option Nat → Rs (Int32)} (hk23 : ∀ (m : Mm) (v0 : Option Nat) (v1 : Option Nat) (v2 : Int32) (v3 : Int32) (v4 : Int32) (v5 : Option Nat) (k n : Nat), Sm_ l g E 7 en_i (k23 m v0 v1 v2 v3 v4 v5) k n 23 [(0, vr_ v0), (1, vr_ v1), (2, vi_ v2), (3, vi_ v3), (4, vi_ v4), (5, vr_ v5)] [] m) : ∀ (m : Mm) (v0 : Option Nat) (v1 : Option Nat) (v2 : Int32) (v3 : Int32) (v5 : Option Nat) (k n : Nat), Sm_ l g E 7 en_i (fX2_isKnownToAll_b81 (gE_ g) N k23 m v0 v1 v2 v3 v5) k n 81 [(0, vr_ v0), (1, vr_ v1), (2, vi_ v2), (3, vi_ v3), (5, vr_ v5)] [] m := by
  intro m v0 v1 v2 v3 v5 k n
  unfold fX2_isKnownToAll_b81
  refine s_iconst C 1 rfl dX2_isKnownToAll_81 82 rfl ?_
  refine s_goto C (off := 4) 86 dX2_isKnownToAll_82 rfl ?_
  exact wX2_isKnownToAll_b86 C hret h0 hin N hk23 _ _ _ _ _ _ _ _ _
theorem wX2_isKnownToAll_b85 {l : Launch} {g : GG} {E : Me_} (C : Cx_ l g E "MasterTree$Master" cX2_isKnownToAll 7 12) (hret : (eT_ E).sig.returnType = (Option.some Jvm.ClassFile.FieldType.boolean)) (h0 : ∀ x ∈ (eC_ E).exceptionTable.toList, False) (hin : (eT_ E).name = "isKnownToAll") (N : Nat) {k23 : Mm → Option Nat → Option Nat → Int32 → Int32 → Int32 → Option Nat → Rs (Int32)} (hk23 : ∀ (m : Mm) (v0 : Option Nat) (v1 : Option Nat) (v2 : Int32) (v3 : Int32) (v4 : Int32) (v5 : Option Nat) (k n : Nat), Sm_ l g E 7 en_i (k23 m v0 v1 v2 v3 v4 v5) k n 23 [(0, vr_ v0), (1, vr_ v1), (2, vi_ v2), (3, vi_ v3), (4, vi_ v4), (5, vr_ v5)] [] m) : ∀ (m : Mm) (v0 : Option Nat) (v1 : Option Nat) (v2 : Int32) (v3 : Int32) (v5 : Option Nat) (k n : Nat), Sm_ l g E 7 en_i (fX2_isKnownToAll_b85 (gE_ g) N k23 m v0 v1 v2 v3 v5) k n 85 [(0, vr_ v0), (1, vr_ v1), (2, vi_ v2), (3, vi_ v3), (5, vr_ v5)] [] m := by
  intro m v0 v1 v2 v3 v5 k n
  unfold fX2_isKnownToAll_b85
  refine s_iconst C 0 rfl dX2_isKnownToAll_85 86 rfl ?_
  exact wX2_isKnownToAll_b86 C hret h0 hin N hk23 _ _ _ _ _ _ _ _ _
theorem wX2_isKnownToAll_b105 {l : Launch} {g : GG} {E : Me_} (C : Cx_ l g E "MasterTree$Master" cX2_isKnownToAll 7 12) (hret : (eT_ E).sig.returnType = (Option.some Jvm.ClassFile.FieldType.boolean)) (h0 : ∀ x ∈ (eC_ E).exceptionTable.toList, False) (hin : (eT_ E).name = "isKnownToAll") (N : Nat) {k4 : Mm → Option Nat → Option Nat → Int32 → Int32 → Rs (Int32)} (hk4 : ∀ (m : Mm) (v0 : Option Nat) (v1 : Option Nat) (v2 : Int32) (v3 : Int32) (k n : Nat), Sm_ l g E 7 en_i (k4 m v0 v1 v2 v3) k n 4 [(0, vr_ v0), (1, vr_ v1), (2, vi_ v2), (3, vi_ v3)] [] m) : ∀ (m : Mm) (v0 : Option Nat) (v1 : Option Nat) (v3 : Int32) (s0 : Int32) (k n : Nat), Sm_ l g E 7 en_i (fX2_isKnownToAll_b105 (gE_ g) N k4 m v0 v1 v3 s0) k n 105 [(0, vr_ v0), (1, vr_ v1), (3, vi_ v3)] [vi_ s0] m := by
  intro m v0 v1 v3 s0 k n
  unfold fX2_isKnownToAll_b105
  refine s_istore_n C rfl (Nat.le_of_ble_eq_true rfl) [0, 1, 2] rfl rfl dX2_isKnownToAll_105 106 rfl ?_
  refine s_iinc C 1 rfl 3 rfl (Nat.le_of_ble_eq_true rfl) [0, 1, 2] rfl rfl dX2_isKnownToAll_106 109 rfl ?_
  refine s_goto C (off := -105) 4 dX2_isKnownToAll_109 rfl ?_
  refine Sm_sub [2, 3, 1, 0] rfl ?_
  exact hk4 _ _ _ _ _ _ _
theorem wX2_isKnownToAll_b104 {l : Launch} {g : GG} {E : Me_} (C : Cx_ l g E "MasterTree$Master" cX2_isKnownToAll 7 12) (hret : (eT_ E).sig.returnType = (Option.some Jvm.ClassFile.FieldType.boolean)) (h0 : ∀ x ∈ (eC_ E).exceptionTable.toList, False) (hin : (eT_ E).name = "isKnownToAll") (N : Nat) {k4 : Mm → Option Nat → Option Nat → Int32 → Int32 → Rs (Int32)} (hk4 : ∀ (m : Mm) (v0 : Option Nat) (v1 : Option Nat) (v2 : Int32) (v3 : Int32) (k n : Nat), Sm_ l g E 7 en_i (k4 m v0 v1 v2 v3) k n 4 [(0, vr_ v0), (1, vr_ v1), (2, vi_ v2), (3, vi_ v3)] [] m) : ∀ (m : Mm) (v0 : Option Nat) (v1 : Option Nat) (v3 : Int32) (k n : Nat), Sm_ l g E 7 en_i (fX2_isKnownToAll_b104 (gE_ g) N k4 m v0 v1 v3) k n 104 [(0, vr_ v0), (1, vr_ v1), (3, vi_ v3)] [] m := by
  intro m v0 v1 v3 k n
  unfold fX2_isKnownToAll_b104
  refine s_iconst C 0 rfl dX2_isKnownToAll_104 105 rfl ?_
  exact wX2_isKnownToAll_b105 C hret h0 hin N hk4 _ _ _ _ _ _ _
theorem wX2_isKnownToAll_b23 {l : Launch} {g : GG} {E : Me_} (C : Cx_ l g E "MasterTree$Master" cX2_isKnownToAll 7 12) (hret : (eT_ E).sig.returnType = (Option.some Jvm.ClassFile.FieldType.boolean)) (h0 : ∀ x ∈ (eC_ E).exceptionTable.toList, False) (hin : (eT_ E).name = "isKnownToAll") (N : Nat) {k4 : Mm → Option Nat → Option Nat → Int32 → Int32 → Rs (Int32)} (hk4 : ∀ (m : Mm) (v0 : Option Nat) (v1 : Option Nat) (v2 : Int32) (v3 : Int32) (k n : Nat), Sm_ l g E 7 en_i (k4 m v0 v1 v2 v3) k n 4 [(0, vr_ v0), (1, vr_ v1), (2, vi_ v2), (3, vi_ v3)] [] m) : ∀ (F : Nat) (m : Mm) (v0 : Option Nat) (v1 : Option Nat) (v2 : Int32) (v3 : Int32) (v4 : Int32) (v5 : Option Nat) (k n : Nat), Sm_ l g E 7 en_i (fX2_isKnownToAll_b23 (gE_ g) N k4 F m v0 v1 v2 v3 v4 v5) k n 23 [(0, vr_ v0), (1, vr_ v1), (2, vi_ v2), (3, vi_ v3), (4, vi_ v4), (5, vr_ v5)] [] m := by
  intro F
  induction F with
  | zero => intros; exact Sm_none
  | succ F ih =>
    intro m v0 v1 v2 v3 v4 v5 k n
    unfold fX2_isKnownToAll_b23
    refine s_aload C 5 rfl dX2_isKnownToAll_23 25 rfl ?_
    refine x_ck (fun hb_ hb0_ => ?_)
    refine x_callF (enc := en_i) C 10 0 [] 14 (ctJ34_hasNext C.2.2.2.2.2.2.2.2.1 N m v5) hb_ hb0_ rfl rfl rfl fw_13 q1446 q1458 q1460 q124 q1462 hx3 (Nat.le_of_ble_eq_true rfl) (Nat.le_of_ble_eq_true rfl) rfl (Nat.le_of_ble_eq_true rfl) dX2_isKnownToAll_25 30 rfl rfl hen_i (kk_i (fun x1 m1 k1 n1 => ?_)) (kx_n he_i)
    refine s_if_eq C dX2_isKnownToAll_30 91 rfl 33 rfl (fun c_ => ?_) (fun c_ => ?_)
    · refine s_iload_n C rfl 2 rfl dX2_isKnownToAll_91 92 rfl ?_
      refine s_if_eq C dX2_isKnownToAll_92 104 rfl 95 rfl (fun c_ => ?_) (fun c_ => ?_)
      · refine Sm_sub [0, 1, 3] rfl ?_
        exact wX2_isKnownToAll_b104 C hret h0 hin N hk4 _ _ _ _ _ _
      · refine s_iload C 4 rfl dX2_isKnownToAll_95 97 rfl ?_
        refine s_if_eq C dX2_isKnownToAll_97 104 rfl 100 rfl (fun c_ => ?_) (fun c_ => ?_)
        · refine Sm_sub [0, 1, 3] rfl ?_
          exact wX2_isKnownToAll_b104 C hret h0 hin N hk4 _ _ _ _ _ _
        · refine s_iconst C 1 rfl dX2_isKnownToAll_100 101 rfl ?_
          refine s_goto C (off := 4) 105 dX2_isKnownToAll_101 rfl ?_
          refine Sm_sub [0, 1, 3] rfl ?_
          exact wX2_isKnownToAll_b105 C hret h0 hin N hk4 _ _ _ _ _ _ _
    · refine s_aload C 5 rfl dX2_isKnownToAll_33 35 rfl ?_
      refine x_ck (fun hb_ hb0_ => ?_)
      refine x_callF (enc := en_r) C 11 0 [] 14 (ctJ34_next C.2.2.2.2.2.2.2.2.1 N m1 v5) hb_ hb0_ rfl rfl rfl fw_19 q1485 q1495 q1497 q124 q1499 hx5 (Nat.le_of_ble_eq_true rfl) (Nat.le_of_ble_eq_true rfl) rfl (Nat.le_of_ble_eq_true rfl) dX2_isKnownToAll_35 40 rfl rfl hen_r (kk_r (fun x2 m2 k1 n1 => ?_)) (kx_n he_r)
      refine x_cc C "MasterTree$Change" [7] (fun k hk => by rw [List.mem_singleton.mp hk]; exact ⟨rfl, Or.inr rfl⟩) q2497 dX2_isKnownToAll_40 43 rfl ?_
      refine s_astore C (Nat.le_of_ble_eq_true rfl) [0, 1, 2, 3, 4, 5] rfl rfl dX2_isKnownToAll_43 45 rfl ?_
      refine s_iload C 5 rfl dX2_isKnownToAll_45 47 rfl ?_
      refine s_if_ne C dX2_isKnownToAll_47 81 rfl 50 rfl (fun c_ => ?_) (fun c_ => ?_)
      · refine s_aload C 0 rfl dX2_isKnownToAll_50 52 rfl ?_
        refine x_grN C 6 (RX7, TX7, 9) rfl 3 (Nat.le_of_ble_eq_true rfl) q1741 rfl rfl 7 rfl dX2_isKnownToAll_52 55 rfl (fun x3 => ?_)
        refine x_gs C 16 (vr_ (some (gE_ g 14))) rfl q2498 rfl dX2_isKnownToAll_55 58 rfl ?_
        refine s_acmp_ne C dX2_isKnownToAll_58 85 rfl 61 rfl (fun c_ => ?_) (fun c_ => ?_)
        · refine s_aload C 0 rfl dX2_isKnownToAll_61 63 rfl ?_
          refine x_giN C 6 (RX7, TX7, 9) rfl 2 (Nat.le_of_ble_eq_true rfl) q1737 rfl rfl 7 rfl dX2_isKnownToAll_63 66 rfl (fun x4 => ?_)
          refine s_aload_n C rfl 1 rfl dX2_isKnownToAll_66 67 rfl ?_
          refine x_gr C 1 (RX2, TX2, 12) rfl 8 (Nat.le_of_ble_eq_true rfl) q312 (Or.inl rfl) rfl 2 rfl dX2_isKnownToAll_67 70 rfl (fun x5 => ?_)
          refine s_iload_n C rfl 4 rfl dX2_isKnownToAll_70 71 rfl ?_
          refine x_ar C 6 (.array .int) rfl rfl rfl 206 rfl dX2_isKnownToAll_71 72 rfl (fun x6 => ?_)
          refine s_aload C 0 rfl dX2_isKnownToAll_72 74 rfl ?_
          refine x_giN C 6 (RX7, TX7, 9) rfl 1 (Nat.le_of_ble_eq_true rfl) q1734 rfl rfl 7 rfl dX2_isKnownToAll_74 77 rfl (fun x7 => ?_)
          refine x_ai0 C 200 rfl dX2_isKnownToAll_77 78 rfl (fun x8 => ?_)
          refine s_icmp_ge C dX2_isKnownToAll_78 85 rfl 81 rfl (fun c_ => ?_) (fun c_ => ?_)
          · refine Sm_sub [1, 2, 3, 4, 6] rfl ?_
            exact wX2_isKnownToAll_b81 C hret h0 hin N (fun m v0 v1 v2 v3 v4 v5 k n => ih m v0 v1 v2 v3 v4 v5 k n) _ _ _ _ _ _ _ _
          · refine Sm_sub [1, 2, 3, 4, 6] rfl ?_
            exact wX2_isKnownToAll_b85 C hret h0 hin N (fun m v0 v1 v2 v3 v4 v5 k n => ih m v0 v1 v2 v3 v4 v5 k n) _ _ _ _ _ _ _ _
        · refine Sm_sub [1, 2, 3, 4, 6] rfl ?_
          exact wX2_isKnownToAll_b85 C hret h0 hin N (fun m v0 v1 v2 v3 v4 v5 k n => ih m v0 v1 v2 v3 v4 v5 k n) _ _ _ _ _ _ _ _
      · refine Sm_sub [1, 2, 3, 4, 6] rfl ?_
        exact wX2_isKnownToAll_b81 C hret h0 hin N (fun m v0 v1 v2 v3 v4 v5 k n => ih m v0 v1 v2 v3 v4 v5 k n) _ _ _ _ _ _ _ _
theorem wX2_isKnownToAll_b4 {l : Launch} {g : GG} {E : Me_} (C : Cx_ l g E "MasterTree$Master" cX2_isKnownToAll 7 12) (hret : (eT_ E).sig.returnType = (Option.some Jvm.ClassFile.FieldType.boolean)) (h0 : ∀ x ∈ (eC_ E).exceptionTable.toList, False) (hin : (eT_ E).name = "isKnownToAll") (N : Nat) : ∀ (F : Nat) (m : Mm) (v0 : Option Nat) (v1 : Option Nat) (v2 : Int32) (v3 : Int32) (k n : Nat), Sm_ l g E 7 en_i (fX2_isKnownToAll_b4 (gE_ g) N F m v0 v1 v2 v3) k n 4 [(0, vr_ v0), (1, vr_ v1), (2, vi_ v2), (3, vi_ v3)] [] m := by
  intro F
  induction F with
  | zero => intros; exact Sm_none
  | succ F ih =>
    intro m v0 v1 v2 v3 k n
    unfold fX2_isKnownToAll_b4
    refine s_iload_n C rfl 3 rfl dX2_isKnownToAll_4 5 rfl ?_
    refine s_iconst C 4 rfl dX2_isKnownToAll_5 6 rfl ?_
    refine s_icmp_ge C dX2_isKnownToAll_6 112 rfl 9 rfl (fun c_ => ?_) (fun c_ => ?_)
    · refine s_iconst C 0 rfl dX2_isKnownToAll_9 10 rfl ?_
      refine s_istore C (Nat.le_of_ble_eq_true rfl) [0, 1, 2, 3] rfl rfl dX2_isKnownToAll_10 12 rfl ?_
      refine s_aload_n C rfl 2 rfl dX2_isKnownToAll_12 13 rfl ?_
      refine x_grN C 2 (RX3, TX3, 9) rfl 2 (Nat.le_of_ble_eq_true rfl) q249 rfl rfl 3 rfl dX2_isKnownToAll_13 16 rfl (fun x1 => ?_)
      refine x_ck (fun hb_ hb0_ => ?_)
      refine x_callF (enc := en_r) C 11 0 [] 13 (ctJ2_iterator C.2.2.2.2.2.2.2.2.1 N m x1) hb_ hb0_ rfl rfl rfl fw_27 q2496 q1691 q1693 q84 q1695 hx6 (Nat.le_of_ble_eq_true rfl) (Nat.le_of_ble_eq_true rfl) rfl (Nat.le_of_ble_eq_true rfl) dX2_isKnownToAll_16 21 rfl rfl hen_r (kk_r (fun x2 m1 k1 n1 => ?_)) (kx_n he_r)
      refine s_astore C (Nat.le_of_ble_eq_true rfl) [0, 1, 2, 3, 4] rfl rfl dX2_isKnownToAll_21 23 rfl ?_
      refine Sm_sub [2, 3, 4, 5, 1, 0] rfl ?_
      exact wX2_isKnownToAll_b23 C hret h0 hin N (fun m v0 v1 v2 v3 k n => ih m v0 v1 v2 v3 k n) N _ _ _ _ _ _ _ _ _
    · refine s_iload_n C rfl 2 rfl dX2_isKnownToAll_112 113 rfl ?_
      exact x_zret C hret rfl dX2_isKnownToAll_113
theorem wX2_isKnownToAll {l : Launch} {g : GG} {E : Me_} (C : Cx_ l g E "MasterTree$Master" cX2_isKnownToAll 7 12) (hret : (eT_ E).sig.returnType = (Option.some Jvm.ClassFile.FieldType.boolean)) (h0 : ∀ x ∈ (eC_ E).exceptionTable.toList, False) (hin : (eT_ E).name = "isKnownToAll") (N : Nat) : ∀ (m : Mm) (v0 : Option Nat) (v1 : Option Nat) (k n : Nat), Sm_ l g E 7 en_i (fX2_isKnownToAll (gE_ g) N m v0 v1) k n 0 [(0, vr_ v0), (1, vr_ v1)] [] m := by
  intro m v0 v1 k n
  unfold fX2_isKnownToAll
  refine s_iconst C 1 rfl dX2_isKnownToAll_0 1 rfl ?_
  refine s_istore_n C rfl (Nat.le_of_ble_eq_true rfl) [0, 1] rfl rfl dX2_isKnownToAll_1 2 rfl ?_
  refine s_iconst C 0 rfl dX2_isKnownToAll_2 3 rfl ?_
  refine s_istore_n C rfl (Nat.le_of_ble_eq_true rfl) [0, 1, 2] rfl rfl dX2_isKnownToAll_3 4 rfl ?_
  refine Sm_sub [2, 3, 1, 0] rfl ?_
  exact wX2_isKnownToAll_b4 C hret h0 hin N N _ _ _ _ _ _ _
theorem hdX2_isKnownToAll : ((⟨"MasterTree$Master", "isKnownToAll", "(LMasterTree$Entry;)Z"⟩ : MethodName)).cls ≠ "java/lang/invoke/MethodHandle" ∧ ((⟨"MasterTree$Master", "isKnownToAll", "(LMasterTree$Entry;)Z"⟩ : MethodName)).cls ≠ "java/lang/invoke/VarHandle" ∧ (parseMethodDescriptor ((⟨"MasterTree$Master", "isKnownToAll", "(LMasterTree$Entry;)Z"⟩ : MethodName)).desc).map (fun d => d.parameters.length) = some 1 := ⟨by decide +kernel, by decide +kernel, by decide +kernel⟩
theorem ctX2_isKnownToAll {l : Launch} {g : GG} (hst : l.stackTraces = false) (N : Nat) (m : Mm) (v0 : Option Nat) (v1 : Option Nat) : ∀ v m' k n, fX2_isKnownToAll (gE_ g) N m v0 v1 = some (v, m', k, n) → Ct_ l g (⟨"MasterTree$Master", "isKnownToAll", "(LMasterTree$Entry;)Z"⟩ : MethodName) (ws_ (⟨"MasterTree$Master", "isKnownToAll", "(LMasterTree$Entry;)Z"⟩ : MethodName) cX2_isKnownToAll 7 (Option.some Jvm.ClassFile.FieldType.boolean)) 12 [vr_ v0, vr_ v1] m (en_i v) m' k n :=
  Ct_of (by decide +kernel) rfl hst (Nat.le_of_ble_eq_true rfl) rfl (fun E C hret h0 hin => wX2_isKnownToAll C hret h0 hin N m v0 v1 0 0)
theorem wX2_marks_b88 {l : Launch} {g : GG} {E : Me_} (C : Cx_ l g E "MasterTree$Master" cX2_marks 6 13) (hret : (eT_ E).sig.returnType = (Option.some Jvm.ClassFile.FieldType.long)) (h0 : ∀ x ∈ (eC_ E).exceptionTable.toList, False) (hin : (eT_ E).name = "marks") (N : Nat) {k5 : Mm → Option Nat → Int32 → Int64 → Int32 → Rs (Int64)} (hk5 : ∀ (m : Mm) (v0 : Option Nat) (v1 : Int32) (v2 : Int64) (v4 : Int32) (k n : Nat), Sm_ l g E 6 en_j (k5 m v0 v1 v2 v4) k n 5 [(0, vr_ v0), (1, vi_ v1), (2, vj_ v2), (4, vi_ v4)] [] m) : ∀ (m : Mm) (v0 : Option Nat) (v1 : Int32) (v4 : Int32) (s0 : Int64) (s1 : Int64) (k n : Nat), Sm_ l g E 6 en_j (fX2_marks_b88 (gE_ g) N k5 m v0 v1 v4 s0 s1) k n 88 [(0, vr_ v0), (1, vi_ v1), (4, vi_ v4)] [vj_ s1, vj_ s0] m := by
  intro m v0 v1 v4 s0 s1 k n
  unfold fX2_marks_b88
  refine s_lor C dX2_marks_88 89 rfl ?_
  refine s_lstore_n C rfl (Nat.le_of_ble_eq_true rfl) [0, 1, 2] rfl rfl dX2_marks_89 90 rfl ?_
  refine s_iinc C 1 rfl 3 rfl (Nat.le_of_ble_eq_true rfl) [0, 1, 2] rfl rfl dX2_marks_90 93 rfl ?_
  refine s_goto C (off := -88) 5 dX2_marks_93 rfl ?_
  refine Sm_sub [2, 3, 1, 0] rfl ?_
  exact hk5 _ _ _ _ _ _ _
theorem wX2_marks_b80 {l : Launch} {g : GG} {E : Me_} (C : Cx_ l g E "MasterTree$Master" cX2_marks 6 13) (hret : (eT_ E).sig.returnType = (Option.some Jvm.ClassFile.FieldType.long)) (h0 : ∀ x ∈ (eC_ E).exceptionTable.toList, False) (hin : (eT_ E).name = "marks") (N : Nat) {k5 : Mm → Option Nat → Int32 → Int64 → Int32 → Rs (Int64)} (hk5 : ∀ (m : Mm) (v0 : Option Nat) (v1 : Int32) (v2 : Int64) (v4 : Int32) (k n : Nat), Sm_ l g E 6 en_j (k5 m v0 v1 v2 v4) k n 5 [(0, vr_ v0), (1, vi_ v1), (2, vj_ v2), (4, vi_ v4)] [] m) : ∀ (m : Mm) (v0 : Option Nat) (v1 : Int32) (v4 : Int32) (s0 : Int64) (k n : Nat), Sm_ l g E 6 en_j (fX2_marks_b80 (gE_ g) N k5 m v0 v1 v4 s0) k n 80 [(0, vr_ v0), (1, vi_ v1), (4, vi_ v4)] [vj_ s0] m := by
  intro m v0 v1 v4 s0 k n
  unfold fX2_marks_b80
  refine s_lconst C 1 rfl dX2_marks_80 81 rfl ?_
  refine s_iload C 2 rfl dX2_marks_81 83 rfl ?_
  refine s_lshl C dX2_marks_83 84 rfl ?_
  refine s_goto C (off := 4) 88 dX2_marks_84 rfl ?_
  exact wX2_marks_b88 C hret h0 hin N hk5 _ _ _ _ _ _ _ _
theorem wX2_marks_b87 {l : Launch} {g : GG} {E : Me_} (C : Cx_ l g E "MasterTree$Master" cX2_marks 6 13) (hret : (eT_ E).sig.returnType = (Option.some Jvm.ClassFile.FieldType.long)) (h0 : ∀ x ∈ (eC_ E).exceptionTable.toList, False) (hin : (eT_ E).name = "marks") (N : Nat) {k5 : Mm → Option Nat → Int32 → Int64 → Int32 → Rs (Int64)} (hk5 : ∀ (m : Mm) (v0 : Option Nat) (v1 : Int32) (v2 : Int64) (v4 : Int32) (k n : Nat), Sm_ l g E 6 en_j (k5 m v0 v1 v2 v4) k n 5 [(0, vr_ v0), (1, vi_ v1), (2, vj_ v2), (4, vi_ v4)] [] m) : ∀ (m : Mm) (v0 : Option Nat) (v1 : Int32) (v4 : Int32) (s0 : Int64) (k n : Nat), Sm_ l g E 6 en_j (fX2_marks_b87 (gE_ g) N k5 m v0 v1 v4 s0) k n 87 [(0, vr_ v0), (1, vi_ v1), (4, vi_ v4)] [vj_ s0] m := by
  intro m v0 v1 v4 s0 k n
  unfold fX2_marks_b87
  refine s_lconst C 0 rfl dX2_marks_87 88 rfl ?_
  exact wX2_marks_b88 C hret h0 hin N hk5 _ _ _ _ _ _ _ _
theorem wX2_marks_b54 {l : Launch} {g : GG} {E : Me_} (C : Cx_ l g E "MasterTree$Master" cX2_marks 6 13) (hret : (eT_ E).sig.returnType = (Option.some Jvm.ClassFile.FieldType.long)) (h0 : ∀ x ∈ (eC_ E).exceptionTable.toList, False) (hin : (eT_ E).name = "marks") (N : Nat) {k5 : Mm → Option Nat → Int32 → Int64 → Int32 → Rs (Int64)} (hk5 : ∀ (m : Mm) (v0 : Option Nat) (v1 : Int32) (v2 : Int64) (v4 : Int32) (k n : Nat), Sm_ l g E 6 en_j (k5 m v0 v1 v2 v4) k n 5 [(0, vr_ v0), (1, vi_ v1), (2, vj_ v2), (4, vi_ v4)] [] m) : ∀ (m : Mm) (v0 : Option Nat) (v1 : Int32) (v2 : Int64) (v4 : Int32) (s0 : Int32) (k n : Nat), Sm_ l g E 6 en_j (fX2_marks_b54 (gE_ g) N k5 m v0 v1 v2 v4 s0) k n 54 [(0, vr_ v0), (1, vi_ v1), (2, vj_ v2), (4, vi_ v4)] [vi_ s0] m := by
  intro m v0 v1 v2 v4 s0 k n
  unfold fX2_marks_b54
  refine s_istore C (Nat.le_of_ble_eq_true rfl) [0, 1, 2, 3] rfl rfl dX2_marks_54 56 rfl ?_
  refine s_lload_n C rfl 3 rfl dX2_marks_56 57 rfl ?_
  refine s_iload C 0 rfl dX2_marks_57 59 rfl ?_
  refine s_if_eq C dX2_marks_59 87 rfl 62 rfl (fun c_ => ?_) (fun c_ => ?_)
  · refine Sm_sub [1, 2, 4] rfl ?_
    exact wX2_marks_b87 C hret h0 hin N hk5 _ _ _ _ _ _ _
  · refine s_iload_n C rfl 2 rfl dX2_marks_62 63 rfl ?_
    refine s_if_eq C dX2_marks_63 80 rfl 66 rfl (fun c_ => ?_) (fun c_ => ?_)
    · refine Sm_sub [1, 2, 4] rfl ?_
      exact wX2_marks_b80 C hret h0 hin N hk5 _ _ _ _ _ _ _
    · refine s_aload_n C rfl 1 rfl dX2_marks_66 67 rfl ?_
      refine s_aload_n C rfl 1 rfl dX2_marks_67 68 rfl ?_
      refine x_gr C 1 (RX2, TX2, 12) rfl 6 (Nat.le_of_ble_eq_true rfl) q307 (Or.inl rfl) rfl 2 rfl dX2_marks_68 71 rfl (fun x1 => ?_)
      refine s_iload C 4 rfl dX2_marks_71 73 rfl ?_
      refine x_ar C 5 (.object "MasterTree$Entry") rfl rfl rfl 205 rfl dX2_marks_73 74 rfl (fun x2 => ?_)
      refine x_ck (fun hb_ hb0_ => ?_)
      refine x_callV (enc := en_i) C 12 1 [vr_ x2] 2 (ctX2_isKnownToAll C.2.2.2.2.2.2.2.2.1 N m v0 x2) hb_ hb0_ rfl rfl q2491 q2493 qs26 q85 q2494 hdX2_isKnownToAll (Nat.le_of_ble_eq_true rfl) (Nat.le_of_ble_eq_true rfl) rfl (Nat.le_of_ble_eq_true rfl) dX2_marks_74 77 rfl rfl hen_i (kk_i (fun x3 m1 k1 n1 => ?_)) (kx_n he_i)
      refine s_if_eq C dX2_marks_77 87 rfl 80 rfl (fun c_ => ?_) (fun c_ => ?_)
      · refine Sm_sub [1, 2, 4] rfl ?_
        exact wX2_marks_b87 C hret h0 hin N hk5 _ _ _ _ _ _ _
      · refine Sm_sub [1, 2, 4] rfl ?_
        exact wX2_marks_b80 C hret h0 hin N hk5 _ _ _ _ _ _ _
theorem wX2_marks_b53 {l : Launch} {g : GG} {E : Me_} (C : Cx_ l g E "MasterTree$Master" cX2_marks 6 13) (hret : (eT_ E).sig.returnType = (Option.some Jvm.ClassFile.FieldType.long)) (h0 : ∀ x ∈ (eC_ E).exceptionTable.toList, False) (hin : (eT_ E).name = "marks") (N : Nat) {k5 : Mm → Option Nat → Int32 → Int64 → Int32 → Rs (Int64)} (hk5 : ∀ (m : Mm) (v0 : Option Nat) (v1 : Int32) (v2 : Int64) (v4 : Int32) (k n : Nat), Sm_ l g E 6 en_j (k5 m v0 v1 v2 v4) k n 5 [(0, vr_ v0), (1, vi_ v1), (2, vj_ v2), (4, vi_ v4)] [] m) : ∀ (m : Mm) (v0 : Option Nat) (v1 : Int32) (v2 : Int64) (v4 : Int32) (k n : Nat), Sm_ l g E 6 en_j (fX2_marks_b53 (gE_ g) N k5 m v0 v1 v2 v4) k n 53 [(0, vr_ v0), (1, vi_ v1), (2, vj_ v2), (4, vi_ v4)] [] m := by
  intro m v0 v1 v2 v4 k n
  unfold fX2_marks_b53
  refine s_iconst C 0 rfl dX2_marks_53 54 rfl ?_
  exact wX2_marks_b54 C hret h0 hin N hk5 _ _ _ _ _ _ _ _
theorem wX2_marks_b5 {l : Launch} {g : GG} {E : Me_} (C : Cx_ l g E "MasterTree$Master" cX2_marks 6 13) (hret : (eT_ E).sig.returnType = (Option.some Jvm.ClassFile.FieldType.long)) (h0 : ∀ x ∈ (eC_ E).exceptionTable.toList, False) (hin : (eT_ E).name = "marks") (N : Nat) : ∀ (F : Nat) (m : Mm) (v0 : Option Nat) (v1 : Int32) (v2 : Int64) (v4 : Int32) (k n : Nat), Sm_ l g E 6 en_j (fX2_marks_b5 (gE_ g) N F m v0 v1 v2 v4) k n 5 [(0, vr_ v0), (1, vi_ v1), (2, vj_ v2), (4, vi_ v4)] [] m := by
  intro F
  induction F with
  | zero => intros; exact Sm_none
  | succ F ih =>
    intro m v0 v1 v2 v4 k n
    unfold fX2_marks_b5
    refine s_iload C 3 rfl dX2_marks_5 7 rfl ?_
    refine s_bipush C 48 rfl dX2_marks_7 9 rfl ?_
    refine s_icmp_ge C dX2_marks_9 96 rfl 12 rfl (fun c_ => ?_) (fun c_ => ?_)
    · refine s_aload_n C rfl 0 rfl dX2_marks_12 13 rfl ?_
      refine x_gr C 1 (RX2, TX2, 12) rfl 6 (Nat.le_of_ble_eq_true rfl) q307 (Or.inl rfl) rfl 2 rfl dX2_marks_13 16 rfl (fun x1 => ?_)
      refine s_iload C 3 rfl dX2_marks_16 18 rfl ?_
      refine x_ar C 5 (.object "MasterTree$Entry") rfl rfl rfl 205 rfl dX2_marks_18 19 rfl (fun x2 => ?_)
      refine s_ifnull C dX2_marks_19 53 rfl 22 rfl (fun c_ => ?_) (fun c_ => ?_)
      · exact wX2_marks_b53 C hret h0 hin N (fun m v0 v1 v2 v4 k n => ih m v0 v1 v2 v4 k n) _ _ _ _ _ _ _
      · refine s_aload_n C rfl 0 rfl dX2_marks_22 23 rfl ?_
        refine x_gr C 1 (RX2, TX2, 12) rfl 6 (Nat.le_of_ble_eq_true rfl) q307 (Or.inl rfl) rfl 2 rfl dX2_marks_23 26 rfl (fun x3 => ?_)
        refine s_iload C 3 rfl dX2_marks_26 28 rfl ?_
        refine x_ar C 5 (.object "MasterTree$Entry") rfl rfl rfl 205 rfl dX2_marks_28 29 rfl (fun x4 => ?_)
        refine x_giN C 2 (RX3, TX3, 9) rfl 4 (Nat.le_of_ble_eq_true rfl) q257 rfl rfl 3 rfl dX2_marks_29 32 rfl (fun x5 => ?_)
        refine s_if_eq C dX2_marks_32 53 rfl 35 rfl (fun c_ => ?_) (fun c_ => ?_)
        · exact wX2_marks_b53 C hret h0 hin N (fun m v0 v1 v2 v4 k n => ih m v0 v1 v2 v4 k n) _ _ _ _ _ _ _
        · refine s_aload_n C rfl 0 rfl dX2_marks_35 36 rfl ?_
          refine x_gj C 1 (RX2, TX2, 12) rfl 9 (Nat.le_of_ble_eq_true rfl) q314 (Or.inl rfl) rfl 2 rfl dX2_marks_36 39 rfl (fun x6 => ?_)
          refine s_iload C 3 rfl dX2_marks_39 41 rfl ?_
          refine s_lshr C dX2_marks_41 42 rfl ?_
          refine s_lconst C 1 rfl dX2_marks_42 43 rfl ?_
          refine s_land C dX2_marks_43 44 rfl ?_
          refine s_lconst C 0 rfl dX2_marks_44 45 rfl ?_
          refine s_lcmp C dX2_marks_45 46 rfl ?_
          refine s_if_ne C dX2_marks_46 53 rfl 49 rfl (fun c_ => ?_) (fun c_ => ?_)
          · refine s_iconst C 1 rfl dX2_marks_49 50 rfl ?_
            refine s_goto C (off := 4) 54 dX2_marks_50 rfl ?_
            exact wX2_marks_b54 C hret h0 hin N (fun m v0 v1 v2 v4 k n => ih m v0 v1 v2 v4 k n) _ _ _ _ _ _ _ _
          · exact wX2_marks_b53 C hret h0 hin N (fun m v0 v1 v2 v4 k n => ih m v0 v1 v2 v4 k n) _ _ _ _ _ _ _
    · refine s_lload_n C rfl 2 rfl dX2_marks_96 97 rfl ?_
      exact x_lret C hret rfl dX2_marks_97
theorem wX2_marks {l : Launch} {g : GG} {E : Me_} (C : Cx_ l g E "MasterTree$Master" cX2_marks 6 13) (hret : (eT_ E).sig.returnType = (Option.some Jvm.ClassFile.FieldType.long)) (h0 : ∀ x ∈ (eC_ E).exceptionTable.toList, False) (hin : (eT_ E).name = "marks") (N : Nat) : ∀ (m : Mm) (v0 : Option Nat) (v1 : Int32) (k n : Nat), Sm_ l g E 6 en_j (fX2_marks (gE_ g) N m v0 v1) k n 0 [(0, vr_ v0), (1, vi_ v1)] [] m := by
  intro m v0 v1 k n
  unfold fX2_marks
  refine s_lconst C 0 rfl dX2_marks_0 1 rfl ?_
  refine s_lstore_n C rfl (Nat.le_of_ble_eq_true rfl) [0, 1] rfl rfl dX2_marks_1 2 rfl ?_
  refine s_iconst C 1 rfl dX2_marks_2 3 rfl ?_
  refine s_istore C (Nat.le_of_ble_eq_true rfl) [0, 1, 2] rfl rfl dX2_marks_3 5 rfl ?_
  refine Sm_sub [2, 3, 1, 0] rfl ?_
  exact wX2_marks_b5 C hret h0 hin N N _ _ _ _ _ _ _
theorem hdX2_marks : ((⟨"MasterTree$Master", "marks", "(Z)J"⟩ : MethodName)).cls ≠ "java/lang/invoke/MethodHandle" ∧ ((⟨"MasterTree$Master", "marks", "(Z)J"⟩ : MethodName)).cls ≠ "java/lang/invoke/VarHandle" ∧ (parseMethodDescriptor ((⟨"MasterTree$Master", "marks", "(Z)J"⟩ : MethodName)).desc).map (fun d => d.parameters.length) = some 1 := ⟨by decide +kernel, by decide +kernel, by decide +kernel⟩
theorem ctX2_marks {l : Launch} {g : GG} (hst : l.stackTraces = false) (N : Nat) (m : Mm) (v0 : Option Nat) (v1 : Int32) : ∀ v m' k n, fX2_marks (gE_ g) N m v0 v1 = some (v, m', k, n) → Ct_ l g (⟨"MasterTree$Master", "marks", "(Z)J"⟩ : MethodName) (ws_ (⟨"MasterTree$Master", "marks", "(Z)J"⟩ : MethodName) cX2_marks 6 (Option.some Jvm.ClassFile.FieldType.long)) 13 [vr_ v0, vi_ v1] m (en_j v) m' k n :=
  Ct_of (by decide +kernel) rfl hst (Nat.le_of_ble_eq_true rfl) rfl (fun E C hret h0 hin => wX2_marks C hret h0 hin N m v0 v1 0 0)
theorem wJ28_bitCount {l : Launch} {g : GG} {E : Me_} (C : Cx_ l g E "java/lang/Long" cJ28_bitCount 2 10) (hret : (eT_ E).sig.returnType = (Option.some Jvm.ClassFile.FieldType.int)) (h0 : ∀ x ∈ (eC_ E).exceptionTable.toList, False) (hin : (eT_ E).name = "bitCount") (N : Nat) : ∀ (m : Mm) (v0 : Int64) (k n : Nat), Sm_ l g E 2 en_i (fJ28_bitCount (gE_ g) N m v0) k n 0 [(0, vj_ v0)] [] m := by
  intro m v0 k n
  unfold fJ28_bitCount
  refine s_lload_n C rfl 0 rfl dJ28_bitCount_0 1 rfl ?_
  refine s_lload_n C rfl 0 rfl dJ28_bitCount_1 2 rfl ?_
  refine s_iconst C 1 rfl dJ28_bitCount_2 3 rfl ?_
  refine s_lushr C dJ28_bitCount_3 4 rfl ?_
  refine s_ldc2 C 6148914691236517205 q2502 dJ28_bitCount_4 7 rfl ?_
  refine s_land C dJ28_bitCount_7 8 rfl ?_
  refine s_lsub C dJ28_bitCount_8 9 rfl ?_
  refine s_lstore_n C rfl (Nat.le_of_ble_eq_true rfl) [] rfl rfl dJ28_bitCount_9 10 rfl ?_
  refine s_lload_n C rfl 0 rfl dJ28_bitCount_10 11 rfl ?_
  refine s_ldc2 C 3689348814741910323 q2503 dJ28_bitCount_11 14 rfl ?_
  refine s_land C dJ28_bitCount_14 15 rfl ?_
  refine s_lload_n C rfl 0 rfl dJ28_bitCount_15 16 rfl ?_
  refine s_iconst C 2 rfl dJ28_bitCount_16 17 rfl ?_
  refine s_lushr C dJ28_bitCount_17 18 rfl ?_
  refine s_ldc2 C 3689348814741910323 q2503 dJ28_bitCount_18 21 rfl ?_
  refine s_land C dJ28_bitCount_21 22 rfl ?_
  refine s_ladd C dJ28_bitCount_22 23 rfl ?_
  refine s_lstore_n C rfl (Nat.le_of_ble_eq_true rfl) [] rfl rfl dJ28_bitCount_23 24 rfl ?_
  refine s_lload_n C rfl 0 rfl dJ28_bitCount_24 25 rfl ?_
  refine s_lload_n C rfl 0 rfl dJ28_bitCount_25 26 rfl ?_
  refine s_iconst C 4 rfl dJ28_bitCount_26 27 rfl ?_
  refine s_lushr C dJ28_bitCount_27 28 rfl ?_
  refine s_ladd C dJ28_bitCount_28 29 rfl ?_
  refine s_ldc2 C 1085102592571150095 q2504 dJ28_bitCount_29 32 rfl ?_
  refine s_land C dJ28_bitCount_32 33 rfl ?_
  refine s_lstore_n C rfl (Nat.le_of_ble_eq_true rfl) [] rfl rfl dJ28_bitCount_33 34 rfl ?_
  refine s_lload_n C rfl 0 rfl dJ28_bitCount_34 35 rfl ?_
  refine s_lload_n C rfl 0 rfl dJ28_bitCount_35 36 rfl ?_
  refine s_bipush C 8 rfl dJ28_bitCount_36 38 rfl ?_
  refine s_lushr C dJ28_bitCount_38 39 rfl ?_
  refine s_ladd C dJ28_bitCount_39 40 rfl ?_
  refine s_lstore_n C rfl (Nat.le_of_ble_eq_true rfl) [] rfl rfl dJ28_bitCount_40 41 rfl ?_
  refine s_lload_n C rfl 0 rfl dJ28_bitCount_41 42 rfl ?_
  refine s_lload_n C rfl 0 rfl dJ28_bitCount_42 43 rfl ?_
  refine s_bipush C 16 rfl dJ28_bitCount_43 45 rfl ?_
  refine s_lushr C dJ28_bitCount_45 46 rfl ?_
  refine s_ladd C dJ28_bitCount_46 47 rfl ?_
  refine s_lstore_n C rfl (Nat.le_of_ble_eq_true rfl) [] rfl rfl dJ28_bitCount_47 48 rfl ?_
  refine s_lload_n C rfl 0 rfl dJ28_bitCount_48 49 rfl ?_
  refine s_lload_n C rfl 0 rfl dJ28_bitCount_49 50 rfl ?_
  refine s_bipush C 32 rfl dJ28_bitCount_50 52 rfl ?_
  refine s_lushr C dJ28_bitCount_52 53 rfl ?_
  refine s_ladd C dJ28_bitCount_53 54 rfl ?_
  refine s_lstore_n C rfl (Nat.le_of_ble_eq_true rfl) [] rfl rfl dJ28_bitCount_54 55 rfl ?_
  refine s_lload_n C rfl 0 rfl dJ28_bitCount_55 56 rfl ?_
  refine s_l2i C dJ28_bitCount_56 57 rfl ?_
  refine s_bipush C 127 rfl dJ28_bitCount_57 59 rfl ?_
  refine s_iand C dJ28_bitCount_59 60 rfl ?_
  exact x_iret C hret rfl dJ28_bitCount_60
theorem hdJ28_bitCount : ((⟨"java/lang/Long", "bitCount", "(J)I"⟩ : MethodName)).cls ≠ "java/lang/invoke/MethodHandle" ∧ ((⟨"java/lang/Long", "bitCount", "(J)I"⟩ : MethodName)).cls ≠ "java/lang/invoke/VarHandle" ∧ (parseMethodDescriptor ((⟨"java/lang/Long", "bitCount", "(J)I"⟩ : MethodName)).desc).map (fun d => d.parameters.length) = some 1 := ⟨by decide +kernel, by decide +kernel, by decide +kernel⟩
theorem ctJ28_bitCount {l : Launch} {g : GG} (hst : l.stackTraces = false) (N : Nat) (m : Mm) (v0 : Int64) : ∀ v m' k n, fJ28_bitCount (gE_ g) N m v0 = some (v, m', k, n) → Ct_ l g (⟨"java/lang/Long", "bitCount", "(J)I"⟩ : MethodName) (ws_ (⟨"java/lang/Long", "bitCount", "(J)I"⟩ : MethodName) cJ28_bitCount 2 (Option.some Jvm.ClassFile.FieldType.int)) 10 [vj_ v0] m (en_i v) m' k n :=
  Ct_of (by decide +kernel) rfl hst (Nat.le_of_ble_eq_true rfl) rfl (fun E C hret h0 hin => wJ28_bitCount C hret h0 hin N m v0 0 0)
theorem wX2_next_b69 {l : Launch} {g : GG} {E : Me_} (C : Cx_ l g E "MasterTree$Master" cX2_next 6 16) (hret : (eT_ E).sig.returnType = (Option.some Jvm.ClassFile.FieldType.int)) (h0 : ∀ x ∈ (eC_ E).exceptionTable.toList, False) (hin : (eT_ E).name = "next") (N : Nat) {k5 : Mm → Option Nat → Int32 → Int32 → Int32 → Int32 → Rs (Int32)} (hk5 : ∀ (m : Mm) (v0 : Option Nat) (v1 : Int32) (v2 : Int32) (v3 : Int32) (v4 : Int32) (k n : Nat), Sm_ l g E 6 en_i (k5 m v0 v1 v2 v3 v4) k n 5 [(0, vr_ v0), (1, vi_ v1), (2, vi_ v2), (3, vi_ v3), (4, vi_ v4)] [] m) : ∀ (m : Mm) (v0 : Option Nat) (v1 : Int32) (v2 : Int32) (v4 : Int32) (s0 : Int32) (k n : Nat), Sm_ l g E 6 en_i (fX2_next_b69 (gE_ g) N k5 m v0 v1 v2 v4 s0) k n 69 [(0, vr_ v0), (1, vi_ v1), (2, vi_ v2), (4, vi_ v4)] [vi_ s0] m := by
  intro m v0 v1 v2 v4 s0 k n
  unfold fX2_next_b69
  refine s_istore_n C rfl (Nat.le_of_ble_eq_true rfl) [0, 1, 2, 3] rfl rfl dX2_next_69 70 rfl ?_
  refine s_iinc C 1 rfl 4 rfl (Nat.le_of_ble_eq_true rfl) [0, 1, 2, 3] rfl rfl dX2_next_70 73 rfl ?_
  refine s_goto C (off := -68) 5 dX2_next_73 rfl ?_
  refine Sm_sub [2, 3, 4, 1, 0] rfl ?_
  exact hk5 _ _ _ _ _ _ _ _
theorem wX2_next_b63 {l : Launch} {g : GG} {E : Me_} (C : Cx_ l g E "MasterTree$Master" cX2_next 6 16) (hret : (eT_ E).sig.returnType = (Option.some Jvm.ClassFile.FieldType.int)) (h0 : ∀ x ∈ (eC_ E).exceptionTable.toList, False) (hin : (eT_ E).name = "next") (N : Nat) {k5 : Mm → Option Nat → Int32 → Int32 → Int32 → Int32 → Rs (Int32)} (hk5 : ∀ (m : Mm) (v0 : Option Nat) (v1 : Int32) (v2 : Int32) (v3 : Int32) (v4 : Int32) (k n : Nat), Sm_ l g E 6 en_i (k5 m v0 v1 v2 v3 v4) k n 5 [(0, vr_ v0), (1, vi_ v1), (2, vi_ v2), (3, vi_ v3), (4, vi_ v4)] [] m) : ∀ (m : Mm) (v0 : Option Nat) (v1 : Int32) (v2 : Int32) (v4 : Int32) (k n : Nat), Sm_ l g E 6 en_i (fX2_next_b63 (gE_ g) N k5 m v0 v1 v2 v4) k n 63 [(0, vr_ v0), (1, vi_ v1), (2, vi_ v2), (4, vi_ v4)] [] m := by
  intro m v0 v1 v2 v4 k n
  unfold fX2_next_b63
  refine s_iload C 3 rfl dX2_next_63 65 rfl ?_
  refine s_goto C (off := 4) 69 dX2_next_65 rfl ?_
  exact wX2_next_b69 C hret h0 hin N hk5 _ _ _ _ _ _ _ _
theorem wX2_next_b68 {l : Launch} {g : GG} {E : Me_} (C : Cx_ l g E "MasterTree$Master" cX2_next 6 16) (hret : (eT_ E).sig.returnType = (Option.some Jvm.ClassFile.FieldType.int)) (h0 : ∀ x ∈ (eC_ E).exceptionTable.toList, False) (hin : (eT_ E).name = "next") (N : Nat) {k5 : Mm → Option Nat → Int32 → Int32 → Int32 → Int32 → Rs (Int32)} (hk5 : ∀ (m : Mm) (v0 : Option Nat) (v1 : Int32) (v2 : Int32) (v3 : Int32) (v4 : Int32) (k n : Nat), Sm_ l g E 6 en_i (k5 m v0 v1 v2 v3 v4) k n 5 [(0, vr_ v0), (1, vi_ v1), (2, vi_ v2), (3, vi_ v3), (4, vi_ v4)] [] m) : ∀ (m : Mm) (v0 : Option Nat) (v1 : Int32) (v2 : Int32) (v3 : Int32) (v4 : Int32) (k n : Nat), Sm_ l g E 6 en_i (fX2_next_b68 (gE_ g) N k5 m v0 v1 v2 v3 v4) k n 68 [(0, vr_ v0), (1, vi_ v1), (2, vi_ v2), (3, vi_ v3), (4, vi_ v4)] [] m := by
  intro m v0 v1 v2 v3 v4 k n
  unfold fX2_next_b68
  refine s_iload_n C rfl 3 rfl dX2_next_68 69 rfl ?_
  refine Sm_sub [0, 1, 2, 4] rfl ?_
  exact wX2_next_b69 C hret h0 hin N hk5 _ _ _ _ _ _ _ _
theorem wX2_next_b37 {l : Launch} {g : GG} {E : Me_} (C : Cx_ l g E "MasterTree$Master" cX2_next 6 16) (hret : (eT_ E).sig.returnType = (Option.some Jvm.ClassFile.FieldType.int)) (h0 : ∀ x ∈ (eC_ E).exceptionTable.toList, False) (hin : (eT_ E).name = "next") (N : Nat) {k5 : Mm → Option Nat → Int32 → Int32 → Int32 → Int32 → Rs (Int32)} (hk5 : ∀ (m : Mm) (v0 : Option Nat) (v1 : Int32) (v2 : Int32) (v3 : Int32) (v4 : Int32) (k n : Nat), Sm_ l g E 6 en_i (k5 m v0 v1 v2 v3 v4) k n 5 [(0, vr_ v0), (1, vi_ v1), (2, vi_ v2), (3, vi_ v3), (4, vi_ v4)] [] m) : ∀ (m : Mm) (v0 : Option Nat) (v1 : Int32) (v2 : Int32) (v3 : Int32) (v4 : Int32) (s0 : Int32) (k n : Nat), Sm_ l g E 6 en_i (fX2_next_b37 (gE_ g) N k5 m v0 v1 v2 v3 v4 s0) k n 37 [(0, vr_ v0), (1, vi_ v1), (2, vi_ v2), (3, vi_ v3), (4, vi_ v4)] [vi_ s0] m := by
  intro m v0 v1 v2 v3 v4 s0 k n
  unfold fX2_next_b37
  refine s_istore C (Nat.le_of_ble_eq_true rfl) [0, 1, 2, 3, 4] rfl rfl dX2_next_37 39 rfl ?_
  refine s_iload C 0 rfl dX2_next_39 41 rfl ?_
  refine s_if_eq C dX2_next_41 68 rfl 44 rfl (fun c_ => ?_) (fun c_ => ?_)
  · refine Sm_sub [1, 2, 3, 4, 5] rfl ?_
    exact wX2_next_b68 C hret h0 hin N hk5 _ _ _ _ _ _ _ _
  · refine s_iload_n C rfl 4 rfl dX2_next_44 45 rfl ?_
    refine s_iconst C (-1) rfl dX2_next_45 46 rfl ?_
    refine s_icmp_eq C dX2_next_46 63 rfl 49 rfl (fun c_ => ?_) (fun c_ => ?_)
    · refine Sm_sub [1, 2, 3, 5] rfl ?_
      exact wX2_next_b63 C hret h0 hin N hk5 _ _ _ _ _ _ _
    · refine s_aload_n C rfl 1 rfl dX2_next_49 50 rfl ?_
      refine s_iload C 5 rfl dX2_next_50 52 rfl ?_
      refine x_ck (fun hb_ hb0_ => ?_)
      refine x_callV (enc := en_i) C 15 1 [vi_ v4] 2 (ctX2_shownName C.2.2.2.2.2.2.2.2.1 N m v0 v4) hb_ hb0_ rfl rfl q1667 q1668 q1669 q85 q1670 hdX2_shownName (Nat.le_of_ble_eq_true rfl) (Nat.le_of_ble_eq_true rfl) rfl (Nat.le_of_ble_eq_true rfl) dX2_next_52 55 rfl rfl hen_i (kk_i (fun x1 m1 k1 n1 => ?_)) (kx_n he_i)
      refine s_aload_n C rfl 1 rfl dX2_next_55 56 rfl ?_
      refine s_iload_n C rfl 4 rfl dX2_next_56 57 rfl ?_
      refine x_ck (fun hb_ hb0_ => ?_)
      refine x_callV (enc := en_i) C 15 1 [vi_ v3] 2 (ctX2_shownName C.2.2.2.2.2.2.2.2.1 N m1 v0 v3) hb_ hb0_ rfl rfl q1667 q1668 q1669 q85 q1670 hdX2_shownName (Nat.le_of_ble_eq_true rfl) (Nat.le_of_ble_eq_true rfl) rfl (Nat.le_of_ble_eq_true rfl) dX2_next_57 60 rfl rfl hen_i (kk_i (fun x2 m2 k1 n1 => ?_)) (kx_n he_i)
      refine s_icmp_ge C dX2_next_60 68 rfl 63 rfl (fun c_ => ?_) (fun c_ => ?_)
      · refine Sm_sub [1, 2, 3, 5] rfl ?_
        exact wX2_next_b63 C hret h0 hin N hk5 _ _ _ _ _ _ _
      · refine Sm_sub [1, 2, 3, 4, 5] rfl ?_
        exact wX2_next_b68 C hret h0 hin N hk5 _ _ _ _ _ _ _ _
theorem wX2_next_b36 {l : Launch} {g : GG} {E : Me_} (C : Cx_ l g E "MasterTree$Master" cX2_next 6 16) (hret : (eT_ E).sig.returnType = (Option.some Jvm.ClassFile.FieldType.int)) (h0 : ∀ x ∈ (eC_ E).exceptionTable.toList, False) (hin : (eT_ E).name = "next") (N : Nat) {k5 : Mm → Option Nat → Int32 → Int32 → Int32 → Int32 → Rs (Int32)} (hk5 : ∀ (m : Mm) (v0 : Option Nat) (v1 : Int32) (v2 : Int32) (v3 : Int32) (v4 : Int32) (k n : Nat), Sm_ l g E 6 en_i (k5 m v0 v1 v2 v3 v4) k n 5 [(0, vr_ v0), (1, vi_ v1), (2, vi_ v2), (3, vi_ v3), (4, vi_ v4)] [] m) : ∀ (m : Mm) (v0 : Option Nat) (v1 : Int32) (v2 : Int32) (v3 : Int32) (v4 : Int32) (k n : Nat), Sm_ l g E 6 en_i (fX2_next_b36 (gE_ g) N k5 m v0 v1 v2 v3 v4) k n 36 [(0, vr_ v0), (1, vi_ v1), (2, vi_ v2), (3, vi_ v3), (4, vi_ v4)] [] m := by
  intro m v0 v1 v2 v3 v4 k n
  unfold fX2_next_b36
  refine s_iconst C 0 rfl dX2_next_36 37 rfl ?_
  exact wX2_next_b37 C hret h0 hin N hk5 _ _ _ _ _ _ _ _ _
theorem wX2_next_b5 {l : Launch} {g : GG} {E : Me_} (C : Cx_ l g E "MasterTree$Master" cX2_next 6 16) (hret : (eT_ E).sig.returnType = (Option.some Jvm.ClassFile.FieldType.int)) (h0 : ∀ x ∈ (eC_ E).exceptionTable.toList, False) (hin : (eT_ E).name = "next") (N : Nat) : ∀ (F : Nat) (m : Mm) (v0 : Option Nat) (v1 : Int32) (v2 : Int32) (v3 : Int32) (v4 : Int32) (k n : Nat), Sm_ l g E 6 en_i (fX2_next_b5 (gE_ g) N F m v0 v1 v2 v3 v4) k n 5 [(0, vr_ v0), (1, vi_ v1), (2, vi_ v2), (3, vi_ v3), (4, vi_ v4)] [] m := by
  intro F
  induction F with
  | zero => intros; exact Sm_none
  | succ F ih =>
    intro m v0 v1 v2 v3 v4 k n
    unfold fX2_next_b5
    refine s_iload C 4 rfl dX2_next_5 7 rfl ?_
    refine s_bipush C 48 rfl dX2_next_7 9 rfl ?_
    refine s_icmp_ge C dX2_next_9 76 rfl 12 rfl (fun c_ => ?_) (fun c_ => ?_)
    · refine s_aload_n C rfl 0 rfl dX2_next_12 13 rfl ?_
      refine s_iload C 4 rfl dX2_next_13 15 rfl ?_
      refine s_iload_n C rfl 1 rfl dX2_next_15 16 rfl ?_
      refine x_ck (fun hb_ hb0_ => ?_)
      refine x_callV (enc := en_i) C 13 2 [vi_ v4, vi_ v1] 2 (ctX2_isAt C.2.2.2.2.2.2.2.2.1 N m v0 v4 v1) hb_ hb0_ rfl rfl q1663 q1664 q1665 q85 q1666 hdX2_isAt (Nat.le_of_ble_eq_true rfl) (Nat.le_of_ble_eq_true rfl) rfl (Nat.le_of_ble_eq_true rfl) dX2_next_16 19 rfl rfl hen_i (kk_i (fun x1 m1 k1 n1 => ?_)) (kx_n he_i)
      refine s_if_eq C dX2_next_19 36 rfl 22 rfl (fun c_ => ?_) (fun c_ => ?_)
      · exact wX2_next_b36 C hret h0 hin N (fun m v0 v1 v2 v3 v4 k n => ih m v0 v1 v2 v3 v4 k n) _ _ _ _ _ _ _ _
      · refine s_aload_n C rfl 0 rfl dX2_next_22 23 rfl ?_
        refine s_iload C 4 rfl dX2_next_23 25 rfl ?_
        refine x_ck (fun hb_ hb0_ => ?_)
        refine x_callV (enc := en_i) C 15 1 [vi_ v4] 2 (ctX2_shownName C.2.2.2.2.2.2.2.2.1 N m1 v0 v4) hb_ hb0_ rfl rfl q1667 q1668 q1669 q85 q1670 hdX2_shownName (Nat.le_of_ble_eq_true rfl) (Nat.le_of_ble_eq_true rfl) rfl (Nat.le_of_ble_eq_true rfl) dX2_next_25 28 rfl rfl hen_i (kk_i (fun x2 m2 k1 n1 => ?_)) (kx_n he_i)
        refine s_iload_n C rfl 2 rfl dX2_next_28 29 rfl ?_
        refine s_icmp_le C dX2_next_29 36 rfl 32 rfl (fun c_ => ?_) (fun c_ => ?_)
        · refine s_iconst C 1 rfl dX2_next_32 33 rfl ?_
          refine s_goto C (off := 4) 37 dX2_next_33 rfl ?_
          exact wX2_next_b37 C hret h0 hin N (fun m v0 v1 v2 v3 v4 k n => ih m v0 v1 v2 v3 v4 k n) _ _ _ _ _ _ _ _ _
        · exact wX2_next_b36 C hret h0 hin N (fun m v0 v1 v2 v3 v4 k n => ih m v0 v1 v2 v3 v4 k n) _ _ _ _ _ _ _ _
    · refine s_iload_n C rfl 3 rfl dX2_next_76 77 rfl ?_
      exact x_iret C hret rfl dX2_next_77
theorem wX2_next {l : Launch} {g : GG} {E : Me_} (C : Cx_ l g E "MasterTree$Master" cX2_next 6 16) (hret : (eT_ E).sig.returnType = (Option.some Jvm.ClassFile.FieldType.int)) (h0 : ∀ x ∈ (eC_ E).exceptionTable.toList, False) (hin : (eT_ E).name = "next") (N : Nat) : ∀ (m : Mm) (v0 : Option Nat) (v1 : Int32) (v2 : Int32) (k n : Nat), Sm_ l g E 6 en_i (fX2_next (gE_ g) N m v0 v1 v2) k n 0 [(0, vr_ v0), (1, vi_ v1), (2, vi_ v2)] [] m := by
  intro m v0 v1 v2 k n
  unfold fX2_next
  refine s_iconst C (-1) rfl dX2_next_0 1 rfl ?_
  refine s_istore_n C rfl (Nat.le_of_ble_eq_true rfl) [0, 1, 2] rfl rfl dX2_next_1 2 rfl ?_
  refine s_iconst C 1 rfl dX2_next_2 3 rfl ?_
  refine s_istore C (Nat.le_of_ble_eq_true rfl) [0, 1, 2, 3] rfl rfl dX2_next_3 5 rfl ?_
  refine Sm_sub [2, 3, 4, 1, 0] rfl ?_
  exact wX2_next_b5 C hret h0 hin N N _ _ _ _ _ _ _ _
theorem hdX2_next : ((⟨"MasterTree$Master", "next", "(II)I"⟩ : MethodName)).cls ≠ "java/lang/invoke/MethodHandle" ∧ ((⟨"MasterTree$Master", "next", "(II)I"⟩ : MethodName)).cls ≠ "java/lang/invoke/VarHandle" ∧ (parseMethodDescriptor ((⟨"MasterTree$Master", "next", "(II)I"⟩ : MethodName)).desc).map (fun d => d.parameters.length) = some 2 := ⟨by decide +kernel, by decide +kernel, by decide +kernel⟩
theorem ctX2_next {l : Launch} {g : GG} (hst : l.stackTraces = false) (N : Nat) (m : Mm) (v0 : Option Nat) (v1 : Int32) (v2 : Int32) : ∀ v m' k n, fX2_next (gE_ g) N m v0 v1 v2 = some (v, m', k, n) → Ct_ l g (⟨"MasterTree$Master", "next", "(II)I"⟩ : MethodName) (ws_ (⟨"MasterTree$Master", "next", "(II)I"⟩ : MethodName) cX2_next 6 (Option.some Jvm.ClassFile.FieldType.int)) 16 [vr_ v0, vi_ v1, vi_ v2] m (en_i v) m' k n :=
  Ct_of (by decide +kernel) rfl hst (Nat.le_of_ble_eq_true rfl) rfl (fun E C hret h0 hin => wX2_next C hret h0 hin N m v0 v1 v2 0 0)
theorem wX1_delete_b33 {l : Launch} {g : GG} {E : Me_} (C : Cx_ l g E "MasterTree" cX1_delete 4 25) (hret : (eT_ E).sig.returnType = (Option.some Jvm.ClassFile.FieldType.int)) (h0 : ∀ x ∈ (eC_ E).exceptionTable.toList, False) (hin : (eT_ E).name = "delete") (N : Nat) : ∀ (m : Mm) (v0 : Option Nat) (v2 : Int32) (v3 : Option Nat) (s0 : Int32) (k n : Nat), Sm_ l g E 4 (xe_ en_i) (fX1_delete_b33 (gE_ g) N m v0 v2 v3 s0) k n 33 [(0, vr_ v0), (2, vi_ v2), (3, vr_ v3)] [vi_ s0] m := by
  intro m v0 v2 v3 s0 k n
  unfold fX1_delete_b33
  refine x_lsw C 27 27 rfl dX1_delete_33 36 rfl ?_
  refine x_callS (enc := (xe_ en_v)) C 10 2 [vi_ s0, vr_ (some (gE_ g (100 + 27)))] (ctX1_must C.2.2.2.2.2.2.2.2.1 N m s0 (some (gE_ g (100 + 27)))) q510 q511 q81 q512 hdX1_must (Nat.le_of_ble_eq_true rfl) (Nat.le_of_ble_eq_true rfl) rfl (Nat.le_of_ble_eq_true rfl) dX1_delete_36 39 rfl rfl (hen_x hen_v) (kk_x (kk_v (fun m1 k1 n1 => ?_))) (kx_x C h0 he_v)
  refine s_aload_n C rfl 0 rfl dX1_delete_39 40 rfl ?_
  refine s_aload_n C rfl 2 rfl dX1_delete_40 41 rfl ?_
  refine x_gs C 16 (vr_ (some (gE_ g 14))) rfl q2485 rfl dX1_delete_41 44 rfl ?_
  refine s_iload_n C rfl 1 rfl dX1_delete_44 45 rfl ?_
  refine s_iconst C 0 rfl dX1_delete_45 46 rfl ?_
  refine s_iconst C 0 rfl dX1_delete_46 47 rfl ?_
  refine x_ck (fun hb_ hb0_ => ?_)
  refine x_callV (enc := en_v) C 24 5 [vr_ v3, vr_ (some (gE_ g 14)), vi_ v2, vi_ 0, vi_ 0] 1 (ctX1_makes_2 C.2.2.2.2.2.2.2.2.1 N m1 v0 v3 (some (gE_ g 14)) v2 0 0) hb_ hb0_ rfl rfl q2426 q2428 qs25 q81 q2429 hdX1_makes_2 (Nat.le_of_ble_eq_true rfl) (Nat.le_of_ble_eq_true rfl) rfl (Nat.le_of_ble_eq_true rfl) dX1_delete_47 50 rfl rfl hen_v (kk_v (fun m2 k1 n1 => ?_)) (kx_n he_v)
  refine s_aload_n C rfl 2 rfl dX1_delete_50 51 rfl ?_
  refine s_iconst C 0 rfl dX1_delete_51 52 rfl ?_
  refine x_ck (fun hb_ hb0_ => ?_)
  refine x_callV (enc := en_j) C 13 1 [vi_ 0] 2 (ctX2_marks C.2.2.2.2.2.2.2.2.1 N m2 v3 0) hb_ hb0_ rfl rfl q2487 q2488 q2489 q85 q2490 hdX2_marks (Nat.le_of_ble_eq_true rfl) (Nat.le_of_ble_eq_true rfl) rfl (Nat.le_of_ble_eq_true rfl) dX1_delete_52 55 rfl rfl hen_j (kk_j (fun x1 m3 k1 n1 => ?_)) (kx_n he_j)
  refine x_callS (enc := en_i) C 10 1 [vj_ x1] (ctJ28_bitCount C.2.2.2.2.2.2.2.2.1 N m3 x1) q2499 q2500 q116 q2501 hdJ28_bitCount (Nat.le_of_ble_eq_true rfl) (Nat.le_of_ble_eq_true rfl) rfl (Nat.le_of_ble_eq_true rfl) dX1_delete_55 58 rfl rfl hen_i (kk_i (fun x2 m4 k1 n1 => ?_)) (kx_n he_i)
  exact x_iret C hret rfl dX1_delete_58
theorem wX1_delete {l : Launch} {g : GG} {E : Me_} (C : Cx_ l g E "MasterTree" cX1_delete 4 25) (hret : (eT_ E).sig.returnType = (Option.some Jvm.ClassFile.FieldType.int)) (h0 : ∀ x ∈ (eC_ E).exceptionTable.toList, False) (hin : (eT_ E).name = "delete") (N : Nat) : ∀ (m : Mm) (v0 : Option Nat) (v1 : Int32) (v2 : Int32) (k n : Nat), Sm_ l g E 4 (xe_ en_i) (fX1_delete (gE_ g) N m v0 v1 v2) k n 0 [(0, vr_ v0), (1, vi_ v1), (2, vi_ v2)] [] m := by
  intro m v0 v1 v2 k n
  unfold fX1_delete
  refine s_aload_n C rfl 0 rfl dX1_delete_0 1 rfl ?_
  refine s_iload_n C rfl 1 rfl dX1_delete_1 2 rfl ?_
  refine x_ck (fun hb_ hb0_ => ?_)
  refine x_callV (enc := (xe_ en_r)) C 17 1 [vi_ v1] 1 (ctX1_at C.2.2.2.2.2.2.2.2.1 N m v0 v1) hb_ hb0_ rfl rfl q934 q936 qs5 q81 q937 hdX1_at (Nat.le_of_ble_eq_true rfl) (Nat.le_of_ble_eq_true rfl) rfl (Nat.le_of_ble_eq_true rfl) dX1_delete_2 5 rfl rfl (hen_x hen_r) (kk_x (kk_r (fun x1 m1 k1 n1 => ?_))) (kx_x C h0 he_r)
  refine s_astore_n C rfl (Nat.le_of_ble_eq_true rfl) [0, 2] rfl rfl dX1_delete_5 6 rfl ?_
  refine s_aload_n C rfl 0 rfl dX1_delete_6 7 rfl ?_
  refine s_iload_n C rfl 2 rfl dX1_delete_7 8 rfl ?_
  refine x_callS (enc := (xe_ en_r)) C 17 2 [vr_ x1, vi_ v2] (ctX1_changeable C.2.2.2.2.2.2.2.2.1 N m1 x1 v2) q2306 q2307 q81 q2308 hdX1_changeable (Nat.le_of_ble_eq_true rfl) (Nat.le_of_ble_eq_true rfl) rfl (Nat.le_of_ble_eq_true rfl) dX1_delete_8 11 rfl rfl (hen_x hen_r) (kk_x (kk_r (fun x2 m2 k1 n1 => ?_))) (kx_x C h0 he_r)
  refine s_pop C rfl dX1_delete_11 12 rfl ?_
  refine s_aload_n C rfl 1 rfl dX1_delete_12 13 rfl ?_
  refine s_aload_n C rfl 0 rfl dX1_delete_13 14 rfl ?_
  refine s_iload_n C rfl 2 rfl dX1_delete_14 15 rfl ?_
  refine x_ck (fun hb_ hb0_ => ?_)
  refine x_callV (enc := (xe_ en_v)) C 19 2 [vr_ x1, vi_ v2] 1 (ctX1_mayWrite C.2.2.2.2.2.2.2.2.1 N m2 v0 x1 v2) hb_ hb0_ rfl rfl q981 q983 qs7 q81 q984 hdX1_mayWrite (Nat.le_of_ble_eq_true rfl) (Nat.le_of_ble_eq_true rfl) rfl (Nat.le_of_ble_eq_true rfl) dX1_delete_15 18 rfl rfl (hen_x hen_v) (kk_x (kk_v (fun m3 k1 n1 => ?_))) (kx_x C h0 he_v)
  refine s_aload_n C rfl 0 rfl dX1_delete_18 19 rfl ?_
  refine s_iload_n C rfl 2 rfl dX1_delete_19 20 rfl ?_
  refine s_iconst C (-1) rfl dX1_delete_20 21 rfl ?_
  refine x_ck (fun hb_ hb0_ => ?_)
  refine x_callV (enc := en_i) C 16 2 [vi_ v2, vi_ (-1)] 2 (ctX2_next C.2.2.2.2.2.2.2.2.1 N m3 x1 v2 (-1)) hb_ hb0_ rfl rfl q2480 q2481 q2482 q85 q2483 hdX2_next (Nat.le_of_ble_eq_true rfl) (Nat.le_of_ble_eq_true rfl) rfl (Nat.le_of_ble_eq_true rfl) dX1_delete_21 24 rfl rfl hen_i (kk_i (fun x3 m4 k1 n1 => ?_)) (kx_n he_i)
  refine s_iconst C (-1) rfl dX1_delete_24 25 rfl ?_
  refine s_icmp_ne C dX1_delete_25 32 rfl 28 rfl (fun c_ => ?_) (fun c_ => ?_)
  · refine s_iconst C 1 rfl dX1_delete_28 29 rfl ?_
    refine s_goto C (off := 4) 33 dX1_delete_29 rfl ?_
    refine Sm_sub [1, 2, 0] rfl ?_
    exact wX1_delete_b33 C hret h0 hin N _ _ _ _ _ _ _
  · refine s_iconst C 0 rfl dX1_delete_32 33 rfl ?_
    refine Sm_sub [1, 2, 0] rfl ?_
    exact wX1_delete_b33 C hret h0 hin N _ _ _ _ _ _ _
theorem hdX1_delete : ((⟨"MasterTree", "delete", "(II)I"⟩ : MethodName)).cls ≠ "java/lang/invoke/MethodHandle" ∧ ((⟨"MasterTree", "delete", "(II)I"⟩ : MethodName)).cls ≠ "java/lang/invoke/VarHandle" ∧ (parseMethodDescriptor ((⟨"MasterTree", "delete", "(II)I"⟩ : MethodName)).desc).map (fun d => d.parameters.length) = some 2 := ⟨by decide +kernel, by decide +kernel, by decide +kernel⟩
theorem ctX1_delete {l : Launch} {g : GG} (hst : l.stackTraces = false) (N : Nat) (m : Mm) (v0 : Option Nat) (v1 : Int32) (v2 : Int32) : ∀ v m' k n, fX1_delete (gE_ g) N m v0 v1 v2 = some (v, m', k, n) → Ct_ l g (⟨"MasterTree", "delete", "(II)I"⟩ : MethodName) (ws_ (⟨"MasterTree", "delete", "(II)I"⟩ : MethodName) cX1_delete 4 (Option.some Jvm.ClassFile.FieldType.int)) 25 [vr_ v0, vi_ v1, vi_ v2] m ((xe_ en_i) v) m' k n :=
  Ct_of (by decide +kernel) rfl hst (Nat.le_of_ble_eq_true rfl) rfl (fun E C hret h0 hin => wX1_delete C hret h0 hin N m v0 v1 v2 0 0)
theorem wX0_delete {l : Launch} {g : GG} {E : Me_} (C : Cx_ l g E "MasterTreeLaw" cX0_delete 5 26) (hret : (eT_ E).sig.returnType = (Option.some Jvm.ClassFile.FieldType.int)) (h0 : (eC_ E).exceptionTable.toList = tableOf [(0, 10, 13, 19), (0, 10, 17, 13)]) (hin : (eT_ E).name = "delete") (N : Nat) : ∀ (m : Mm) (v0 : Option Nat) (v1 : Int32) (v2 : Int32) (v3 : Option Nat) (k n : Nat), Sm_ l g E 5 en_i (fX0_delete (gE_ g) N m v0 v1 v2 v3) k n 0 [(0, vr_ v0), (1, vi_ v1), (2, vi_ v2), (3, vr_ v3)] [] m := by
  intro m v0 v1 v2 v3 k n
  unfold fX0_delete
  refine s_aload_n C rfl 3 rfl dX0_delete_0 1 rfl ?_
  refine s_iconst C 0 rfl dX0_delete_1 2 rfl ?_
  refine s_aload_n C rfl 0 rfl dX0_delete_2 3 rfl ?_
  refine s_iload_n C rfl 1 rfl dX0_delete_3 4 rfl ?_
  refine s_iload_n C rfl 2 rfl dX0_delete_4 5 rfl ?_
  refine x_ck (fun hb_ hb0_ => ?_)
  refine x_callV (enc := (xe_ en_i)) C 25 2 [vi_ v1, vi_ v2] 1 (ctX1_delete C.2.2.2.2.2.2.2.2.1 N m v0 v1 v2) hb_ hb0_ rfl rfl q2476 q2477 q2478 q81 q2479 hdX1_delete (Nat.le_of_ble_eq_true rfl) (Nat.le_of_ble_eq_true rfl) rfl (Nat.le_of_ble_eq_true rfl) dX0_delete_5 8 rfl rfl (hen_x hen_i) (kk_c (kk_i (fun x1 m1 k1 n1 => ?_))) (kx_c he_i (fun i_ m0 k0 n0 => ?_))
  · refine s_i2l C dX0_delete_8 9 rfl ?_
    refine x_bj3 C 203 rfl dX0_delete_9 10 rfl (fun m2 => ?_)
    refine s_goto C (off := 11) 21 dX0_delete_10 rfl ?_
    refine s_iconst C 0 rfl dX0_delete_21 22 rfl ?_
    exact x_iret C hret rfl dX0_delete_22
  · refine Sx_if ?_ ?_
    · refine Sx_ctch C h0 0 [] ({ startPc := 0, endPc := 10, handlerPc := 13, catchType := 19 } : ExceptionTableEntry) [{ startPc := 0, endPc := 10, handlerPc := 17, catchType := 13 }] rfl (fun z hz => by cases hz) (by decide) (by decide) q600 q638 13 rfl (fun q_ => ?_)
      refine s_astore C (Nat.le_of_ble_eq_true rfl) [] rfl rfl dX0_delete_13 15 rfl ?_
      refine s_iconst C 1 rfl dX0_delete_15 16 rfl ?_
      exact x_iret C hret rfl dX0_delete_16
    refine Sx_if ?_ ?_
    · refine Sx_ctch C h0 2 [{ startPc := 0, endPc := 10, handlerPc := 13, catchType := 19 }] ({ startPc := 0, endPc := 10, handlerPc := 17, catchType := 13 } : ExceptionTableEntry) [] rfl (List.forall_mem_cons.mpr ⟨Or.inr ⟨by decide, "java/lang/IndexOutOfBoundsException", q600, List.mem_of_getElem? (i := 4) rfl⟩, fun z hz => by cases hz⟩) (by decide) (by decide) q504 q515 17 rfl (fun q_ => ?_)
      refine s_astore C (Nat.le_of_ble_eq_true rfl) [] rfl rfl dX0_delete_17 19 rfl ?_
      refine s_iconst C 2 rfl dX0_delete_19 20 rfl ?_
      exact x_iret C hret rfl dX0_delete_20
    exact Sx_none
theorem hdX0_delete : ((⟨"MasterTreeLaw", "delete", "(LMasterTree;II[J)I"⟩ : MethodName)).cls ≠ "java/lang/invoke/MethodHandle" ∧ ((⟨"MasterTreeLaw", "delete", "(LMasterTree;II[J)I"⟩ : MethodName)).cls ≠ "java/lang/invoke/VarHandle" ∧ (parseMethodDescriptor ((⟨"MasterTreeLaw", "delete", "(LMasterTree;II[J)I"⟩ : MethodName)).desc).map (fun d => d.parameters.length) = some 4 := ⟨by decide +kernel, by decide +kernel, by decide +kernel⟩
theorem ctX0_delete {l : Launch} {g : GG} (hst : l.stackTraces = false) (N : Nat) (m : Mm) (v0 : Option Nat) (v1 : Int32) (v2 : Int32) (v3 : Option Nat) : ∀ v m' k n, fX0_delete (gE_ g) N m v0 v1 v2 v3 = some (v, m', k, n) → Ct_ l g (⟨"MasterTreeLaw", "delete", "(LMasterTree;II[J)I"⟩ : MethodName) (wsW_ (⟨"MasterTreeLaw", "delete", "(LMasterTree;II[J)I"⟩ : MethodName) cX0_delete 5 (Option.some Jvm.ClassFile.FieldType.int) [(0, 10, 13, 19), (0, 10, 17, 13)]) 26 [vr_ v0, vi_ v1, vi_ v2, vr_ v3] m (en_i v) m' k n :=
  Ct_ofW (by decide +kernel) rfl hst (Nat.le_of_ble_eq_true rfl) rfl (fun E C hret h0 hin => wX0_delete C hret h0 hin N m v0 v1 v2 v3 0 0)
theorem wX1_link_b64 {l : Launch} {g : GG} {E : Me_} (C : Cx_ l g E "MasterTree" cX1_link 7 25) (hret : (eT_ E).sig.returnType = (Option.some Jvm.ClassFile.FieldType.int)) (h0 : ∀ x ∈ (eC_ E).exceptionTable.toList, False) (hin : (eT_ E).name = "link") (N : Nat) : ∀ (m : Mm) (v0 : Option Nat) (v2 : Int32) (v3 : Int32) (v4 : Option Nat) (v5 : Option Nat) (s0 : Int32) (k n : Nat), Sm_ l g E 7 (xe_ en_i) (fX1_link_b64 (gE_ g) N m v0 v2 v3 v4 v5 s0) k n 64 [(0, vr_ v0), (2, vi_ v2), (3, vi_ v3), (4, vr_ v4), (5, vr_ v5)] [vi_ s0] m := by
  intro m v0 v2 v3 v4 v5 s0 k n
  unfold fX1_link_b64
  refine x_lsw C 28 28 rfl dX1_link_64 67 rfl ?_
  refine x_callS (enc := (xe_ en_v)) C 10 2 [vi_ s0, vr_ (some (gE_ g (100 + 28)))] (ctX1_must C.2.2.2.2.2.2.2.2.1 N m s0 (some (gE_ g (100 + 28)))) q510 q511 q81 q512 hdX1_must (Nat.le_of_ble_eq_true rfl) (Nat.le_of_ble_eq_true rfl) rfl (Nat.le_of_ble_eq_true rfl) dX1_link_67 70 rfl rfl (hen_x hen_v) (kk_x (kk_v (fun m1 k1 n1 => ?_))) (kx_x C h0 he_v)
  refine s_aload C 4 rfl dX1_link_70 72 rfl ?_
  refine x_giN C 2 (RX3, TX3, 9) rfl 6 (Nat.le_of_ble_eq_true rfl) q266 rfl rfl 3 rfl dX1_link_72 75 rfl (fun x1 => ?_)
  refine s_istore C (Nat.le_of_ble_eq_true rfl) [0, 1, 2, 3] rfl rfl dX1_link_75 77 rfl ?_
  refine s_aload_n C rfl 1 rfl dX1_link_77 78 rfl ?_
  refine s_aload C 4 rfl dX1_link_78 80 rfl ?_
  refine x_gs C 13 (vr_ (some (gE_ g 11))) rfl q2513 rfl dX1_link_80 83 rfl ?_
  refine s_iload_n C rfl 2 rfl dX1_link_83 84 rfl ?_
  refine s_iload_n C rfl 3 rfl dX1_link_84 85 rfl ?_
  refine s_iconst C 0 rfl dX1_link_85 86 rfl ?_
  refine x_ck (fun hb_ hb0_ => ?_)
  refine x_callV (enc := en_v) C 24 5 [vr_ v4, vr_ (some (gE_ g 11)), vi_ v2, vi_ v3, vi_ 0] 1 (ctX1_makes_2 C.2.2.2.2.2.2.2.2.1 N m1 v0 v4 (some (gE_ g 11)) v2 v3 0) hb_ hb0_ rfl rfl q2426 q2428 qs25 q81 q2429 hdX1_makes_2 (Nat.le_of_ble_eq_true rfl) (Nat.le_of_ble_eq_true rfl) rfl (Nat.le_of_ble_eq_true rfl) dX1_link_86 89 rfl rfl hen_v (kk_v (fun m2 k1 n1 => ?_)) (kx_n he_v)
  refine s_iload C 0 rfl dX1_link_89 91 rfl ?_
  exact x_iret C hret rfl dX1_link_91
theorem wX1_link_b47 {l : Launch} {g : GG} {E : Me_} (C : Cx_ l g E "MasterTree" cX1_link 7 25) (hret : (eT_ E).sig.returnType = (Option.some Jvm.ClassFile.FieldType.int)) (h0 : ∀ x ∈ (eC_ E).exceptionTable.toList, False) (hin : (eT_ E).name = "link") (N : Nat) : ∀ (m : Mm) (v0 : Option Nat) (v2 : Int32) (v3 : Int32) (v4 : Option Nat) (v5 : Option Nat) (k n : Nat), Sm_ l g E 7 (xe_ en_i) (fX1_link_b47 (gE_ g) N m v0 v2 v3 v4 v5) k n 47 [(0, vr_ v0), (2, vi_ v2), (3, vi_ v3), (4, vr_ v4), (5, vr_ v5)] [] m := by
  intro m v0 v2 v3 v4 v5 k n
  unfold fX1_link_b47
  refine s_aload_n C rfl 0 rfl dX1_link_47 48 rfl ?_
  refine s_aload C 3 rfl dX1_link_48 50 rfl ?_
  refine s_iload_n C rfl 1 rfl dX1_link_50 51 rfl ?_
  refine x_ck (fun hb_ hb0_ => ?_)
  refine x_callV (enc := (xe_ en_v)) C 19 2 [vr_ v4, vi_ v2] 1 (ctX1_mayWrite C.2.2.2.2.2.2.2.2.1 N m v0 v4 v2) hb_ hb0_ rfl rfl q981 q983 qs7 q81 q984 hdX1_mayWrite (Nat.le_of_ble_eq_true rfl) (Nat.le_of_ble_eq_true rfl) rfl (Nat.le_of_ble_eq_true rfl) dX1_link_51 54 rfl rfl (hen_x hen_v) (kk_x (kk_v (fun m1 k1 n1 => ?_))) (kx_x C h0 he_v)
  refine s_iload_n C rfl 2 rfl dX1_link_54 55 rfl ?_
  refine s_iload_n C rfl 1 rfl dX1_link_55 56 rfl ?_
  refine s_icmp_eq C dX1_link_56 63 rfl 59 rfl (fun c_ => ?_) (fun c_ => ?_)
  · refine s_iconst C 0 rfl dX1_link_63 64 rfl ?_
    exact wX1_link_b64 C hret h0 hin N _ _ _ _ _ _ _ _ _
  · refine s_iconst C 1 rfl dX1_link_59 60 rfl ?_
    refine s_goto C (off := 4) 64 dX1_link_60 rfl ?_
    exact wX1_link_b64 C hret h0 hin N _ _ _ _ _ _ _ _ _
theorem wX1_link {l : Launch} {g : GG} {E : Me_} (C : Cx_ l g E "MasterTree" cX1_link 7 25) (hret : (eT_ E).sig.returnType = (Option.some Jvm.ClassFile.FieldType.int)) (h0 : ∀ x ∈ (eC_ E).exceptionTable.toList, False) (hin : (eT_ E).name = "link") (N : Nat) : ∀ (m : Mm) (v0 : Option Nat) (v1 : Int32) (v2 : Int32) (v3 : Int32) (k n : Nat), Sm_ l g E 7 (xe_ en_i) (fX1_link (gE_ g) N m v0 v1 v2 v3) k n 0 [(0, vr_ v0), (1, vi_ v1), (2, vi_ v2), (3, vi_ v3)] [] m := by
  intro m v0 v1 v2 v3 k n
  unfold fX1_link
  refine s_aload_n C rfl 0 rfl dX1_link_0 1 rfl ?_
  refine s_iload_n C rfl 1 rfl dX1_link_1 2 rfl ?_
  refine x_ck (fun hb_ hb0_ => ?_)
  refine x_callV (enc := (xe_ en_r)) C 17 1 [vi_ v1] 1 (ctX1_at C.2.2.2.2.2.2.2.2.1 N m v0 v1) hb_ hb0_ rfl rfl q934 q936 qs5 q81 q937 hdX1_at (Nat.le_of_ble_eq_true rfl) (Nat.le_of_ble_eq_true rfl) rfl (Nat.le_of_ble_eq_true rfl) dX1_link_2 5 rfl rfl (hen_x hen_r) (kk_x (kk_r (fun x1 m1 k1 n1 => ?_))) (kx_x C h0 he_r)
  refine s_astore C (Nat.le_of_ble_eq_true rfl) [0, 2, 3] rfl rfl dX1_link_5 7 rfl ?_
  refine s_aload C 0 rfl dX1_link_7 9 rfl ?_
  refine s_iload_n C rfl 2 rfl dX1_link_9 10 rfl ?_
  refine x_callS (enc := (xe_ en_r)) C 17 2 [vr_ x1, vi_ v2] (ctX1_changeable C.2.2.2.2.2.2.2.2.1 N m1 x1 v2) q2306 q2307 q81 q2308 hdX1_changeable (Nat.le_of_ble_eq_true rfl) (Nat.le_of_ble_eq_true rfl) rfl (Nat.le_of_ble_eq_true rfl) dX1_link_10 13 rfl rfl (hen_x hen_r) (kk_x (kk_r (fun x2 m2 k1 n1 => ?_))) (kx_x C h0 he_r)
  refine s_astore C (Nat.le_of_ble_eq_true rfl) [0, 1, 2, 3] rfl rfl dX1_link_13 15 rfl ?_
  refine s_iload_n C rfl 4 rfl dX1_link_15 16 rfl ?_
  refine s_bipush C 100 rfl dX1_link_16 18 rfl ?_
  refine s_icmp_lt C dX1_link_18 35 rfl 21 rfl (fun c_ => ?_) (fun c_ => ?_)
  · refine s_iload_n C rfl 4 rfl dX1_link_35 36 rfl ?_
    refine s_iconst C (-1) rfl dX1_link_36 37 rfl ?_
    refine s_icmp_eq C dX1_link_37 47 rfl 40 rfl (fun c_ => ?_) (fun c_ => ?_)
    · refine Sm_sub [2, 3, 4, 1, 0] rfl ?_
      exact wX1_link_b47 C hret h0 hin N _ _ _ _ _ _ _ _
    · refine s_aload C 1 rfl dX1_link_40 42 rfl ?_
      refine s_iload_n C rfl 4 rfl dX1_link_42 43 rfl ?_
      refine x_callS (enc := (xe_ en_r)) C 16 2 [vr_ x1, vi_ v3] (ctX1_liveAt C.2.2.2.2.2.2.2.2.1 N m2 x1 v3) q968 q969 q81 q970 hdX1_liveAt (Nat.le_of_ble_eq_true rfl) (Nat.le_of_ble_eq_true rfl) rfl (Nat.le_of_ble_eq_true rfl) dX1_link_43 46 rfl rfl (hen_x hen_r) (kk_x (kk_r (fun x3 m3 k1 n1 => ?_))) (kx_x C h0 he_r)
      refine s_pop C rfl dX1_link_46 47 rfl ?_
      refine Sm_sub [2, 3, 4, 1, 0] rfl ?_
      exact wX1_link_b47 C hret h0 hin N _ _ _ _ _ _ _ _
  · refine s_iload_n C rfl 4 rfl dX1_link_21 22 rfl ?_
    refine s_bipush C 100 rfl dX1_link_22 24 rfl ?_
    refine s_isub C dX1_link_24 25 rfl ?_
    refine s_iconst C 4 rfl dX1_link_25 26 rfl ?_
    refine x_ls C 7 7 rfl dX1_link_26 28 rfl ?_
    refine x_callS (enc := (xe_ en_i)) C 16 3 [vi_ (v3 - 100), vi_ 4, vr_ (some (gE_ g (100 + 7)))] (ctX1_place C.2.2.2.2.2.2.2.2.1 N m2 (v3 - 100) 4 (some (gE_ g (100 + 7)))) q633 q634 q81 q635 hdX1_place (Nat.le_of_ble_eq_true rfl) (Nat.le_of_ble_eq_true rfl) rfl (Nat.le_of_ble_eq_true rfl) dX1_link_28 31 rfl rfl (hen_x hen_i) (kk_x (kk_i (fun x4 m4 k1 n1 => ?_))) (kx_x C h0 he_i)
    refine s_pop C rfl dX1_link_31 32 rfl ?_
    refine s_goto C (off := 15) 47 dX1_link_32 rfl ?_
    refine Sm_sub [2, 3, 4, 1, 0] rfl ?_
    exact wX1_link_b47 C hret h0 hin N _ _ _ _ _ _ _ _
theorem hdX1_link : ((⟨"MasterTree", "link", "(III)I"⟩ : MethodName)).cls ≠ "java/lang/invoke/MethodHandle" ∧ ((⟨"MasterTree", "link", "(III)I"⟩ : MethodName)).cls ≠ "java/lang/invoke/VarHandle" ∧ (parseMethodDescriptor ((⟨"MasterTree", "link", "(III)I"⟩ : MethodName)).desc).map (fun d => d.parameters.length) = some 3 := ⟨by decide +kernel, by decide +kernel, by decide +kernel⟩
theorem ctX1_link {l : Launch} {g : GG} (hst : l.stackTraces = false) (N : Nat) (m : Mm) (v0 : Option Nat) (v1 : Int32) (v2 : Int32) (v3 : Int32) : ∀ v m' k n, fX1_link (gE_ g) N m v0 v1 v2 v3 = some (v, m', k, n) → Ct_ l g (⟨"MasterTree", "link", "(III)I"⟩ : MethodName) (ws_ (⟨"MasterTree", "link", "(III)I"⟩ : MethodName) cX1_link 7 (Option.some Jvm.ClassFile.FieldType.int)) 25 [vr_ v0, vi_ v1, vi_ v2, vi_ v3] m ((xe_ en_i) v) m' k n :=
  Ct_of (by decide +kernel) rfl hst (Nat.le_of_ble_eq_true rfl) rfl (fun E C hret h0 hin => wX1_link C hret h0 hin N m v0 v1 v2 v3 0 0)
theorem wX0_link {l : Launch} {g : GG} {E : Me_} (C : Cx_ l g E "MasterTreeLaw" cX0_link 6 26) (hret : (eT_ E).sig.returnType = (Option.some Jvm.ClassFile.FieldType.int)) (h0 : (eC_ E).exceptionTable.toList = tableOf [(0, 12, 15, 19), (0, 12, 19, 13)]) (hin : (eT_ E).name = "link") (N : Nat) : ∀ (m : Mm) (v0 : Option Nat) (v1 : Int32) (v2 : Int32) (v3 : Int32) (v4 : Option Nat) (k n : Nat), Sm_ l g E 6 en_i (fX0_link (gE_ g) N m v0 v1 v2 v3 v4) k n 0 [(0, vr_ v0), (1, vi_ v1), (2, vi_ v2), (3, vi_ v3), (4, vr_ v4)] [] m := by
  intro m v0 v1 v2 v3 v4 k n
  unfold fX0_link
  refine s_aload C 4 rfl dX0_link_0 2 rfl ?_
  refine s_iconst C 0 rfl dX0_link_2 3 rfl ?_
  refine s_aload_n C rfl 0 rfl dX0_link_3 4 rfl ?_
  refine s_iload_n C rfl 1 rfl dX0_link_4 5 rfl ?_
  refine s_iload_n C rfl 2 rfl dX0_link_5 6 rfl ?_
  refine s_iload_n C rfl 3 rfl dX0_link_6 7 rfl ?_
  refine x_ck (fun hb_ hb0_ => ?_)
  refine x_callV (enc := (xe_ en_i)) C 25 3 [vi_ v1, vi_ v2, vi_ v3] 1 (ctX1_link C.2.2.2.2.2.2.2.2.1 N m v0 v1 v2 v3) hb_ hb0_ rfl rfl q2508 q2509 q2510 q81 q2511 hdX1_link (Nat.le_of_ble_eq_true rfl) (Nat.le_of_ble_eq_true rfl) rfl (Nat.le_of_ble_eq_true rfl) dX0_link_7 10 rfl rfl (hen_x hen_i) (kk_c (kk_i (fun x1 m1 k1 n1 => ?_))) (kx_c he_i (fun i_ m0 k0 n0 => ?_))
  · refine s_i2l C dX0_link_10 11 rfl ?_
    refine x_bj3 C 203 rfl dX0_link_11 12 rfl (fun m2 => ?_)
    refine s_goto C (off := 11) 23 dX0_link_12 rfl ?_
    refine s_iconst C 0 rfl dX0_link_23 24 rfl ?_
    exact x_iret C hret rfl dX0_link_24
  · refine Sx_if ?_ ?_
    · refine Sx_ctch C h0 0 [] ({ startPc := 0, endPc := 12, handlerPc := 15, catchType := 19 } : ExceptionTableEntry) [{ startPc := 0, endPc := 12, handlerPc := 19, catchType := 13 }] rfl (fun z hz => by cases hz) (by decide) (by decide) q600 q638 15 rfl (fun q_ => ?_)
      refine s_astore C (Nat.le_of_ble_eq_true rfl) [] rfl rfl dX0_link_15 17 rfl ?_
      refine s_iconst C 1 rfl dX0_link_17 18 rfl ?_
      exact x_iret C hret rfl dX0_link_18
    refine Sx_if ?_ ?_
    · refine Sx_ctch C h0 2 [{ startPc := 0, endPc := 12, handlerPc := 15, catchType := 19 }] ({ startPc := 0, endPc := 12, handlerPc := 19, catchType := 13 } : ExceptionTableEntry) [] rfl (List.forall_mem_cons.mpr ⟨Or.inr ⟨by decide, "java/lang/IndexOutOfBoundsException", q600, List.mem_of_getElem? (i := 4) rfl⟩, fun z hz => by cases hz⟩) (by decide) (by decide) q504 q515 19 rfl (fun q_ => ?_)
      refine s_astore C (Nat.le_of_ble_eq_true rfl) [] rfl rfl dX0_link_19 21 rfl ?_
      refine s_iconst C 2 rfl dX0_link_21 22 rfl ?_
      exact x_iret C hret rfl dX0_link_22
    exact Sx_none
theorem hdX0_link : ((⟨"MasterTreeLaw", "link", "(LMasterTree;III[J)I"⟩ : MethodName)).cls ≠ "java/lang/invoke/MethodHandle" ∧ ((⟨"MasterTreeLaw", "link", "(LMasterTree;III[J)I"⟩ : MethodName)).cls ≠ "java/lang/invoke/VarHandle" ∧ (parseMethodDescriptor ((⟨"MasterTreeLaw", "link", "(LMasterTree;III[J)I"⟩ : MethodName)).desc).map (fun d => d.parameters.length) = some 5 := ⟨by decide +kernel, by decide +kernel, by decide +kernel⟩
theorem ctX0_link {l : Launch} {g : GG} (hst : l.stackTraces = false) (N : Nat) (m : Mm) (v0 : Option Nat) (v1 : Int32) (v2 : Int32) (v3 : Int32) (v4 : Option Nat) : ∀ v m' k n, fX0_link (gE_ g) N m v0 v1 v2 v3 v4 = some (v, m', k, n) → Ct_ l g (⟨"MasterTreeLaw", "link", "(LMasterTree;III[J)I"⟩ : MethodName) (wsW_ (⟨"MasterTreeLaw", "link", "(LMasterTree;III[J)I"⟩ : MethodName) cX0_link 6 (Option.some Jvm.ClassFile.FieldType.int) [(0, 12, 15, 19), (0, 12, 19, 13)]) 26 [vr_ v0, vi_ v1, vi_ v2, vi_ v3, vr_ v4] m (en_i v) m' k n :=
  Ct_ofW (by decide +kernel) rfl hst (Nat.le_of_ble_eq_true rfl) rfl (fun E C hret h0 hin => wX0_link C hret h0 hin N m v0 v1 v2 v3 v4 0 0)
theorem wX1_ruleOf {l : Launch} {g : GG} {E : Me_} (C : Cx_ l g E "MasterTree" cX1_ruleOf 3 10) (hret : (eT_ E).sig.returnType = (Option.some Jvm.ClassFile.FieldType.int)) (h0 : ∀ x ∈ (eC_ E).exceptionTable.toList, False) (hin : (eT_ E).name = "ruleOf") (N : Nat) : ∀ (m : Mm) (v0 : Int32) (v1 : Int32) (v2 : Int32) (k n : Nat), Sm_ l g E 3 en_i (fX1_ruleOf (gE_ g) N m v0 v1 v2) k n 0 [(0, vi_ v0), (1, vi_ v1), (2, vi_ v2)] [] m := by
  intro m v0 v1 v2 k n
  unfold fX1_ruleOf
  refine s_iconst C 2 rfl dX1_ruleOf_0 1 rfl ?_
  refine s_iconst C 3 rfl dX1_ruleOf_1 2 rfl ?_
  refine s_iload_n C rfl 0 rfl dX1_ruleOf_2 3 rfl ?_
  refine s_iconst C 1 rfl dX1_ruleOf_3 4 rfl ?_
  refine s_iadd C dX1_ruleOf_4 5 rfl ?_
  refine s_imul C dX1_ruleOf_5 6 rfl ?_
  refine s_iload_n C rfl 1 rfl dX1_ruleOf_6 7 rfl ?_
  refine s_iadd C dX1_ruleOf_7 8 rfl ?_
  refine s_imul C dX1_ruleOf_8 9 rfl ?_
  refine s_iload_n C rfl 2 rfl dX1_ruleOf_9 10 rfl ?_
  refine s_iadd C dX1_ruleOf_10 11 rfl ?_
  exact x_iret C hret rfl dX1_ruleOf_11
theorem hdX1_ruleOf : ((⟨"MasterTree", "ruleOf", "(III)I"⟩ : MethodName)).cls ≠ "java/lang/invoke/MethodHandle" ∧ ((⟨"MasterTree", "ruleOf", "(III)I"⟩ : MethodName)).cls ≠ "java/lang/invoke/VarHandle" ∧ (parseMethodDescriptor ((⟨"MasterTree", "ruleOf", "(III)I"⟩ : MethodName)).desc).map (fun d => d.parameters.length) = some 3 := ⟨by decide +kernel, by decide +kernel, by decide +kernel⟩
theorem ctX1_ruleOf {l : Launch} {g : GG} (hst : l.stackTraces = false) (N : Nat) (m : Mm) (v0 : Int32) (v1 : Int32) (v2 : Int32) : ∀ v m' k n, fX1_ruleOf (gE_ g) N m v0 v1 v2 = some (v, m', k, n) → Ct_ l g (⟨"MasterTree", "ruleOf", "(III)I"⟩ : MethodName) (ws_ (⟨"MasterTree", "ruleOf", "(III)I"⟩ : MethodName) cX1_ruleOf 3 (Option.some Jvm.ClassFile.FieldType.int)) 10 [vi_ v0, vi_ v1, vi_ v2] m (en_i v) m' k n :=
  Ct_of (by decide +kernel) rfl hst (Nat.le_of_ble_eq_true rfl) rfl (fun E C hret h0 hin => wX1_ruleOf C hret h0 hin N m v0 v1 v2 0 0)
theorem wX3_says_b27 {l : Launch} {g : GG} {E : Me_} (C : Cx_ l g E "MasterTree$Entry" cX3_says 3 15) (hret : (eT_ E).sig.returnType = (Option.some Jvm.ClassFile.FieldType.int)) (h0 : ∀ x ∈ (eC_ E).exceptionTable.toList, False) (hin : (eT_ E).name = "says") (N : Nat) : ∀ (m : Mm) (s0 : Int32) (k n : Nat), Sm_ l g E 3 en_i (fX3_says_b27 (gE_ g) N m s0) k n 27 [] [vi_ s0] m := by
  intro m s0 k n
  unfold fX3_says_b27
  exact x_iret C hret rfl dX3_says_27
theorem wX3_says {l : Launch} {g : GG} {E : Me_} (C : Cx_ l g E "MasterTree$Entry" cX3_says 3 15) (hret : (eT_ E).sig.returnType = (Option.some Jvm.ClassFile.FieldType.int)) (h0 : ∀ x ∈ (eC_ E).exceptionTable.toList, False) (hin : (eT_ E).name = "says") (N : Nat) : ∀ (m : Mm) (v0 : Option Nat) (v1 : Int32) (k n : Nat), Sm_ l g E 3 en_i (fX3_says (gE_ g) N m v0 v1) k n 0 [(0, vr_ v0), (1, vi_ v1)] [] m := by
  intro m v0 v1 k n
  unfold fX3_says
  refine s_aload_n C rfl 0 rfl dX3_says_0 1 rfl ?_
  refine x_gr C 2 (RX3, TX3, 9) rfl 8 (Nat.le_of_ble_eq_true rfl) q271 (Or.inl rfl) rfl 3 rfl dX3_says_1 4 rfl (fun x1 => ?_)
  refine s_iload_n C rfl 1 rfl dX3_says_4 5 rfl ?_
  refine x_callS (enc := en_r) C 12 1 [vi_ v1] (ctJ21_valueOf C.2.2.2.2.2.2.2.2.1 N m v1) q1619 q1620 q108 q1621 hdJ21_valueOf (Nat.le_of_ble_eq_true rfl) (Nat.le_of_ble_eq_true rfl) rfl (Nat.le_of_ble_eq_true rfl) dX3_says_5 8 rfl rfl hen_r (kk_r (fun x2 m1 k1 n1 => ?_)) (kx_n he_r)
  refine x_ck (fun hb_ hb0_ => ?_)
  refine x_callV (enc := en_r) C 14 1 [vr_ x2] 15 (ctJ4_get C.2.2.2.2.2.2.2.2.1 N m1 x1 x2) hb_ hb0_ rfl rfl q2532 q1848 q1849 q87 q1850 hdJ4_get (Nat.le_of_ble_eq_true rfl) (Nat.le_of_ble_eq_true rfl) rfl (Nat.le_of_ble_eq_true rfl) dX3_says_8 11 rfl rfl hen_r (kk_r (fun x3 m2 k1 n1 => ?_)) (kx_n he_r)
  refine x_cc C "java/lang/Integer" [27] (fun k hk => by rw [List.mem_singleton.mp hk]; exact ⟨rfl, Or.inr rfl⟩) q2533 dX3_says_11 14 rfl ?_
  refine s_astore_n C rfl (Nat.le_of_ble_eq_true rfl) [] rfl rfl dX3_says_14 15 rfl ?_
  refine s_aload_n C rfl 0 rfl dX3_says_15 16 rfl ?_
  refine s_ifnonnull C dX3_says_16 23 rfl 19 rfl (fun c_ => ?_) (fun c_ => ?_)
  · refine s_iconst C 0 rfl dX3_says_19 20 rfl ?_
    refine s_goto C (off := 7) 27 dX3_says_20 rfl ?_
    refine Sm_sub [] rfl ?_
    exact wX3_says_b27 C hret h0 hin N _ _ _ _
  · refine s_aload_n C rfl 0 rfl dX3_says_23 24 rfl ?_
    refine x_ck (fun hb_ hb0_ => ?_)
    refine x_callV (enc := en_i) C 10 0 [] 27 (ctJ21_intValue C.2.2.2.2.2.2.2.2.1 N m2 x3) hb_ hb0_ rfl rfl q2534 q1585 q1586 q108 q1587 hdJ21_intValue (Nat.le_of_ble_eq_true rfl) (Nat.le_of_ble_eq_true rfl) rfl (Nat.le_of_ble_eq_true rfl) dX3_says_24 27 rfl rfl hen_i (kk_i (fun x4 m3 k1 n1 => ?_)) (kx_n he_i)
    refine Sm_sub [] rfl ?_
    exact wX3_says_b27 C hret h0 hin N _ _ _ _
theorem hdX3_says : ((⟨"MasterTree$Entry", "says", "(I)I"⟩ : MethodName)).cls ≠ "java/lang/invoke/MethodHandle" ∧ ((⟨"MasterTree$Entry", "says", "(I)I"⟩ : MethodName)).cls ≠ "java/lang/invoke/VarHandle" ∧ (parseMethodDescriptor ((⟨"MasterTree$Entry", "says", "(I)I"⟩ : MethodName)).desc).map (fun d => d.parameters.length) = some 1 := ⟨by decide +kernel, by decide +kernel, by decide +kernel⟩
theorem ctX3_says {l : Launch} {g : GG} (hst : l.stackTraces = false) (N : Nat) (m : Mm) (v0 : Option Nat) (v1 : Int32) : ∀ v m' k n, fX3_says (gE_ g) N m v0 v1 = some (v, m', k, n) → Ct_ l g (⟨"MasterTree$Entry", "says", "(I)I"⟩ : MethodName) (ws_ (⟨"MasterTree$Entry", "says", "(I)I"⟩ : MethodName) cX3_says 3 (Option.some Jvm.ClassFile.FieldType.int)) 15 [vr_ v0, vi_ v1] m (en_i v) m' k n :=
  Ct_of (by decide +kernel) rfl hst (Nat.le_of_ble_eq_true rfl) rfl (fun E C hret h0 hin => wX3_says C hret h0 hin N m v0 v1 0 0)
theorem wX1_rule_b49 {l : Launch} {g : GG} {E : Me_} (C : Cx_ l g E "MasterTree" cX1_rule 11 25) (hret : (eT_ E).sig.returnType = (Option.some Jvm.ClassFile.FieldType.int)) (h0 : ∀ x ∈ (eC_ E).exceptionTable.toList, False) (hin : (eT_ E).name = "rule") (N : Nat) : ∀ (m : Mm) (v0 : Option Nat) (v2 : Int32) (v3 : Int32) (v4 : Int32) (v5 : Int32) (v6 : Int32) (v7 : Option Nat) (v8 : Option Nat) (k n : Nat), Sm_ l g E 11 (xe_ en_i) (fX1_rule_b49 (gE_ g) N m v0 v2 v3 v4 v5 v6 v7 v8) k n 49 [(0, vr_ v0), (2, vi_ v2), (3, vi_ v3), (4, vi_ v4), (5, vi_ v5), (6, vi_ v6), (7, vr_ v7), (8, vr_ v8)] [] m := by
  intro m v0 v2 v3 v4 v5 v6 v7 v8 k n
  unfold fX1_rule_b49
  refine s_iload C 3 rfl dX1_rule_49 51 rfl ?_
  refine s_iconst C 3 rfl dX1_rule_51 52 rfl ?_
  refine x_lsw C 30 30 rfl dX1_rule_52 55 rfl ?_
  refine x_callS (enc := (xe_ en_i)) C 16 3 [vi_ v4, vi_ 3, vr_ (some (gE_ g (100 + 30)))] (ctX1_place C.2.2.2.2.2.2.2.2.1 N m v4 3 (some (gE_ g (100 + 30)))) q633 q634 q81 q635 hdX1_place (Nat.le_of_ble_eq_true rfl) (Nat.le_of_ble_eq_true rfl) rfl (Nat.le_of_ble_eq_true rfl) dX1_rule_55 58 rfl rfl (hen_x hen_i) (kk_x (kk_i (fun x1 m1 k1 n1 => ?_))) (kx_x C h0 he_i)
  refine s_pop C rfl dX1_rule_58 59 rfl ?_
  refine s_iload C 4 rfl dX1_rule_59 61 rfl ?_
  refine s_iconst C 2 rfl dX1_rule_61 62 rfl ?_
  refine x_lsw C 31 31 rfl dX1_rule_62 65 rfl ?_
  refine x_callS (enc := (xe_ en_i)) C 16 3 [vi_ v5, vi_ 2, vr_ (some (gE_ g (100 + 31)))] (ctX1_place C.2.2.2.2.2.2.2.2.1 N m1 v5 2 (some (gE_ g (100 + 31)))) q633 q634 q81 q635 hdX1_place (Nat.le_of_ble_eq_true rfl) (Nat.le_of_ble_eq_true rfl) rfl (Nat.le_of_ble_eq_true rfl) dX1_rule_65 68 rfl rfl (hen_x hen_i) (kk_x (kk_i (fun x2 m2 k1 n1 => ?_))) (kx_x C h0 he_i)
  refine s_pop C rfl dX1_rule_68 69 rfl ?_
  refine s_iload C 5 rfl dX1_rule_69 71 rfl ?_
  refine s_iconst C 0 rfl dX1_rule_71 72 rfl ?_
  refine s_iconst C 2 rfl dX1_rule_72 73 rfl ?_
  refine x_callS (enc := (xe_ en_v)) C 16 3 [vi_ v6, vi_ 0, vi_ 2] (ctX1_isWithin C.2.2.2.2.2.2.2.2.1 N m2 v6 0 2) q953 q954 q81 q955 hdX1_isWithin (Nat.le_of_ble_eq_true rfl) (Nat.le_of_ble_eq_true rfl) rfl (Nat.le_of_ble_eq_true rfl) dX1_rule_73 76 rfl rfl (hen_x hen_v) (kk_x (kk_v (fun m3 k1 n1 => ?_))) (kx_x C h0 he_v)
  refine s_aload_n C rfl 0 rfl dX1_rule_76 77 rfl ?_
  refine s_aload C 6 rfl dX1_rule_77 79 rfl ?_
  refine s_iload_n C rfl 1 rfl dX1_rule_79 80 rfl ?_
  refine x_ck (fun hb_ hb0_ => ?_)
  refine x_callV (enc := (xe_ en_v)) C 19 2 [vr_ v7, vi_ v2] 1 (ctX1_mayWrite C.2.2.2.2.2.2.2.2.1 N m3 v0 v7 v2) hb_ hb0_ rfl rfl q981 q983 qs7 q81 q984 hdX1_mayWrite (Nat.le_of_ble_eq_true rfl) (Nat.le_of_ble_eq_true rfl) rfl (Nat.le_of_ble_eq_true rfl) dX1_rule_80 83 rfl rfl (hen_x hen_v) (kk_x (kk_v (fun m4 k1 n1 => ?_))) (kx_x C h0 he_v)
  refine s_iload_n C rfl 2 rfl dX1_rule_83 84 rfl ?_
  refine s_iload C 3 rfl dX1_rule_84 86 rfl ?_
  refine s_iload C 4 rfl dX1_rule_86 88 rfl ?_
  refine x_callS (enc := en_i) C 10 3 [vi_ v3, vi_ v4, vi_ v5] (ctX1_ruleOf C.2.2.2.2.2.2.2.2.1 N m4 v3 v4 v5) q2525 q2526 q81 q2527 hdX1_ruleOf (Nat.le_of_ble_eq_true rfl) (Nat.le_of_ble_eq_true rfl) rfl (Nat.le_of_ble_eq_true rfl) dX1_rule_88 91 rfl rfl hen_i (kk_i (fun x3 m5 k1 n1 => ?_)) (kx_n he_i)
  refine s_istore C (Nat.le_of_ble_eq_true rfl) [0, 1, 5, 6, 7] rfl rfl dX1_rule_91 93 rfl ?_
  refine s_aload C 5 rfl dX1_rule_93 95 rfl ?_
  refine s_iload C 0 rfl dX1_rule_95 97 rfl ?_
  refine x_ck (fun hb_ hb0_ => ?_)
  refine x_callV (enc := en_i) C 15 1 [vi_ x3] 3 (ctX3_says C.2.2.2.2.2.2.2.2.1 N m5 v8 x3) hb_ hb0_ rfl rfl q2528 q2529 q2530 q88 q2531 hdX3_says (Nat.le_of_ble_eq_true rfl) (Nat.le_of_ble_eq_true rfl) rfl (Nat.le_of_ble_eq_true rfl) dX1_rule_97 100 rfl rfl hen_i (kk_i (fun x4 m6 k1 n1 => ?_)) (kx_n he_i)
  refine s_istore C (Nat.le_of_ble_eq_true rfl) [0, 1, 2, 3, 4] rfl rfl dX1_rule_100 102 rfl ?_
  refine s_aload_n C rfl 2 rfl dX1_rule_102 103 rfl ?_
  refine s_aload C 5 rfl dX1_rule_103 105 rfl ?_
  refine x_gs C 14 (vr_ (some (gE_ g 12))) rfl q2535 rfl dX1_rule_105 108 rfl ?_
  refine s_iload_n C rfl 3 rfl dX1_rule_108 109 rfl ?_
  refine s_iload C 1 rfl dX1_rule_109 111 rfl ?_
  refine s_iload C 4 rfl dX1_rule_111 113 rfl ?_
  refine x_ck (fun hb_ hb0_ => ?_)
  refine x_callV (enc := en_v) C 24 5 [vr_ v7, vr_ (some (gE_ g 12)), vi_ v2, vi_ x3, vi_ v6] 1 (ctX1_makes_2 C.2.2.2.2.2.2.2.2.1 N m6 v0 v7 (some (gE_ g 12)) v2 x3 v6) hb_ hb0_ rfl rfl q2426 q2428 qs25 q81 q2429 hdX1_makes_2 (Nat.le_of_ble_eq_true rfl) (Nat.le_of_ble_eq_true rfl) rfl (Nat.le_of_ble_eq_true rfl) dX1_rule_113 116 rfl rfl hen_v (kk_v (fun m7 k1 n1 => ?_)) (kx_n he_v)
  refine s_iload C 0 rfl dX1_rule_116 118 rfl ?_
  exact x_iret C hret rfl dX1_rule_118
theorem wX1_rule {l : Launch} {g : GG} {E : Me_} (C : Cx_ l g E "MasterTree" cX1_rule 11 25) (hret : (eT_ E).sig.returnType = (Option.some Jvm.ClassFile.FieldType.int)) (h0 : ∀ x ∈ (eC_ E).exceptionTable.toList, False) (hin : (eT_ E).name = "rule") (N : Nat) : ∀ (m : Mm) (v0 : Option Nat) (v1 : Int32) (v2 : Int32) (v3 : Int32) (v4 : Int32) (v5 : Int32) (v6 : Int32) (k n : Nat), Sm_ l g E 11 (xe_ en_i) (fX1_rule (gE_ g) N m v0 v1 v2 v3 v4 v5 v6) k n 0 [(0, vr_ v0), (1, vi_ v1), (2, vi_ v2), (3, vi_ v3), (4, vi_ v4), (5, vi_ v5), (6, vi_ v6)] [] m := by
  intro m v0 v1 v2 v3 v4 v5 v6 k n
  unfold fX1_rule
  refine s_aload_n C rfl 0 rfl dX1_rule_0 1 rfl ?_
  refine s_iload_n C rfl 1 rfl dX1_rule_1 2 rfl ?_
  refine x_ck (fun hb_ hb0_ => ?_)
  refine x_callV (enc := (xe_ en_r)) C 17 1 [vi_ v1] 1 (ctX1_at C.2.2.2.2.2.2.2.2.1 N m v0 v1) hb_ hb0_ rfl rfl q934 q936 qs5 q81 q937 hdX1_at (Nat.le_of_ble_eq_true rfl) (Nat.le_of_ble_eq_true rfl) rfl (Nat.le_of_ble_eq_true rfl) dX1_rule_2 5 rfl rfl (hen_x hen_r) (kk_x (kk_r (fun x1 m1 k1 n1 => ?_))) (kx_x C h0 he_r)
  refine s_astore C (Nat.le_of_ble_eq_true rfl) [0, 2, 3, 4, 5, 6] rfl rfl dX1_rule_5 7 rfl ?_
  refine s_aload C 0 rfl dX1_rule_7 9 rfl ?_
  refine s_iload_n C rfl 2 rfl dX1_rule_9 10 rfl ?_
  refine x_callS (enc := (xe_ en_r)) C 16 2 [vr_ x1, vi_ v2] (ctX1_liveAt C.2.2.2.2.2.2.2.2.1 N m1 x1 v2) q968 q969 q81 q970 hdX1_liveAt (Nat.le_of_ble_eq_true rfl) (Nat.le_of_ble_eq_true rfl) rfl (Nat.le_of_ble_eq_true rfl) dX1_rule_10 13 rfl rfl (hen_x hen_r) (kk_x (kk_r (fun x2 m2 k1 n1 => ?_))) (kx_x C h0 he_r)
  refine s_astore C (Nat.le_of_ble_eq_true rfl) [0, 1, 2, 3, 4, 5, 6] rfl rfl dX1_rule_13 15 rfl ?_
  refine s_iload_n C rfl 4 rfl dX1_rule_15 16 rfl ?_
  refine s_bipush C 100 rfl dX1_rule_16 18 rfl ?_
  refine s_icmp_lt C dX1_rule_18 34 rfl 21 rfl (fun c_ => ?_) (fun c_ => ?_)
  · refine s_iload_n C rfl 4 rfl dX1_rule_34 35 rfl ?_
    refine s_iconst C (-1) rfl dX1_rule_35 36 rfl ?_
    refine s_icmp_eq C dX1_rule_36 49 rfl 39 rfl (fun c_ => ?_) (fun c_ => ?_)
    · refine Sm_sub [2, 3, 4, 5, 6, 7, 1, 0] rfl ?_
      exact wX1_rule_b49 C hret h0 hin N _ _ _ _ _ _ _ _ _ _ _
    · refine s_iload_n C rfl 4 rfl dX1_rule_39 40 rfl ?_
      refine s_bipush C 6 rfl dX1_rule_40 42 rfl ?_
      refine x_lsw C 29 29 rfl dX1_rule_42 45 rfl ?_
      refine x_callS (enc := (xe_ en_i)) C 16 3 [vi_ v3, vi_ 6, vr_ (some (gE_ g (100 + 29)))] (ctX1_place C.2.2.2.2.2.2.2.2.1 N m2 v3 6 (some (gE_ g (100 + 29)))) q633 q634 q81 q635 hdX1_place (Nat.le_of_ble_eq_true rfl) (Nat.le_of_ble_eq_true rfl) rfl (Nat.le_of_ble_eq_true rfl) dX1_rule_45 48 rfl rfl (hen_x hen_i) (kk_x (kk_i (fun x3 m3 k1 n1 => ?_))) (kx_x C h0 he_i)
      refine s_pop C rfl dX1_rule_48 49 rfl ?_
      refine Sm_sub [2, 3, 4, 5, 6, 7, 1, 0] rfl ?_
      exact wX1_rule_b49 C hret h0 hin N _ _ _ _ _ _ _ _ _ _ _
  · refine s_aload C 1 rfl dX1_rule_21 23 rfl ?_
    refine s_iload_n C rfl 4 rfl dX1_rule_23 24 rfl ?_
    refine s_bipush C 100 rfl dX1_rule_24 26 rfl ?_
    refine s_isub C dX1_rule_26 27 rfl ?_
    refine x_callS (enc := (xe_ en_r)) C 16 2 [vr_ x1, vi_ (v3 - 100)] (ctX1_liveAt C.2.2.2.2.2.2.2.2.1 N m2 x1 (v3 - 100)) q968 q969 q81 q970 hdX1_liveAt (Nat.le_of_ble_eq_true rfl) (Nat.le_of_ble_eq_true rfl) rfl (Nat.le_of_ble_eq_true rfl) dX1_rule_27 30 rfl rfl (hen_x hen_r) (kk_x (kk_r (fun x4 m4 k1 n1 => ?_))) (kx_x C h0 he_r)
    refine s_pop C rfl dX1_rule_30 31 rfl ?_
    refine s_goto C (off := 18) 49 dX1_rule_31 rfl ?_
    refine Sm_sub [2, 3, 4, 5, 6, 7, 1, 0] rfl ?_
    exact wX1_rule_b49 C hret h0 hin N _ _ _ _ _ _ _ _ _ _ _
theorem hdX1_rule : ((⟨"MasterTree", "rule", "(IIIIII)I"⟩ : MethodName)).cls ≠ "java/lang/invoke/MethodHandle" ∧ ((⟨"MasterTree", "rule", "(IIIIII)I"⟩ : MethodName)).cls ≠ "java/lang/invoke/VarHandle" ∧ (parseMethodDescriptor ((⟨"MasterTree", "rule", "(IIIIII)I"⟩ : MethodName)).desc).map (fun d => d.parameters.length) = some 6 := ⟨by decide +kernel, by decide +kernel, by decide +kernel⟩
theorem ctX1_rule {l : Launch} {g : GG} (hst : l.stackTraces = false) (N : Nat) (m : Mm) (v0 : Option Nat) (v1 : Int32) (v2 : Int32) (v3 : Int32) (v4 : Int32) (v5 : Int32) (v6 : Int32) : ∀ v m' k n, fX1_rule (gE_ g) N m v0 v1 v2 v3 v4 v5 v6 = some (v, m', k, n) → Ct_ l g (⟨"MasterTree", "rule", "(IIIIII)I"⟩ : MethodName) (ws_ (⟨"MasterTree", "rule", "(IIIIII)I"⟩ : MethodName) cX1_rule 11 (Option.some Jvm.ClassFile.FieldType.int)) 25 [vr_ v0, vi_ v1, vi_ v2, vi_ v3, vi_ v4, vi_ v5, vi_ v6] m ((xe_ en_i) v) m' k n :=
  Ct_of (by decide +kernel) rfl hst (Nat.le_of_ble_eq_true rfl) rfl (fun E C hret h0 hin => wX1_rule C hret h0 hin N m v0 v1 v2 v3 v4 v5 v6 0 0)
theorem wX0_rule {l : Launch} {g : GG} {E : Me_} (C : Cx_ l g E "MasterTreeLaw" cX0_rule 9 26) (hret : (eT_ E).sig.returnType = (Option.some Jvm.ClassFile.FieldType.int)) (h0 : (eC_ E).exceptionTable.toList = tableOf [(0, 18, 21, 19), (0, 18, 25, 28), (0, 18, 29, 13)]) (hin : (eT_ E).name = "rule") (N : Nat) : ∀ (m : Mm) (v0 : Option Nat) (v1 : Int32) (v2 : Int32) (v3 : Int32) (v4 : Int32) (v5 : Int32) (v6 : Int32) (v7 : Option Nat) (k n : Nat), Sm_ l g E 9 en_i (fX0_rule (gE_ g) N m v0 v1 v2 v3 v4 v5 v6 v7) k n 0 [(0, vr_ v0), (1, vi_ v1), (2, vi_ v2), (3, vi_ v3), (4, vi_ v4), (5, vi_ v5), (6, vi_ v6), (7, vr_ v7)] [] m := by
  intro m v0 v1 v2 v3 v4 v5 v6 v7 k n
  unfold fX0_rule
  refine s_aload C 7 rfl dX0_rule_0 2 rfl ?_
  refine s_iconst C 0 rfl dX0_rule_2 3 rfl ?_
  refine s_aload_n C rfl 0 rfl dX0_rule_3 4 rfl ?_
  refine s_iload_n C rfl 1 rfl dX0_rule_4 5 rfl ?_
  refine s_iload_n C rfl 2 rfl dX0_rule_5 6 rfl ?_
  refine s_iload_n C rfl 3 rfl dX0_rule_6 7 rfl ?_
  refine s_iload C 4 rfl dX0_rule_7 9 rfl ?_
  refine s_iload C 5 rfl dX0_rule_9 11 rfl ?_
  refine s_iload C 6 rfl dX0_rule_11 13 rfl ?_
  refine x_ck (fun hb_ hb0_ => ?_)
  refine x_callV (enc := (xe_ en_i)) C 25 6 [vi_ v1, vi_ v2, vi_ v3, vi_ v4, vi_ v5, vi_ v6] 1 (ctX1_rule C.2.2.2.2.2.2.2.2.1 N m v0 v1 v2 v3 v4 v5 v6) hb_ hb0_ rfl rfl q2518 q2519 q2520 q81 q2521 hdX1_rule (Nat.le_of_ble_eq_true rfl) (Nat.le_of_ble_eq_true rfl) rfl (Nat.le_of_ble_eq_true rfl) dX0_rule_13 16 rfl rfl (hen_x hen_i) (kk_c (kk_i (fun x1 m1 k1 n1 => ?_))) (kx_c he_i (fun i_ m0 k0 n0 => ?_))
  · refine s_i2l C dX0_rule_16 17 rfl ?_
    refine x_bj3 C 203 rfl dX0_rule_17 18 rfl (fun m2 => ?_)
    refine s_goto C (off := 15) 33 dX0_rule_18 rfl ?_
    refine s_iconst C 0 rfl dX0_rule_33 34 rfl ?_
    exact x_iret C hret rfl dX0_rule_34
  · refine Sx_if ?_ ?_
    · refine Sx_ctch C h0 0 [] ({ startPc := 0, endPc := 18, handlerPc := 21, catchType := 19 } : ExceptionTableEntry) [{ startPc := 0, endPc := 18, handlerPc := 25, catchType := 28 }, { startPc := 0, endPc := 18, handlerPc := 29, catchType := 13 }] rfl (fun z hz => by cases hz) (by decide) (by decide) q600 q638 21 rfl (fun q_ => ?_)
      refine s_astore C (Nat.le_of_ble_eq_true rfl) [] rfl rfl dX0_rule_21 23 rfl ?_
      refine s_iconst C 1 rfl dX0_rule_23 24 rfl ?_
      exact x_iret C hret rfl dX0_rule_24
    refine Sx_if ?_ ?_
    · refine Sx_ctch C h0 1 [{ startPc := 0, endPc := 18, handlerPc := 21, catchType := 19 }] ({ startPc := 0, endPc := 18, handlerPc := 25, catchType := 28 } : ExceptionTableEntry) [{ startPc := 0, endPc := 18, handlerPc := 29, catchType := 13 }] rfl (List.forall_mem_cons.mpr ⟨Or.inr ⟨by decide, "java/lang/IndexOutOfBoundsException", q600, List.mem_of_getElem? (i := 2) rfl⟩, fun z hz => by cases hz⟩) (by decide) (by decide) q943 q845 25 rfl (fun q_ => ?_)
      refine s_astore C (Nat.le_of_ble_eq_true rfl) [] rfl rfl dX0_rule_25 27 rfl ?_
      refine s_iconst C 2 rfl dX0_rule_27 28 rfl ?_
      exact x_iret C hret rfl dX0_rule_28
    refine Sx_if ?_ ?_
    · refine Sx_ctch C h0 2 [{ startPc := 0, endPc := 18, handlerPc := 21, catchType := 19 }, { startPc := 0, endPc := 18, handlerPc := 25, catchType := 28 }] ({ startPc := 0, endPc := 18, handlerPc := 29, catchType := 13 } : ExceptionTableEntry) [] rfl (List.forall_mem_cons.mpr ⟨Or.inr ⟨by decide, "java/lang/IndexOutOfBoundsException", q600, List.mem_of_getElem? (i := 4) rfl⟩, List.forall_mem_cons.mpr ⟨Or.inr ⟨by decide, "java/lang/IllegalArgumentException", q943, List.mem_of_getElem? (i := 5) rfl⟩, fun z hz => by cases hz⟩⟩) (by decide) (by decide) q504 q515 29 rfl (fun q_ => ?_)
      refine s_astore C (Nat.le_of_ble_eq_true rfl) [] rfl rfl dX0_rule_29 31 rfl ?_
      refine s_iconst C 3 rfl dX0_rule_31 32 rfl ?_
      exact x_iret C hret rfl dX0_rule_32
    exact Sx_none
theorem hdX0_rule : ((⟨"MasterTreeLaw", "rule", "(LMasterTree;IIIIII[J)I"⟩ : MethodName)).cls ≠ "java/lang/invoke/MethodHandle" ∧ ((⟨"MasterTreeLaw", "rule", "(LMasterTree;IIIIII[J)I"⟩ : MethodName)).cls ≠ "java/lang/invoke/VarHandle" ∧ (parseMethodDescriptor ((⟨"MasterTreeLaw", "rule", "(LMasterTree;IIIIII[J)I"⟩ : MethodName)).desc).map (fun d => d.parameters.length) = some 8 := ⟨by decide +kernel, by decide +kernel, by decide +kernel⟩
theorem ctX0_rule {l : Launch} {g : GG} (hst : l.stackTraces = false) (N : Nat) (m : Mm) (v0 : Option Nat) (v1 : Int32) (v2 : Int32) (v3 : Int32) (v4 : Int32) (v5 : Int32) (v6 : Int32) (v7 : Option Nat) : ∀ v m' k n, fX0_rule (gE_ g) N m v0 v1 v2 v3 v4 v5 v6 v7 = some (v, m', k, n) → Ct_ l g (⟨"MasterTreeLaw", "rule", "(LMasterTree;IIIIII[J)I"⟩ : MethodName) (wsW_ (⟨"MasterTreeLaw", "rule", "(LMasterTree;IIIIII[J)I"⟩ : MethodName) cX0_rule 9 (Option.some Jvm.ClassFile.FieldType.int) [(0, 18, 21, 19), (0, 18, 25, 28), (0, 18, 29, 13)]) 26 [vr_ v0, vi_ v1, vi_ v2, vi_ v3, vi_ v4, vi_ v5, vi_ v6, vr_ v7] m (en_i v) m' k n :=
  Ct_ofW (by decide +kernel) rfl hst (Nat.le_of_ble_eq_true rfl) rfl (fun E C hret h0 hin => wX0_rule C hret h0 hin N m v0 v1 v2 v3 v4 v5 v6 v7 0 0)
theorem wX1_tells_b92 {l : Launch} {g : GG} {E : Me_} (C : Cx_ l g E "MasterTree" cX1_tells 5 10) (hret : (eT_ E).sig.returnType = (Option.none : Option Jvm.ClassFile.FieldType)) (h0 : ∀ x ∈ (eC_ E).exceptionTable.toList, False) (hin : (eT_ E).name = "tells") (N : Nat) {k9 : Mm → Option Nat → Option Nat → Int32 → Int32 → Rs (Unit)} (hk9 : ∀ (m : Mm) (v0 : Option Nat) (v1 : Option Nat) (v2 : Int32) (v3 : Int32) (k n : Nat), Sm_ l g E 5 en_v (k9 m v0 v1 v2 v3) k n 9 [(0, vr_ v0), (1, vr_ v1), (2, vi_ v2), (3, vi_ v3)] [] m) : ∀ (m : Mm) (v0 : Option Nat) (v1 : Option Nat) (v2 : Int32) (v3 : Int32) (s0 : Option Nat) (s1 : Int32) (s2 : Int32) (k n : Nat), Sm_ l g E 5 en_v (fX1_tells_b92 (gE_ g) N k9 m v0 v1 v2 v3 s0 s1 s2) k n 92 [(0, vr_ v0), (1, vr_ v1), (2, vi_ v2), (3, vi_ v3)] [vi_ s2, vi_ s1, vr_ s0] m := by
  intro m v0 v1 v2 v3 s0 s1 s2 k n
  unfold fX1_tells_b92
  refine x_bi0 C 200 rfl dX1_tells_92 93 rfl (fun m1 => ?_)
  refine s_iinc C 1 rfl 3 rfl (Nat.le_of_ble_eq_true rfl) [0, 1, 2] rfl rfl dX1_tells_93 96 rfl ?_
  refine s_goto C (off := -87) 9 dX1_tells_96 rfl ?_
  refine Sm_sub [1, 2, 3, 0] rfl ?_
  exact hk9 _ _ _ _ _ _ _
theorem wX1_tells_b63 {l : Launch} {g : GG} {E : Me_} (C : Cx_ l g E "MasterTree" cX1_tells 5 10) (hret : (eT_ E).sig.returnType = (Option.none : Option Jvm.ClassFile.FieldType)) (h0 : ∀ x ∈ (eC_ E).exceptionTable.toList, False) (hin : (eT_ E).name = "tells") (N : Nat) {k9 : Mm → Option Nat → Option Nat → Int32 → Int32 → Rs (Unit)} (hk9 : ∀ (m : Mm) (v0 : Option Nat) (v1 : Option Nat) (v2 : Int32) (v3 : Int32) (k n : Nat), Sm_ l g E 5 en_v (k9 m v0 v1 v2 v3) k n 9 [(0, vr_ v0), (1, vr_ v1), (2, vi_ v2), (3, vi_ v3)] [] m) : ∀ (m : Mm) (v0 : Option Nat) (v1 : Option Nat) (v2 : Int32) (v3 : Int32) (v4 : Int32) (s0 : Option Nat) (s1 : Int32) (s2 : Int32) (k n : Nat), Sm_ l g E 5 en_v (fX1_tells_b63 (gE_ g) N k9 m v0 v1 v2 v3 v4 s0 s1 s2) k n 63 [(0, vr_ v0), (1, vr_ v1), (2, vi_ v2), (3, vi_ v3), (4, vi_ v4)] [vi_ s2, vi_ s1, vr_ s0] m := by
  intro m v0 v1 v2 v3 v4 s0 s1 s2 k n
  unfold fX1_tells_b63
  refine x_bi0 C 200 rfl dX1_tells_63 64 rfl (fun m1 => ?_)
  refine s_aload_n C rfl 1 rfl dX1_tells_64 65 rfl ?_
  refine x_grN C 1 (RX2, TX2, 12) rfl 8 (Nat.le_of_ble_eq_true rfl) q313 rfl rfl 2 rfl dX1_tells_65 68 rfl (fun x1 => ?_)
  refine s_iload_n C rfl 2 rfl dX1_tells_68 69 rfl ?_
  refine x_ar C 6 (.array .int) rfl rfl rfl 206 rfl dX1_tells_69 70 rfl (fun x2 => ?_)
  refine s_iload_n C rfl 3 rfl dX1_tells_70 71 rfl ?_
  refine s_iload_n C rfl 2 rfl dX1_tells_71 72 rfl ?_
  refine s_aload_n C rfl 1 rfl dX1_tells_72 73 rfl ?_
  refine x_giN C 1 (RX2, TX2, 12) rfl 0 (Nat.le_of_ble_eq_true rfl) q297 rfl rfl 2 rfl dX1_tells_73 76 rfl (fun x3 => ?_)
  refine s_icmp_ne C dX1_tells_76 90 rfl 79 rfl (fun c_ => ?_) (fun c_ => ?_)
  · refine s_aload_n C rfl 1 rfl dX1_tells_79 80 rfl ?_
    refine x_grN C 1 (RX2, TX2, 12) rfl 8 (Nat.le_of_ble_eq_true rfl) q313 rfl rfl 2 rfl dX1_tells_80 83 rfl (fun x4 => ?_)
    refine s_iload_n C rfl 2 rfl dX1_tells_83 84 rfl ?_
    refine x_ar C 6 (.array .int) rfl rfl rfl 206 rfl dX1_tells_84 85 rfl (fun x5 => ?_)
    refine s_iload_n C rfl 3 rfl dX1_tells_85 86 rfl ?_
    refine x_ai0 C 200 rfl dX1_tells_86 87 rfl (fun x6 => ?_)
    refine s_goto C (off := 5) 92 dX1_tells_87 rfl ?_
    refine Sm_sub [0, 1, 2, 3] rfl ?_
    exact wX1_tells_b92 C hret h0 hin N hk9 _ _ _ _ _ _ _ _ _ _
  · refine s_iload C 4 rfl dX1_tells_90 92 rfl ?_
    refine Sm_sub [0, 1, 2, 3] rfl ?_
    exact wX1_tells_b92 C hret h0 hin N hk9 _ _ _ _ _ _ _ _ _ _
theorem wX1_tells_b9 {l : Launch} {g : GG} {E : Me_} (C : Cx_ l g E "MasterTree" cX1_tells 5 10) (hret : (eT_ E).sig.returnType = (Option.none : Option Jvm.ClassFile.FieldType)) (h0 : ∀ x ∈ (eC_ E).exceptionTable.toList, False) (hin : (eT_ E).name = "tells") (N : Nat) {k2 : Mm → Option Nat → Option Nat → Int32 → Rs (Unit)} (hk2 : ∀ (m : Mm) (v0 : Option Nat) (v1 : Option Nat) (v2 : Int32) (k n : Nat), Sm_ l g E 5 en_v (k2 m v0 v1 v2) k n 2 [(0, vr_ v0), (1, vr_ v1), (2, vi_ v2)] [] m) : ∀ (F : Nat) (m : Mm) (v0 : Option Nat) (v1 : Option Nat) (v2 : Int32) (v3 : Int32) (k n : Nat), Sm_ l g E 5 en_v (fX1_tells_b9 (gE_ g) N k2 F m v0 v1 v2 v3) k n 9 [(0, vr_ v0), (1, vr_ v1), (2, vi_ v2), (3, vi_ v3)] [] m := by
  intro F
  induction F with
  | zero => intros; exact Sm_none
  | succ F ih =>
    intro m v0 v1 v2 v3 k n
    unfold fX1_tells_b9
    refine s_iload_n C rfl 3 rfl dX1_tells_9 10 rfl ?_
    refine s_iconst C 4 rfl dX1_tells_10 11 rfl ?_
    refine s_icmp_ge C dX1_tells_11 99 rfl 14 rfl (fun c_ => ?_) (fun c_ => ?_)
    · refine s_aload_n C rfl 0 rfl dX1_tells_14 15 rfl ?_
      refine x_grN C 1 (RX2, TX2, 12) rfl 8 (Nat.le_of_ble_eq_true rfl) q313 rfl rfl 2 rfl dX1_tells_15 18 rfl (fun x1 => ?_)
      refine s_iload_n C rfl 2 rfl dX1_tells_18 19 rfl ?_
      refine x_ar C 6 (.array .int) rfl rfl rfl 206 rfl dX1_tells_19 20 rfl (fun x2 => ?_)
      refine s_iload_n C rfl 3 rfl dX1_tells_20 21 rfl ?_
      refine x_ai0 C 200 rfl dX1_tells_21 22 rfl (fun x3 => ?_)
      refine s_aload_n C rfl 1 rfl dX1_tells_22 23 rfl ?_
      refine x_grN C 1 (RX2, TX2, 12) rfl 8 (Nat.le_of_ble_eq_true rfl) q313 rfl rfl 2 rfl dX1_tells_23 26 rfl (fun x4 => ?_)
      refine s_iload_n C rfl 2 rfl dX1_tells_26 27 rfl ?_
      refine x_ar C 6 (.array .int) rfl rfl rfl 206 rfl dX1_tells_27 28 rfl (fun x5 => ?_)
      refine s_iload_n C rfl 3 rfl dX1_tells_28 29 rfl ?_
      refine x_ai0 C 200 rfl dX1_tells_29 30 rfl (fun x6 => ?_)
      refine x_mmax C q2548 q371 q90 q372 (Nat.le_of_ble_eq_true rfl) (Nat.le_of_ble_eq_true rfl) dX1_tells_30 33 rfl ?_
      refine s_istore C (Nat.le_of_ble_eq_true rfl) [0, 1, 2, 3] rfl rfl dX1_tells_33 35 rfl ?_
      refine s_aload_n C rfl 1 rfl dX1_tells_35 36 rfl ?_
      refine x_grN C 1 (RX2, TX2, 12) rfl 8 (Nat.le_of_ble_eq_true rfl) q313 rfl rfl 2 rfl dX1_tells_36 39 rfl (fun x7 => ?_)
      refine s_iload_n C rfl 3 rfl dX1_tells_39 40 rfl ?_
      refine x_ar C 6 (.array .int) rfl rfl rfl 206 rfl dX1_tells_40 41 rfl (fun x8 => ?_)
      refine s_iload_n C rfl 4 rfl dX1_tells_41 42 rfl ?_
      refine s_iload_n C rfl 3 rfl dX1_tells_42 43 rfl ?_
      refine s_aload_n C rfl 1 rfl dX1_tells_43 44 rfl ?_
      refine x_giN C 1 (RX2, TX2, 12) rfl 0 (Nat.le_of_ble_eq_true rfl) q297 rfl rfl 2 rfl dX1_tells_44 47 rfl (fun x9 => ?_)
      refine s_icmp_ne C dX1_tells_47 61 rfl 50 rfl (fun c_ => ?_) (fun c_ => ?_)
      · refine s_aload_n C rfl 1 rfl dX1_tells_50 51 rfl ?_
        refine x_grN C 1 (RX2, TX2, 12) rfl 8 (Nat.le_of_ble_eq_true rfl) q313 rfl rfl 2 rfl dX1_tells_51 54 rfl (fun x10 => ?_)
        refine s_iload_n C rfl 3 rfl dX1_tells_54 55 rfl ?_
        refine x_ar C 6 (.array .int) rfl rfl rfl 206 rfl dX1_tells_55 56 rfl (fun x11 => ?_)
        refine s_iload_n C rfl 4 rfl dX1_tells_56 57 rfl ?_
        refine x_ai0 C 200 rfl dX1_tells_57 58 rfl (fun x12 => ?_)
        refine s_goto C (off := 5) 63 dX1_tells_58 rfl ?_
        refine Sm_sub [1, 2, 3, 4, 0] rfl ?_
        exact wX1_tells_b63 C hret h0 hin N (fun m v0 v1 v2 v3 k n => ih m v0 v1 v2 v3 k n) _ _ _ _ _ _ _ _ _ _ _
      · refine s_iload C 0 rfl dX1_tells_61 63 rfl ?_
        refine Sm_sub [1, 2, 3, 4, 0] rfl ?_
        exact wX1_tells_b63 C hret h0 hin N (fun m v0 v1 v2 v3 k n => ih m v0 v1 v2 v3 k n) _ _ _ _ _ _ _ _ _ _ _
    · refine s_iinc C 1 rfl 2 rfl (Nat.le_of_ble_eq_true rfl) [0, 1, 3] rfl rfl dX1_tells_99 102 rfl ?_
      refine s_goto C (off := -100) 2 dX1_tells_102 rfl ?_
      refine Sm_sub [1, 2, 0] rfl ?_
      exact hk2 _ _ _ _ _ _
theorem wX1_tells_b2 {l : Launch} {g : GG} {E : Me_} (C : Cx_ l g E "MasterTree" cX1_tells 5 10) (hret : (eT_ E).sig.returnType = (Option.none : Option Jvm.ClassFile.FieldType)) (h0 : ∀ x ∈ (eC_ E).exceptionTable.toList, False) (hin : (eT_ E).name = "tells") (N : Nat) : ∀ (F : Nat) (m : Mm) (v0 : Option Nat) (v1 : Option Nat) (v2 : Int32) (k n : Nat), Sm_ l g E 5 en_v (fX1_tells_b2 (gE_ g) N F m v0 v1 v2) k n 2 [(0, vr_ v0), (1, vr_ v1), (2, vi_ v2)] [] m := by
  intro F
  induction F with
  | zero => intros; exact Sm_none
  | succ F ih =>
    intro m v0 v1 v2 k n
    unfold fX1_tells_b2
    refine s_iload_n C rfl 2 rfl dX1_tells_2 3 rfl ?_
    refine s_iconst C 4 rfl dX1_tells_3 4 rfl ?_
    refine s_icmp_ge C dX1_tells_4 105 rfl 7 rfl (fun c_ => ?_) (fun c_ => ?_)
    · refine s_iconst C 0 rfl dX1_tells_7 8 rfl ?_
      refine s_istore_n C rfl (Nat.le_of_ble_eq_true rfl) [0, 1, 2] rfl rfl dX1_tells_8 9 rfl ?_
      refine Sm_sub [1, 2, 3, 0] rfl ?_
      exact wX1_tells_b9 C hret h0 hin N (fun m v0 v1 v2 k n => ih m v0 v1 v2 k n) N _ _ _ _ _ _ _
    · exact x_vret C hret rfl dX1_tells_105
theorem wX1_tells {l : Launch} {g : GG} {E : Me_} (C : Cx_ l g E "MasterTree" cX1_tells 5 10) (hret : (eT_ E).sig.returnType = (Option.none : Option Jvm.ClassFile.FieldType)) (h0 : ∀ x ∈ (eC_ E).exceptionTable.toList, False) (hin : (eT_ E).name = "tells") (N : Nat) : ∀ (m : Mm) (v0 : Option Nat) (v1 : Option Nat) (k n : Nat), Sm_ l g E 5 en_v (fX1_tells (gE_ g) N m v0 v1) k n 0 [(0, vr_ v0), (1, vr_ v1)] [] m := by
  intro m v0 v1 k n
  unfold fX1_tells
  refine s_iconst C 0 rfl dX1_tells_0 1 rfl ?_
  refine s_istore_n C rfl (Nat.le_of_ble_eq_true rfl) [0, 1] rfl rfl dX1_tells_1 2 rfl ?_
  refine Sm_sub [1, 2, 0] rfl ?_
  exact wX1_tells_b2 C hret h0 hin N N _ _ _ _ _ _
theorem hdX1_tells : ((⟨"MasterTree", "tells", "(LMasterTree$Master;LMasterTree$Master;)V"⟩ : MethodName)).cls ≠ "java/lang/invoke/MethodHandle" ∧ ((⟨"MasterTree", "tells", "(LMasterTree$Master;LMasterTree$Master;)V"⟩ : MethodName)).cls ≠ "java/lang/invoke/VarHandle" ∧ (parseMethodDescriptor ((⟨"MasterTree", "tells", "(LMasterTree$Master;LMasterTree$Master;)V"⟩ : MethodName)).desc).map (fun d => d.parameters.length) = some 2 := ⟨by decide +kernel, by decide +kernel, by decide +kernel⟩
theorem ctX1_tells {l : Launch} {g : GG} (hst : l.stackTraces = false) (N : Nat) (m : Mm) (v0 : Option Nat) (v1 : Option Nat) : ∀ v m' k n, fX1_tells (gE_ g) N m v0 v1 = some (v, m', k, n) → Ct_ l g (⟨"MasterTree", "tells", "(LMasterTree$Master;LMasterTree$Master;)V"⟩ : MethodName) (ws_ (⟨"MasterTree", "tells", "(LMasterTree$Master;LMasterTree$Master;)V"⟩ : MethodName) cX1_tells 5 (Option.none : Option Jvm.ClassFile.FieldType)) 10 [vr_ v0, vr_ v1] m (en_v v) m' k n :=
  Ct_of (by decide +kernel) rfl hst (Nat.le_of_ble_eq_true rfl) rfl (fun E C hret h0 hin => wX1_tells C hret h0 hin N m v0 v1 0 0)
theorem wX1_exchange_b130 {l : Launch} {g : GG} {E : Me_} (C : Cx_ l g E "MasterTree" cX1_exchange 9 23) (hret : (eT_ E).sig.returnType = (Option.some Jvm.ClassFile.FieldType.int)) (h0 : ∀ x ∈ (eC_ E).exceptionTable.toList, False) (hin : (eT_ E).name = "exchange") (N : Nat) {k61 : Mm → Int32 → Int32 → Option Nat → Option Nat → Int32 → Int32 → Rs (Int32 ⊕ Nat)} (hk61 : ∀ (m : Mm) (v2 : Int32) (v3 : Int32) (v4 : Option Nat) (v5 : Option Nat) (v6 : Int32) (v7 : Int32) (k n : Nat), Sm_ l g E 9 (xe_ en_i) (k61 m v2 v3 v4 v5 v6 v7) k n 61 [(2, vi_ v2), (3, vi_ v3), (4, vr_ v4), (5, vr_ v5), (6, vi_ v6), (7, vi_ v7)] [] m) : ∀ (m : Mm) (v2 : Int32) (v3 : Int32) (v4 : Option Nat) (v5 : Option Nat) (v6 : Int32) (v7 : Int32) (k n : Nat), Sm_ l g E 9 (xe_ en_i) (fX1_exchange_b130 (gE_ g) N k61 m v2 v3 v4 v5 v6 v7) k n 130 [(2, vi_ v2), (3, vi_ v3), (4, vr_ v4), (5, vr_ v5), (6, vi_ v6), (7, vi_ v7)] [] m := by
  intro m v2 v3 v4 v5 v6 v7 k n
  unfold fX1_exchange_b130
  refine s_iinc C 1 rfl 5 rfl (Nat.le_of_ble_eq_true rfl) [0, 1, 2, 3, 4] rfl rfl dX1_exchange_130 133 rfl ?_
  refine s_goto C (off := -72) 61 dX1_exchange_133 rfl ?_
  refine Sm_sub [1, 2, 3, 4, 5, 0] rfl ?_
  exact hk61 _ _ _ _ _ _ _ _ _
theorem wX1_exchange_b136 {l : Launch} {g : GG} {E : Me_} (C : Cx_ l g E "MasterTree" cX1_exchange 9 23) (hret : (eT_ E).sig.returnType = (Option.some Jvm.ClassFile.FieldType.int)) (h0 : ∀ x ∈ (eC_ E).exceptionTable.toList, False) (hin : (eT_ E).name = "exchange") (N : Nat) : ∀ (m : Mm) (v4 : Option Nat) (v5 : Option Nat) (v6 : Int32) (k n : Nat), Sm_ l g E 9 (xe_ en_i) (fX1_exchange_b136 (gE_ g) N m v4 v5 v6) k n 136 [(4, vr_ v4), (5, vr_ v5), (6, vi_ v6)] [] m := by
  intro m v4 v5 v6 k n
  unfold fX1_exchange_b136
  refine s_aload C 0 rfl dX1_exchange_136 138 rfl ?_
  refine s_aload C 1 rfl dX1_exchange_138 140 rfl ?_
  refine x_callS (enc := en_v) C 10 2 [vr_ v4, vr_ v5] (ctX1_tells C.2.2.2.2.2.2.2.2.1 N m v4 v5) q2545 q2546 q81 q2547 hdX1_tells (Nat.le_of_ble_eq_true rfl) (Nat.le_of_ble_eq_true rfl) rfl (Nat.le_of_ble_eq_true rfl) dX1_exchange_140 143 rfl rfl hen_v (kk_v (fun m1 k1 n1 => ?_)) (kx_n he_v)
  refine s_iload C 2 rfl dX1_exchange_143 145 rfl ?_
  exact x_iret C hret rfl dX1_exchange_145
theorem wX1_exchange_b61 {l : Launch} {g : GG} {E : Me_} (C : Cx_ l g E "MasterTree" cX1_exchange 9 23) (hret : (eT_ E).sig.returnType = (Option.some Jvm.ClassFile.FieldType.int)) (h0 : ∀ x ∈ (eC_ E).exceptionTable.toList, False) (hin : (eT_ E).name = "exchange") (N : Nat) : ∀ (F : Nat) (m : Mm) (v2 : Int32) (v3 : Int32) (v4 : Option Nat) (v5 : Option Nat) (v6 : Int32) (v7 : Int32) (k n : Nat), Sm_ l g E 9 (xe_ en_i) (fX1_exchange_b61 (gE_ g) N F m v2 v3 v4 v5 v6 v7) k n 61 [(2, vi_ v2), (3, vi_ v3), (4, vr_ v4), (5, vr_ v5), (6, vi_ v6), (7, vi_ v7)] [] m := by
  intro F
  induction F with
  | zero => intros; exact Sm_none
  | succ F ih =>
    intro m v2 v3 v4 v5 v6 v7 k n
    unfold fX1_exchange_b61
    refine s_iload C 5 rfl dX1_exchange_61 63 rfl ?_
    refine s_aload C 2 rfl dX1_exchange_63 65 rfl ?_
    refine x_grN C 1 (RX2, TX2, 12) rfl 5 (Nat.le_of_ble_eq_true rfl) q306 rfl rfl 2 rfl dX1_exchange_65 68 rfl (fun x1 => ?_)
    refine x_ck (fun hb_ hb0_ => ?_)
    refine x_callF (enc := en_i) C 10 0 [] 13 (ctJ2_size C.2.2.2.2.2.2.2.2.1 N m x1) hb_ hb0_ rfl rfl rfl fw_1 q480 q483 q485 q84 q487 hx1 (Nat.le_of_ble_eq_true rfl) (Nat.le_of_ble_eq_true rfl) rfl (Nat.le_of_ble_eq_true rfl) dX1_exchange_68 73 rfl rfl hen_i (kk_i (fun x2 m1 k1 n1 => ?_)) (kx_n he_i)
    refine s_icmp_ge C dX1_exchange_73 136 rfl 76 rfl (fun c_ => ?_) (fun c_ => ?_)
    · refine s_iload C 4 rfl dX1_exchange_76 78 rfl ?_
      refine s_iload_n C rfl 1 rfl dX1_exchange_78 79 rfl ?_
      refine s_icmp_ge C dX1_exchange_79 136 rfl 82 rfl (fun c_ => ?_) (fun c_ => ?_)
      · refine s_aload C 2 rfl dX1_exchange_82 84 rfl ?_
        refine x_grN C 1 (RX2, TX2, 12) rfl 5 (Nat.le_of_ble_eq_true rfl) q306 rfl rfl 2 rfl dX1_exchange_84 87 rfl (fun x3 => ?_)
        refine s_iload C 5 rfl dX1_exchange_87 89 rfl ?_
        refine x_ck (fun hb_ hb0_ => ?_)
        refine x_callF (enc := en_r) C 12 1 [vi_ v7] 13 (ctJ2_get C.2.2.2.2.2.2.2.2.1 N m1 x3 v7) hb_ hb0_ rfl rfl rfl fw_3 q888 q891 q893 q84 q895 hx2 (Nat.le_of_ble_eq_true rfl) (Nat.le_of_ble_eq_true rfl) rfl (Nat.le_of_ble_eq_true rfl) dX1_exchange_89 94 rfl rfl hen_r (kk_r (fun x4 m2 k1 n1 => ?_)) (kx_n he_r)
        refine x_cc C "MasterTree$Change" [7] (fun k hk => by rw [List.mem_singleton.mp hk]; exact ⟨rfl, Or.inr rfl⟩) q1725 dX1_exchange_94 97 rfl ?_
        refine s_astore C (Nat.le_of_ble_eq_true rfl) [0, 1, 2, 3, 4, 5] rfl rfl dX1_exchange_97 99 rfl ?_
        refine s_aload C 0 rfl dX1_exchange_99 101 rfl ?_
        refine x_giN C 6 (RX7, TX7, 9) rfl 2 (Nat.le_of_ble_eq_true rfl) q1738 rfl rfl 7 rfl dX1_exchange_101 104 rfl (fun x5 => ?_)
        refine s_aload C 4 rfl dX1_exchange_104 106 rfl ?_
        refine x_grN C 1 (RX2, TX2, 12) rfl 8 (Nat.le_of_ble_eq_true rfl) q313 rfl rfl 2 rfl dX1_exchange_106 109 rfl (fun x6 => ?_)
        refine s_iload_n C rfl 1 rfl dX1_exchange_109 110 rfl ?_
        refine x_ar C 6 (.array .int) rfl rfl rfl 206 rfl dX1_exchange_110 111 rfl (fun x7 => ?_)
        refine s_aload C 0 rfl dX1_exchange_111 113 rfl ?_
        refine x_giN C 6 (RX7, TX7, 9) rfl 1 (Nat.le_of_ble_eq_true rfl) q1735 rfl rfl 7 rfl dX1_exchange_113 116 rfl (fun x8 => ?_)
        refine x_ai0 C 200 rfl dX1_exchange_116 117 rfl (fun x9 => ?_)
        refine s_icmp_lt C dX1_exchange_117 130 rfl 120 rfl (fun c_ => ?_) (fun c_ => ?_)
        · refine Sm_sub [1, 2, 3, 4, 5, 6] rfl ?_
          exact wX1_exchange_b130 C hret h0 hin N (fun m v2 v3 v4 v5 v6 v7 k n => ih m v2 v3 v4 v5 v6 v7 k n) _ _ _ _ _ _ _ _ _
        · refine s_aload C 4 rfl dX1_exchange_120 122 rfl ?_
          refine s_aload C 0 rfl dX1_exchange_122 124 rfl ?_
          refine x_ck (fun hb_ hb0_ => ?_)
          refine x_callV (enc := en_v) C 22 1 [vr_ x4] 2 (ctX2_takes C.2.2.2.2.2.2.2.2.1 N m2 v5 x4) hb_ hb0_ rfl rfl q1785 q1786 q1787 q85 q1788 hdX2_takes (Nat.le_of_ble_eq_true rfl) (Nat.le_of_ble_eq_true rfl) rfl (Nat.le_of_ble_eq_true rfl) dX1_exchange_124 127 rfl rfl hen_v (kk_v (fun m3 k1 n1 => ?_)) (kx_n he_v)
          refine s_iinc C 1 rfl 5 rfl (Nat.le_of_ble_eq_true rfl) [0, 1, 2, 3, 4, 6] rfl rfl dX1_exchange_127 130 rfl ?_
          refine Sm_sub [2, 3, 4, 5, 0, 6] rfl ?_
          exact wX1_exchange_b130 C hret h0 hin N (fun m v2 v3 v4 v5 v6 v7 k n => ih m v2 v3 v4 v5 v6 v7 k n) _ _ _ _ _ _ _ _ _
      · refine Sm_sub [2, 3, 4] rfl ?_
        exact wX1_exchange_b136 C hret h0 hin N _ _ _ _ _ _
    · refine Sm_sub [2, 3, 4] rfl ?_
      exact wX1_exchange_b136 C hret h0 hin N _ _ _ _ _ _
theorem wX1_exchange {l : Launch} {g : GG} {E : Me_} (C : Cx_ l g E "MasterTree" cX1_exchange 9 23) (hret : (eT_ E).sig.returnType = (Option.some Jvm.ClassFile.FieldType.int)) (h0 : ∀ x ∈ (eC_ E).exceptionTable.toList, False) (hin : (eT_ E).name = "exchange") (N : Nat) : ∀ (m : Mm) (v0 : Option Nat) (v1 : Int32) (v2 : Int32) (v3 : Int32) (k n : Nat), Sm_ l g E 9 (xe_ en_i) (fX1_exchange (gE_ g) N m v0 v1 v2 v3) k n 0 [(0, vr_ v0), (1, vi_ v1), (2, vi_ v2), (3, vi_ v3)] [] m := by
  intro m v0 v1 v2 v3 k n
  unfold fX1_exchange
  refine s_aload_n C rfl 0 rfl dX1_exchange_0 1 rfl ?_
  refine s_iload_n C rfl 1 rfl dX1_exchange_1 2 rfl ?_
  refine x_ck (fun hb_ hb0_ => ?_)
  refine x_callV (enc := (xe_ en_r)) C 17 1 [vi_ v1] 1 (ctX1_at C.2.2.2.2.2.2.2.2.1 N m v0 v1) hb_ hb0_ rfl rfl q934 q936 qs5 q81 q937 hdX1_at (Nat.le_of_ble_eq_true rfl) (Nat.le_of_ble_eq_true rfl) rfl (Nat.le_of_ble_eq_true rfl) dX1_exchange_2 5 rfl rfl (hen_x hen_r) (kk_x (kk_r (fun x1 m1 k1 n1 => ?_))) (kx_x C h0 he_r)
  refine s_astore C (Nat.le_of_ble_eq_true rfl) [0, 1, 2, 3] rfl rfl dX1_exchange_5 7 rfl ?_
  refine s_aload_n C rfl 1 rfl dX1_exchange_7 8 rfl ?_
  refine s_iload_n C rfl 3 rfl dX1_exchange_8 9 rfl ?_
  refine x_ck (fun hb_ hb0_ => ?_)
  refine x_callV (enc := (xe_ en_r)) C 17 1 [vi_ v2] 1 (ctX1_at C.2.2.2.2.2.2.2.2.1 N m1 v0 v2) hb_ hb0_ rfl rfl q934 q936 qs5 q81 q937 hdX1_at (Nat.le_of_ble_eq_true rfl) (Nat.le_of_ble_eq_true rfl) rfl (Nat.le_of_ble_eq_true rfl) dX1_exchange_9 12 rfl rfl (hen_x hen_r) (kk_x (kk_r (fun x2 m2 k1 n1 => ?_))) (kx_x C h0 he_r)
  refine s_astore C (Nat.le_of_ble_eq_true rfl) [0, 2, 3, 4] rfl rfl dX1_exchange_12 14 rfl ?_
  refine s_iload_n C rfl 2 rfl dX1_exchange_14 15 rfl ?_
  refine s_iload_n C rfl 3 rfl dX1_exchange_15 16 rfl ?_
  refine s_icmp_ne C dX1_exchange_16 47 rfl 19 rfl (fun c_ => ?_) (fun c_ => ?_)
  · refine x_nx C 1 (by decide) q956 q844 q109 dX1_exchange_19 22 rfl (fun x3 m3 hz_x3 => ?_)
    refine s_dup C rfl dX1_exchange_22 23 rfl ?_
    refine x_nw C 29 (RJ16, TJ16, 4) rfl q645 q646 q103 30 4 rfl rfl dX1_exchange_23 26 rfl (fun x4 m4 => ?_)
    refine s_dup C rfl dX1_exchange_26 27 rfl ?_
    refine x_callI (enc := en_v) C 11 0 [] (ctJ16_init C.2.2.2.2.2.2.2.2.1 N m4 (some x4)) (fun h => by cases h) rfl q647 q648 q103 q649 rfl hdJ16_init (Nat.le_of_ble_eq_true rfl) (Nat.le_of_ble_eq_true rfl) rfl (Nat.le_of_ble_eq_true rfl) dX1_exchange_27 30 rfl rfl hen_v (kk_v (fun m5 k1 n1 => ?_)) (kx_n he_v)
    refine x_lsw C 32 32 rfl dX1_exchange_30 33 rfl ?_
    refine x_ck (fun hb_ hb0_ => ?_)
    refine x_callV (enc := en_r) C 14 1 [vr_ (some (gE_ g (100 + 32)))] 30 (ctJ16_append C.2.2.2.2.2.2.2.2.1 N m5 (some x4) (some (gE_ g (100 + 32)))) hb_ hb0_ rfl rfl q677 q678 q679 q103 q680 hdJ16_append (Nat.le_of_ble_eq_true rfl) (Nat.le_of_ble_eq_true rfl) rfl (Nat.le_of_ble_eq_true rfl) dX1_exchange_33 36 rfl rfl hen_r (kk_r (fun x5 m6 k1 n1 => ?_)) (kx_n he_r)
    refine s_iload_n C rfl 2 rfl dX1_exchange_36 37 rfl ?_
    refine x_ck (fun hb_ hb0_ => ?_)
    refine x_callV (enc := en_r) C 14 1 [vi_ v1] 30 (ctJ16_append_2 C.2.2.2.2.2.2.2.2.1 N m6 x5 v1) hb_ hb0_ rfl rfl q783 q784 q785 q103 q786 hdJ16_append_2 (Nat.le_of_ble_eq_true rfl) (Nat.le_of_ble_eq_true rfl) rfl (Nat.le_of_ble_eq_true rfl) dX1_exchange_37 40 rfl rfl hen_r (kk_r (fun x6 m7 k1 n1 => ?_)) (kx_n he_r)
    refine x_ck (fun hb_ hb0_ => ?_)
    refine x_callV (enc := en_r) C 15 0 [] 30 (ctJ16_toString C.2.2.2.2.2.2.2.2.1 N m7 x6) hb_ hb0_ rfl rfl q808 q809 q810 q103 q811 hdJ16_toString (Nat.le_of_ble_eq_true rfl) (Nat.le_of_ble_eq_true rfl) rfl (Nat.le_of_ble_eq_true rfl) dX1_exchange_40 43 rfl rfl hen_r (kk_r (fun x7 m8 k1 n1 => ?_)) (kx_n he_r)
    refine x_xi1 C q959 hz_x3 (Nat.le_of_ble_eq_true rfl) (Nat.le_of_ble_eq_true rfl) dX1_exchange_43 46 rfl (fun m9 => ?_)
    exact x_at C h0 1 (by decide) rfl dX1_exchange_46
  · refine s_iload_n C rfl 4 rfl dX1_exchange_47 48 rfl ?_
    refine s_iconst C 0 rfl dX1_exchange_48 49 rfl ?_
    refine s_sipush C 250 rfl dX1_exchange_49 52 rfl ?_
    refine x_callS (enc := (xe_ en_v)) C 16 3 [vi_ v3, vi_ 0, vi_ 250] (ctX1_isWithin C.2.2.2.2.2.2.2.2.1 N m2 v3 0 250) q953 q954 q81 q955 hdX1_isWithin (Nat.le_of_ble_eq_true rfl) (Nat.le_of_ble_eq_true rfl) rfl (Nat.le_of_ble_eq_true rfl) dX1_exchange_52 55 rfl rfl (hen_x hen_v) (kk_x (kk_v (fun m10 k1 n1 => ?_))) (kx_x C h0 he_v)
    refine s_iconst C 0 rfl dX1_exchange_55 56 rfl ?_
    refine s_istore C (Nat.le_of_ble_eq_true rfl) [0, 1, 3, 4] rfl rfl dX1_exchange_56 58 rfl ?_
    refine s_iconst C 0 rfl dX1_exchange_58 59 rfl ?_
    refine s_istore C (Nat.le_of_ble_eq_true rfl) [0, 1, 2, 3, 4] rfl rfl dX1_exchange_59 61 rfl ?_
    refine Sm_sub [4, 5, 3, 2, 1, 0] rfl ?_
    exact wX1_exchange_b61 C hret h0 hin N N _ _ _ _ _ _ _ _ _
theorem hdX1_exchange : ((⟨"MasterTree", "exchange", "(III)I"⟩ : MethodName)).cls ≠ "java/lang/invoke/MethodHandle" ∧ ((⟨"MasterTree", "exchange", "(III)I"⟩ : MethodName)).cls ≠ "java/lang/invoke/VarHandle" ∧ (parseMethodDescriptor ((⟨"MasterTree", "exchange", "(III)I"⟩ : MethodName)).desc).map (fun d => d.parameters.length) = some 3 := ⟨by decide +kernel, by decide +kernel, by decide +kernel⟩
theorem ctX1_exchange {l : Launch} {g : GG} (hst : l.stackTraces = false) (N : Nat) (m : Mm) (v0 : Option Nat) (v1 : Int32) (v2 : Int32) (v3 : Int32) : ∀ v m' k n, fX1_exchange (gE_ g) N m v0 v1 v2 v3 = some (v, m', k, n) → Ct_ l g (⟨"MasterTree", "exchange", "(III)I"⟩ : MethodName) (ws_ (⟨"MasterTree", "exchange", "(III)I"⟩ : MethodName) cX1_exchange 9 (Option.some Jvm.ClassFile.FieldType.int)) 23 [vr_ v0, vi_ v1, vi_ v2, vi_ v3] m ((xe_ en_i) v) m' k n :=
  Ct_of (by decide +kernel) rfl hst (Nat.le_of_ble_eq_true rfl) rfl (fun E C hret h0 hin => wX1_exchange C hret h0 hin N m v0 v1 v2 v3 0 0)
theorem wX0_exchange {l : Launch} {g : GG} {E : Me_} (C : Cx_ l g E "MasterTreeLaw" cX0_exchange 6 24) (hret : (eT_ E).sig.returnType = (Option.some Jvm.ClassFile.FieldType.int)) (h0 : (eC_ E).exceptionTable.toList = tableOf [(0, 12, 15, 19), (0, 12, 19, 28)]) (hin : (eT_ E).name = "exchange") (N : Nat) : ∀ (m : Mm) (v0 : Option Nat) (v1 : Int32) (v2 : Int32) (v3 : Int32) (v4 : Option Nat) (k n : Nat), Sm_ l g E 6 en_i (fX0_exchange (gE_ g) N m v0 v1 v2 v3 v4) k n 0 [(0, vr_ v0), (1, vi_ v1), (2, vi_ v2), (3, vi_ v3), (4, vr_ v4)] [] m := by
  intro m v0 v1 v2 v3 v4 k n
  unfold fX0_exchange
  refine s_aload C 4 rfl dX0_exchange_0 2 rfl ?_
  refine s_iconst C 0 rfl dX0_exchange_2 3 rfl ?_
  refine s_aload_n C rfl 0 rfl dX0_exchange_3 4 rfl ?_
  refine s_iload_n C rfl 1 rfl dX0_exchange_4 5 rfl ?_
  refine s_iload_n C rfl 2 rfl dX0_exchange_5 6 rfl ?_
  refine s_iload_n C rfl 3 rfl dX0_exchange_6 7 rfl ?_
  refine x_ck (fun hb_ hb0_ => ?_)
  refine x_callV (enc := (xe_ en_i)) C 23 3 [vi_ v1, vi_ v2, vi_ v3] 1 (ctX1_exchange C.2.2.2.2.2.2.2.2.1 N m v0 v1 v2 v3) hb_ hb0_ rfl rfl q2540 q2541 q2542 q81 q2543 hdX1_exchange (Nat.le_of_ble_eq_true rfl) (Nat.le_of_ble_eq_true rfl) rfl (Nat.le_of_ble_eq_true rfl) dX0_exchange_7 10 rfl rfl (hen_x hen_i) (kk_c (kk_i (fun x1 m1 k1 n1 => ?_))) (kx_c he_i (fun i_ m0 k0 n0 => ?_))
  · refine s_i2l C dX0_exchange_10 11 rfl ?_
    refine x_bj3 C 203 rfl dX0_exchange_11 12 rfl (fun m2 => ?_)
    refine s_goto C (off := 11) 23 dX0_exchange_12 rfl ?_
    refine s_iconst C 0 rfl dX0_exchange_23 24 rfl ?_
    exact x_iret C hret rfl dX0_exchange_24
  · refine Sx_if ?_ ?_
    · refine Sx_ctch C h0 0 [] ({ startPc := 0, endPc := 12, handlerPc := 15, catchType := 19 } : ExceptionTableEntry) [{ startPc := 0, endPc := 12, handlerPc := 19, catchType := 28 }] rfl (fun z hz => by cases hz) (by decide) (by decide) q600 q638 15 rfl (fun q_ => ?_)
      refine s_astore C (Nat.le_of_ble_eq_true rfl) [] rfl rfl dX0_exchange_15 17 rfl ?_
      refine s_iconst C 1 rfl dX0_exchange_17 18 rfl ?_
      exact x_iret C hret rfl dX0_exchange_18
    refine Sx_if ?_ ?_
    · refine Sx_ctch C h0 1 [{ startPc := 0, endPc := 12, handlerPc := 15, catchType := 19 }] ({ startPc := 0, endPc := 12, handlerPc := 19, catchType := 28 } : ExceptionTableEntry) [] rfl (List.forall_mem_cons.mpr ⟨Or.inr ⟨by decide, "java/lang/IndexOutOfBoundsException", q600, List.mem_of_getElem? (i := 2) rfl⟩, fun z hz => by cases hz⟩) (by decide) (by decide) q943 q845 19 rfl (fun q_ => ?_)
      refine s_astore C (Nat.le_of_ble_eq_true rfl) [] rfl rfl dX0_exchange_19 21 rfl ?_
      refine s_iconst C 2 rfl dX0_exchange_21 22 rfl ?_
      exact x_iret C hret rfl dX0_exchange_22
    exact Sx_none
theorem hdX0_exchange : ((⟨"MasterTreeLaw", "exchange", "(LMasterTree;III[J)I"⟩ : MethodName)).cls ≠ "java/lang/invoke/MethodHandle" ∧ ((⟨"MasterTreeLaw", "exchange", "(LMasterTree;III[J)I"⟩ : MethodName)).cls ≠ "java/lang/invoke/VarHandle" ∧ (parseMethodDescriptor ((⟨"MasterTreeLaw", "exchange", "(LMasterTree;III[J)I"⟩ : MethodName)).desc).map (fun d => d.parameters.length) = some 5 := ⟨by decide +kernel, by decide +kernel, by decide +kernel⟩
theorem ctX0_exchange {l : Launch} {g : GG} (hst : l.stackTraces = false) (N : Nat) (m : Mm) (v0 : Option Nat) (v1 : Int32) (v2 : Int32) (v3 : Int32) (v4 : Option Nat) : ∀ v m' k n, fX0_exchange (gE_ g) N m v0 v1 v2 v3 v4 = some (v, m', k, n) → Ct_ l g (⟨"MasterTreeLaw", "exchange", "(LMasterTree;III[J)I"⟩ : MethodName) (wsW_ (⟨"MasterTreeLaw", "exchange", "(LMasterTree;III[J)I"⟩ : MethodName) cX0_exchange 6 (Option.some Jvm.ClassFile.FieldType.int) [(0, 12, 15, 19), (0, 12, 19, 28)]) 24 [vr_ v0, vi_ v1, vi_ v2, vi_ v3, vr_ v4] m (en_i v) m' k n :=
  Ct_ofW (by decide +kernel) rfl hst (Nat.le_of_ble_eq_true rfl) rfl (fun E C hret h0 hin => wX0_exchange C hret h0 hin N m v0 v1 v2 v3 v4 0 0)
theorem wX1_sweep {l : Launch} {g : GG} {E : Me_} (C : Cx_ l g E "MasterTree" cX1_sweep 5 18) (hret : (eT_ E).sig.returnType = (Option.some Jvm.ClassFile.FieldType.int)) (h0 : ∀ x ∈ (eC_ E).exceptionTable.toList, False) (hin : (eT_ E).name = "sweep") (N : Nat) : ∀ (m : Mm) (v0 : Option Nat) (v1 : Int32) (k n : Nat), Sm_ l g E 5 (xe_ en_i) (fX1_sweep (gE_ g) N m v0 v1) k n 0 [(0, vr_ v0), (1, vi_ v1)] [] m := by
  intro m v0 v1 k n
  unfold fX1_sweep
  refine s_aload_n C rfl 0 rfl dX1_sweep_0 1 rfl ?_
  refine s_iload_n C rfl 1 rfl dX1_sweep_1 2 rfl ?_
  refine x_ck (fun hb_ hb0_ => ?_)
  refine x_callV (enc := (xe_ en_r)) C 17 1 [vi_ v1] 1 (ctX1_at C.2.2.2.2.2.2.2.2.1 N m v0 v1) hb_ hb0_ rfl rfl q934 q936 qs5 q81 q937 hdX1_at (Nat.le_of_ble_eq_true rfl) (Nat.le_of_ble_eq_true rfl) rfl (Nat.le_of_ble_eq_true rfl) dX1_sweep_2 5 rfl rfl (hen_x hen_r) (kk_x (kk_r (fun x1 m1 k1 n1 => ?_))) (kx_x C h0 he_r)
  refine s_astore_n C rfl (Nat.le_of_ble_eq_true rfl) [] rfl rfl dX1_sweep_5 6 rfl ?_
  refine s_aload_n C rfl 0 rfl dX1_sweep_6 7 rfl ?_
  refine s_iconst C 1 rfl dX1_sweep_7 8 rfl ?_
  refine x_ck (fun hb_ hb0_ => ?_)
  refine x_callV (enc := en_j) C 13 1 [vi_ 1] 2 (ctX2_marks C.2.2.2.2.2.2.2.2.1 N m1 x1 1) hb_ hb0_ rfl rfl q2487 q2488 q2489 q85 q2490 hdX2_marks (Nat.le_of_ble_eq_true rfl) (Nat.le_of_ble_eq_true rfl) rfl (Nat.le_of_ble_eq_true rfl) dX1_sweep_8 11 rfl rfl hen_j (kk_j (fun x2 m2 k1 n1 => ?_)) (kx_n he_j)
  refine s_lstore_n C rfl (Nat.le_of_ble_eq_true rfl) [0] rfl rfl dX1_sweep_11 12 rfl ?_
  refine s_aload_n C rfl 1 rfl dX1_sweep_12 13 rfl ?_
  refine s_dup C rfl dX1_sweep_13 14 rfl ?_
  refine x_gjN C 1 (RX2, TX2, 12) rfl 9 (Nat.le_of_ble_eq_true rfl) q315 rfl rfl 2 rfl dX1_sweep_14 17 rfl (fun x3 => ?_)
  refine s_lload_n C rfl 0 rfl dX1_sweep_17 18 rfl ?_
  refine s_lor C dX1_sweep_18 19 rfl ?_
  refine x_pjN C 1 (RX2, TX2, 12) rfl 9 (Nat.le_of_ble_eq_true rfl) rfl q315 rfl rfl trivial 2 rfl dX1_sweep_19 22 rfl (fun m3 => ?_)
  refine s_lload_n C rfl 0 rfl dX1_sweep_22 23 rfl ?_
  refine x_callS (enc := en_i) C 10 1 [vj_ x2] (ctJ28_bitCount C.2.2.2.2.2.2.2.2.1 N m3 x2) q2499 q2500 q116 q2501 hdJ28_bitCount (Nat.le_of_ble_eq_true rfl) (Nat.le_of_ble_eq_true rfl) rfl (Nat.le_of_ble_eq_true rfl) dX1_sweep_23 26 rfl rfl hen_i (kk_i (fun x4 m4 k1 n1 => ?_)) (kx_n he_i)
  exact x_iret C hret rfl dX1_sweep_26
theorem hdX1_sweep : ((⟨"MasterTree", "sweep", "(I)I"⟩ : MethodName)).cls ≠ "java/lang/invoke/MethodHandle" ∧ ((⟨"MasterTree", "sweep", "(I)I"⟩ : MethodName)).cls ≠ "java/lang/invoke/VarHandle" ∧ (parseMethodDescriptor ((⟨"MasterTree", "sweep", "(I)I"⟩ : MethodName)).desc).map (fun d => d.parameters.length) = some 1 := ⟨by decide +kernel, by decide +kernel, by decide +kernel⟩
theorem ctX1_sweep {l : Launch} {g : GG} (hst : l.stackTraces = false) (N : Nat) (m : Mm) (v0 : Option Nat) (v1 : Int32) : ∀ v m' k n, fX1_sweep (gE_ g) N m v0 v1 = some (v, m', k, n) → Ct_ l g (⟨"MasterTree", "sweep", "(I)I"⟩ : MethodName) (ws_ (⟨"MasterTree", "sweep", "(I)I"⟩ : MethodName) cX1_sweep 5 (Option.some Jvm.ClassFile.FieldType.int)) 18 [vr_ v0, vi_ v1] m ((xe_ en_i) v) m' k n :=
  Ct_of (by decide +kernel) rfl hst (Nat.le_of_ble_eq_true rfl) rfl (fun E C hret h0 hin => wX1_sweep C hret h0 hin N m v0 v1 0 0)
theorem wX0_sweep {l : Launch} {g : GG} {E : Me_} (C : Cx_ l g E "MasterTreeLaw" cX0_sweep 4 19) (hret : (eT_ E).sig.returnType = (Option.some Jvm.ClassFile.FieldType.int)) (h0 : (eC_ E).exceptionTable.toList = tableOf [(0, 9, 12, 19)]) (hin : (eT_ E).name = "sweep") (N : Nat) : ∀ (m : Mm) (v0 : Option Nat) (v1 : Int32) (v2 : Option Nat) (k n : Nat), Sm_ l g E 4 en_i (fX0_sweep (gE_ g) N m v0 v1 v2) k n 0 [(0, vr_ v0), (1, vi_ v1), (2, vr_ v2)] [] m := by
  intro m v0 v1 v2 k n
  unfold fX0_sweep
  refine s_aload_n C rfl 2 rfl dX0_sweep_0 1 rfl ?_
  refine s_iconst C 0 rfl dX0_sweep_1 2 rfl ?_
  refine s_aload_n C rfl 0 rfl dX0_sweep_2 3 rfl ?_
  refine s_iload_n C rfl 1 rfl dX0_sweep_3 4 rfl ?_
  refine x_ck (fun hb_ hb0_ => ?_)
  refine x_callV (enc := (xe_ en_i)) C 18 1 [vi_ v1] 1 (ctX1_sweep C.2.2.2.2.2.2.2.2.1 N m v0 v1) hb_ hb0_ rfl rfl q2552 q2553 q2554 q81 q2555 hdX1_sweep (Nat.le_of_ble_eq_true rfl) (Nat.le_of_ble_eq_true rfl) rfl (Nat.le_of_ble_eq_true rfl) dX0_sweep_4 7 rfl rfl (hen_x hen_i) (kk_c (kk_i (fun x1 m1 k1 n1 => ?_))) (kx_c he_i (fun i_ m0 k0 n0 => ?_))
  · refine s_i2l C dX0_sweep_7 8 rfl ?_
    refine x_bj3 C 203 rfl dX0_sweep_8 9 rfl (fun m2 => ?_)
    refine s_goto C (off := 6) 15 dX0_sweep_9 rfl ?_
    refine s_iconst C 0 rfl dX0_sweep_15 16 rfl ?_
    exact x_iret C hret rfl dX0_sweep_16
  · refine Sx_if ?_ ?_
    · refine Sx_ctch C h0 0 [] ({ startPc := 0, endPc := 9, handlerPc := 12, catchType := 19 } : ExceptionTableEntry) [] rfl (fun z hz => by cases hz) (by decide) (by decide) q600 q638 12 rfl (fun q_ => ?_)
      refine s_astore_n C rfl (Nat.le_of_ble_eq_true rfl) [] rfl rfl dX0_sweep_12 13 rfl ?_
      refine s_iconst C 1 rfl dX0_sweep_13 14 rfl ?_
      exact x_iret C hret rfl dX0_sweep_14
    exact Sx_none
theorem hdX0_sweep : ((⟨"MasterTreeLaw", "sweep", "(LMasterTree;I[J)I"⟩ : MethodName)).cls ≠ "java/lang/invoke/MethodHandle" ∧ ((⟨"MasterTreeLaw", "sweep", "(LMasterTree;I[J)I"⟩ : MethodName)).cls ≠ "java/lang/invoke/VarHandle" ∧ (parseMethodDescriptor ((⟨"MasterTreeLaw", "sweep", "(LMasterTree;I[J)I"⟩ : MethodName)).desc).map (fun d => d.parameters.length) = some 3 := ⟨by decide +kernel, by decide +kernel, by decide +kernel⟩
theorem ctX0_sweep {l : Launch} {g : GG} (hst : l.stackTraces = false) (N : Nat) (m : Mm) (v0 : Option Nat) (v1 : Int32) (v2 : Option Nat) : ∀ v m' k n, fX0_sweep (gE_ g) N m v0 v1 v2 = some (v, m', k, n) → Ct_ l g (⟨"MasterTreeLaw", "sweep", "(LMasterTree;I[J)I"⟩ : MethodName) (wsW_ (⟨"MasterTreeLaw", "sweep", "(LMasterTree;I[J)I"⟩ : MethodName) cX0_sweep 4 (Option.some Jvm.ClassFile.FieldType.int) [(0, 9, 12, 19)]) 19 [vr_ v0, vi_ v1, vr_ v2] m (en_i v) m' k n :=
  Ct_ofW (by decide +kernel) rfl hst (Nat.le_of_ble_eq_true rfl) rfl (fun E C hret h0 hin => wX0_sweep C hret h0 hin N m v0 v1 v2 0 0)
theorem wX8_init_t8 {l : Launch} {g : GG} {E : Me_} (C : Cx_ l g E "MasterTree$Filter" cX8_init 1 10) (hret : (eT_ E).sig.returnType = (Option.none : Option Jvm.ClassFile.FieldType)) (h0 : ∀ x ∈ (eC_ E).exceptionTable.toList, False) (hin : (eT_ E).name = "<init>") (N : Nat) : ∀ (m : Mm) (v0 : Option Nat) (k n : Nat), Sm_ l g E 1 en_v (fX8_init_t8 (gE_ g) N m v0) k n 0 [(0, vr_ v0)] [] m := by
  intro m v0 k n
  unfold fX8_init_t8
  refine s_aload_n C rfl 0 rfl dX8_init_0 1 rfl ?_
  refine x_ok (fun hb_ => ?_)
  refine x_obj C hb_ q2571 q152 q153 (by decide) (Nat.le_of_ble_eq_true rfl) dX8_init_1 4 rfl ?_
  exact x_vret C hret rfl dX8_init_4
theorem hdX8_init_t8 : ((⟨"MasterTree$Filter", "<init>", "()V"⟩ : MethodName)).cls ≠ "java/lang/invoke/MethodHandle" ∧ ((⟨"MasterTree$Filter", "<init>", "()V"⟩ : MethodName)).cls ≠ "java/lang/invoke/VarHandle" ∧ (parseMethodDescriptor ((⟨"MasterTree$Filter", "<init>", "()V"⟩ : MethodName)).desc).map (fun d => d.parameters.length) = some 0 := ⟨by decide +kernel, by decide +kernel, by decide +kernel⟩
theorem ctX8_init_t8 {l : Launch} {g : GG} (hst : l.stackTraces = false) (N : Nat) (m : Mm) (v0 : Option Nat) : ∀ v m' k n, fX8_init_t8 (gE_ g) N m v0 = some (v, m', k, n) → Ct_ l g (⟨"MasterTree$Filter", "<init>", "()V"⟩ : MethodName) (ws_ (⟨"MasterTree$Filter", "<init>", "()V"⟩ : MethodName) cX8_init 1 (Option.none : Option Jvm.ClassFile.FieldType)) 10 [vr_ v0] m (en_v v) m' k n :=
  Ct_of (by decide +kernel) rfl hst (Nat.le_of_ble_eq_true rfl) rfl (fun E C hret h0 hin => wX8_init_t8 C hret h0 hin N m v0 0 0)
theorem wX9_init {l : Launch} {g : GG} {E : Me_} (C : Cx_ l g E "MasterTree$ByValue" cX9_init 4 11) (hret : (eT_ E).sig.returnType = (Option.none : Option Jvm.ClassFile.FieldType)) (h0 : ∀ x ∈ (eC_ E).exceptionTable.toList, False) (hin : (eT_ E).name = "<init>") (N : Nat) : ∀ (m : Mm) (v0 : Option Nat) (v1 : Int32) (v2 : Int32) (v3 : Int32) (k n : Nat), Sm_ l g E 4 en_v (fX9_init (gE_ g) N m v0 v1 v2 v3) k n 0 [(0, vr_ v0), (1, vi_ v1), (2, vi_ v2), (3, vi_ v3)] [] m := by
  intro m v0 v1 v2 v3 k n
  unfold fX9_init
  refine s_aload_n C rfl 0 rfl dX9_init_0 1 rfl ?_
  refine x_ok (fun hb0_ => ?_)
  refine x_callIN (enc := en_v) C 10 0 [] (ctX8_init_t8 C.2.2.2.2.2.2.2.2.1 N m v0) hb0_ rfl q2568 q2569 q138 q2570 rfl hdX8_init_t8 (Nat.le_of_ble_eq_true rfl) (Nat.le_of_ble_eq_true rfl) rfl (Nat.le_of_ble_eq_true rfl) dX9_init_1 4 rfl rfl hen_v (kk_v (fun m1 k1 n1 => ?_)) (kx_n he_v)
  refine s_aload_n C rfl 0 rfl dX9_init_4 5 rfl ?_
  refine s_iload_n C rfl 1 rfl dX9_init_5 6 rfl ?_
  refine x_piF C hin 7 (RX9, TX9, 3) rfl 0 (Nat.le_of_ble_eq_true rfl) rfl q2572 rfl rfl trivial 8 rfl dX9_init_6 9 rfl (fun m2 => ?_)
  refine s_aload_n C rfl 0 rfl dX9_init_9 10 rfl ?_
  refine s_iload_n C rfl 2 rfl dX9_init_10 11 rfl ?_
  refine x_piF C hin 7 (RX9, TX9, 3) rfl 1 (Nat.le_of_ble_eq_true rfl) rfl q2573 rfl rfl trivial 8 rfl dX9_init_11 14 rfl (fun m3 => ?_)
  refine s_aload_n C rfl 0 rfl dX9_init_14 15 rfl ?_
  refine s_iload_n C rfl 3 rfl dX9_init_15 16 rfl ?_
  refine x_pzF C hin 7 (RX9, TX9, 3) rfl 2 (Nat.le_of_ble_eq_true rfl) rfl q2574 rfl rfl (Or.inl rfl) 8 rfl dX9_init_16 19 rfl (fun m4 => ?_)
  exact x_vret C hret rfl dX9_init_19
theorem hdX9_init : ((⟨"MasterTree$ByValue", "<init>", "(IIZ)V"⟩ : MethodName)).cls ≠ "java/lang/invoke/MethodHandle" ∧ ((⟨"MasterTree$ByValue", "<init>", "(IIZ)V"⟩ : MethodName)).cls ≠ "java/lang/invoke/VarHandle" ∧ (parseMethodDescriptor ((⟨"MasterTree$ByValue", "<init>", "(IIZ)V"⟩ : MethodName)).desc).map (fun d => d.parameters.length) = some 3 := ⟨by decide +kernel, by decide +kernel, by decide +kernel⟩
theorem ctX9_init {l : Launch} {g : GG} (hst : l.stackTraces = false) (N : Nat) (m : Mm) (v0 : Option Nat) (v1 : Int32) (v2 : Int32) (v3 : Int32) : ∀ v m' k n, fX9_init (gE_ g) N m v0 v1 v2 v3 = some (v, m', k, n) → Ct_ l g (⟨"MasterTree$ByValue", "<init>", "(IIZ)V"⟩ : MethodName) (ws_ (⟨"MasterTree$ByValue", "<init>", "(IIZ)V"⟩ : MethodName) cX9_init 4 (Option.none : Option Jvm.ClassFile.FieldType)) 11 [vr_ v0, vi_ v1, vi_ v2, vi_ v3] m (en_v v) m' k n :=
  Ct_of (by decide +kernel) rfl hst (Nat.le_of_ble_eq_true rfl) rfl (fun E C hret h0 hin => wX9_init C hret h0 hin N m v0 v1 v2 v3 0 0)
theorem wX1_puts_b28 {l : Launch} {g : GG} {E : Me_} (C : Cx_ l g E "MasterTree" cX1_puts 2 16) (hret : (eT_ E).sig.returnType = (Option.some Jvm.ClassFile.FieldType.int)) (h0 : ∀ x ∈ (eC_ E).exceptionTable.toList, False) (hin : (eT_ E).name = "puts") (N : Nat) : ∀ (m : Mm) (v0 : Option Nat) (v1 : Option Nat) (s0 : Int32) (k n : Nat), Sm_ l g E 2 (xe_ en_i) (fX1_puts_b28 (gE_ g) N m v0 v1 s0) k n 28 [(0, vr_ v0), (1, vr_ v1)] [vi_ s0] m := by
  intro m v0 v1 s0 k n
  unfold fX1_puts_b28
  refine x_lsw C 33 33 rfl dX1_puts_28 31 rfl ?_
  refine x_callS (enc := (xe_ en_v)) C 10 2 [vi_ s0, vr_ (some (gE_ g (100 + 33)))] (ctX1_must C.2.2.2.2.2.2.2.2.1 N m s0 (some (gE_ g (100 + 33)))) q510 q511 q81 q512 hdX1_must (Nat.le_of_ble_eq_true rfl) (Nat.le_of_ble_eq_true rfl) rfl (Nat.le_of_ble_eq_true rfl) dX1_puts_31 34 rfl rfl (hen_x hen_v) (kk_x (kk_v (fun m1 k1 n1 => ?_))) (kx_x C h0 he_v)
  refine s_aload_n C rfl 0 rfl dX1_puts_34 35 rfl ?_
  refine s_dup C rfl dX1_puts_35 36 rfl ?_
  refine x_gi C 0 (RX1, TX1, 9) rfl 5 (Nat.le_of_ble_eq_true rfl) q451 (Or.inl rfl) rfl 1 rfl dX1_puts_36 39 rfl (fun x1 => ?_)
  refine s_iconst C 1 rfl dX1_puts_39 40 rfl ?_
  refine s_iadd C dX1_puts_40 41 rfl ?_
  refine x_pi C 0 (RX1, TX1, 9) rfl 5 (Nat.le_of_ble_eq_true rfl) rfl q451 (Or.inl rfl) rfl trivial 1 rfl dX1_puts_41 44 rfl (fun m2 => ?_)
  refine s_aload_n C rfl 0 rfl dX1_puts_44 45 rfl ?_
  refine x_gr C 0 (RX1, TX1, 9) rfl 4 (Nat.le_of_ble_eq_true rfl) q450 (Or.inl rfl) rfl 1 rfl dX1_puts_45 48 rfl (fun x2 => ?_)
  refine s_aload_n C rfl 1 rfl dX1_puts_48 49 rfl ?_
  refine x_ck (fun hb_ hb0_ => ?_)
  refine x_callF (enc := en_i) C 15 1 [vr_ v1] 13 (ctJ2_add C.2.2.2.2.2.2.2.2.1 N m2 x2 v1) hb_ hb0_ rfl rfl rfl fw_0 q346 q350 q352 q84 q354 hx0 (Nat.le_of_ble_eq_true rfl) (Nat.le_of_ble_eq_true rfl) rfl (Nat.le_of_ble_eq_true rfl) dX1_puts_49 54 rfl rfl hen_i (kk_i (fun x3 m3 k1 n1 => ?_)) (kx_n he_i)
  refine s_pop C rfl dX1_puts_54 55 rfl ?_
  refine s_aload_n C rfl 0 rfl dX1_puts_55 56 rfl ?_
  refine x_gr C 0 (RX1, TX1, 9) rfl 4 (Nat.le_of_ble_eq_true rfl) q450 (Or.inl rfl) rfl 1 rfl dX1_puts_56 59 rfl (fun x4 => ?_)
  refine x_ck (fun hb_ hb0_ => ?_)
  refine x_callF (enc := en_i) C 10 0 [] 13 (ctJ2_size C.2.2.2.2.2.2.2.2.1 N m3 x4) hb_ hb0_ rfl rfl rfl fw_1 q480 q483 q485 q84 q487 hx1 (Nat.le_of_ble_eq_true rfl) (Nat.le_of_ble_eq_true rfl) rfl (Nat.le_of_ble_eq_true rfl) dX1_puts_59 64 rfl rfl hen_i (kk_i (fun x5 m4 k1 n1 => ?_)) (kx_n he_i)
  exact x_iret C hret rfl dX1_puts_64
theorem wX1_puts_b27 {l : Launch} {g : GG} {E : Me_} (C : Cx_ l g E "MasterTree" cX1_puts 2 16) (hret : (eT_ E).sig.returnType = (Option.some Jvm.ClassFile.FieldType.int)) (h0 : ∀ x ∈ (eC_ E).exceptionTable.toList, False) (hin : (eT_ E).name = "puts") (N : Nat) : ∀ (m : Mm) (v0 : Option Nat) (v1 : Option Nat) (k n : Nat), Sm_ l g E 2 (xe_ en_i) (fX1_puts_b27 (gE_ g) N m v0 v1) k n 27 [(0, vr_ v0), (1, vr_ v1)] [] m := by
  intro m v0 v1 k n
  unfold fX1_puts_b27
  refine s_iconst C 0 rfl dX1_puts_27 28 rfl ?_
  exact wX1_puts_b28 C hret h0 hin N _ _ _ _ _ _
theorem wX1_puts {l : Launch} {g : GG} {E : Me_} (C : Cx_ l g E "MasterTree" cX1_puts 2 16) (hret : (eT_ E).sig.returnType = (Option.some Jvm.ClassFile.FieldType.int)) (h0 : ∀ x ∈ (eC_ E).exceptionTable.toList, False) (hin : (eT_ E).name = "puts") (N : Nat) : ∀ (m : Mm) (v0 : Option Nat) (v1 : Option Nat) (k n : Nat), Sm_ l g E 2 (xe_ en_i) (fX1_puts (gE_ g) N m v0 v1) k n 0 [(0, vr_ v0), (1, vr_ v1)] [] m := by
  intro m v0 v1 k n
  unfold fX1_puts
  refine s_aload_n C rfl 0 rfl dX1_puts_0 1 rfl ?_
  refine x_gr C 0 (RX1, TX1, 9) rfl 4 (Nat.le_of_ble_eq_true rfl) q450 (Or.inl rfl) rfl 1 rfl dX1_puts_1 4 rfl (fun x1 => ?_)
  refine x_ck (fun hb_ hb0_ => ?_)
  refine x_callF (enc := en_i) C 10 0 [] 13 (ctJ2_size C.2.2.2.2.2.2.2.2.1 N m x1) hb_ hb0_ rfl rfl rfl fw_1 q480 q483 q485 q84 q487 hx1 (Nat.le_of_ble_eq_true rfl) (Nat.le_of_ble_eq_true rfl) rfl (Nat.le_of_ble_eq_true rfl) dX1_puts_4 9 rfl rfl hen_i (kk_i (fun x2 m1 k1 n1 => ?_)) (kx_n he_i)
  refine s_bipush C 8 rfl dX1_puts_9 11 rfl ?_
  refine s_icmp_ge C dX1_puts_11 27 rfl 14 rfl (fun c_ => ?_) (fun c_ => ?_)
  · refine s_aload_n C rfl 0 rfl dX1_puts_14 15 rfl ?_
    refine x_gi C 0 (RX1, TX1, 9) rfl 5 (Nat.le_of_ble_eq_true rfl) q451 (Or.inl rfl) rfl 1 rfl dX1_puts_15 18 rfl (fun x3 => ?_)
    refine s_bipush C 15 rfl dX1_puts_18 20 rfl ?_
    refine s_icmp_ge C dX1_puts_20 27 rfl 23 rfl (fun c_ => ?_) (fun c_ => ?_)
    · refine s_iconst C 1 rfl dX1_puts_23 24 rfl ?_
      refine s_goto C (off := 4) 28 dX1_puts_24 rfl ?_
      exact wX1_puts_b28 C hret h0 hin N _ _ _ _ _ _
    · exact wX1_puts_b27 C hret h0 hin N _ _ _ _ _
  · exact wX1_puts_b27 C hret h0 hin N _ _ _ _ _
theorem hdX1_puts : ((⟨"MasterTree", "puts", "(LMasterTree$Filter;)I"⟩ : MethodName)).cls ≠ "java/lang/invoke/MethodHandle" ∧ ((⟨"MasterTree", "puts", "(LMasterTree$Filter;)I"⟩ : MethodName)).cls ≠ "java/lang/invoke/VarHandle" ∧ (parseMethodDescriptor ((⟨"MasterTree", "puts", "(LMasterTree$Filter;)I"⟩ : MethodName)).desc).map (fun d => d.parameters.length) = some 1 := ⟨by decide +kernel, by decide +kernel, by decide +kernel⟩
theorem ctX1_puts {l : Launch} {g : GG} (hst : l.stackTraces = false) (N : Nat) (m : Mm) (v0 : Option Nat) (v1 : Option Nat) : ∀ v m' k n, fX1_puts (gE_ g) N m v0 v1 = some (v, m', k, n) → Ct_ l g (⟨"MasterTree", "puts", "(LMasterTree$Filter;)I"⟩ : MethodName) (ws_ (⟨"MasterTree", "puts", "(LMasterTree$Filter;)I"⟩ : MethodName) cX1_puts 2 (Option.some Jvm.ClassFile.FieldType.int)) 16 [vr_ v0, vr_ v1] m ((xe_ en_i) v) m' k n :=
  Ct_of (by decide +kernel) rfl hst (Nat.le_of_ble_eq_true rfl) rfl (fun E C hret h0 hin => wX1_puts C hret h0 hin N m v0 v1 0 0)
theorem wX1_equal {l : Launch} {g : GG} {E : Me_} (C : Cx_ l g E "MasterTree" cX1_equal 4 18) (hret : (eT_ E).sig.returnType = (Option.some Jvm.ClassFile.FieldType.int)) (h0 : ∀ x ∈ (eC_ E).exceptionTable.toList, False) (hin : (eT_ E).name = "equal") (N : Nat) : ∀ (m : Mm) (v0 : Option Nat) (v1 : Int32) (v2 : Int32) (k n : Nat), Sm_ l g E 4 (xe_ en_i) (fX1_equal (gE_ g) N m v0 v1 v2) k n 0 [(0, vr_ v0), (1, vi_ v1), (2, vi_ v2)] [] m := by
  intro m v0 v1 v2 k n
  unfold fX1_equal
  refine s_aload_n C rfl 0 rfl dX1_equal_0 1 rfl ?_
  refine s_iload_n C rfl 1 rfl dX1_equal_1 2 rfl ?_
  refine x_ck (fun hb_ hb0_ => ?_)
  refine x_callV (enc := (xe_ en_r)) C 17 1 [vi_ v1] 1 (ctX1_attributeAt C.2.2.2.2.2.2.2.2.1 N m v0 v1) hb_ hb0_ rfl rfl q948 q950 qs6 q81 q951 hdX1_attributeAt (Nat.le_of_ble_eq_true rfl) (Nat.le_of_ble_eq_true rfl) rfl (Nat.le_of_ble_eq_true rfl) dX1_equal_2 5 rfl rfl (hen_x hen_r) (kk_x (kk_r (fun x1 m1 k1 n1 => ?_))) (kx_x C h0 he_r)
  refine s_astore_n C rfl (Nat.le_of_ble_eq_true rfl) [0, 1, 2] rfl rfl dX1_equal_5 6 rfl ?_
  refine s_iload_n C rfl 3 rfl dX1_equal_6 7 rfl ?_
  refine s_iconst C 0 rfl dX1_equal_7 8 rfl ?_
  refine s_sipush C 999 rfl dX1_equal_8 11 rfl ?_
  refine x_callS (enc := (xe_ en_v)) C 16 3 [vi_ v2, vi_ 0, vi_ 999] (ctX1_isWithin C.2.2.2.2.2.2.2.2.1 N m1 v2 0 999) q953 q954 q81 q955 hdX1_isWithin (Nat.le_of_ble_eq_true rfl) (Nat.le_of_ble_eq_true rfl) rfl (Nat.le_of_ble_eq_true rfl) dX1_equal_11 14 rfl rfl (hen_x hen_v) (kk_x (kk_v (fun m2 k1 n1 => ?_))) (kx_x C h0 he_v)
  refine s_aload_n C rfl 1 rfl dX1_equal_14 15 rfl ?_
  refine x_nw C 7 (RX9, TX9, 3) rfl q2563 q2564 q139 8 3 rfl rfl dX1_equal_15 18 rfl (fun x2 m3 => ?_)
  refine s_dup C rfl dX1_equal_18 19 rfl ?_
  refine s_iload_n C rfl 2 rfl dX1_equal_19 20 rfl ?_
  refine s_aload_n C rfl 0 rfl dX1_equal_20 21 rfl ?_
  refine s_iload_n C rfl 3 rfl dX1_equal_21 22 rfl ?_
  refine x_ck (fun hb_ hb0_ => ?_)
  refine x_callV (enc := en_i) C 10 1 [vi_ v2] 5 (ctX5_key C.2.2.2.2.2.2.2.2.1 N m3 x1 v2) hb_ hb0_ rfl rfl q1685 q1616 q1617 q98 q1618 hdX5_key (Nat.le_of_ble_eq_true rfl) (Nat.le_of_ble_eq_true rfl) rfl (Nat.le_of_ble_eq_true rfl) dX1_equal_22 25 rfl rfl hen_i (kk_i (fun x3 m4 k1 n1 => ?_)) (kx_n he_i)
  refine s_iconst C 0 rfl dX1_equal_25 26 rfl ?_
  refine x_callI (enc := en_v) C 11 3 [vi_ v1, vi_ x3, vi_ 0] (ctX9_init C.2.2.2.2.2.2.2.2.1 N m4 (some x2) v1 x3 0) (fun h => by cases h) rfl q2565 q2566 q139 q2567 rfl hdX9_init (Nat.le_of_ble_eq_true rfl) (Nat.le_of_ble_eq_true rfl) rfl (Nat.le_of_ble_eq_true rfl) dX1_equal_26 29 rfl rfl hen_v (kk_v (fun m5 k1 n1 => ?_)) (kx_n he_v)
  refine x_ck (fun hb_ hb0_ => ?_)
  refine x_callV (enc := (xe_ en_i)) C 16 1 [vr_ (some x2)] 1 (ctX1_puts C.2.2.2.2.2.2.2.2.1 N m5 v0 (some x2)) hb_ hb0_ rfl rfl q2582 q2584 qs27 q81 q2585 hdX1_puts (Nat.le_of_ble_eq_true rfl) (Nat.le_of_ble_eq_true rfl) rfl (Nat.le_of_ble_eq_true rfl) dX1_equal_29 32 rfl rfl (hen_x hen_i) (kk_x (kk_i (fun x4 m6 k1 n1 => ?_))) (kx_x C h0 he_i)
  exact x_iret C hret rfl dX1_equal_32
theorem hdX1_equal : ((⟨"MasterTree", "equal", "(II)I"⟩ : MethodName)).cls ≠ "java/lang/invoke/MethodHandle" ∧ ((⟨"MasterTree", "equal", "(II)I"⟩ : MethodName)).cls ≠ "java/lang/invoke/VarHandle" ∧ (parseMethodDescriptor ((⟨"MasterTree", "equal", "(II)I"⟩ : MethodName)).desc).map (fun d => d.parameters.length) = some 2 := ⟨by decide +kernel, by decide +kernel, by decide +kernel⟩
theorem ctX1_equal {l : Launch} {g : GG} (hst : l.stackTraces = false) (N : Nat) (m : Mm) (v0 : Option Nat) (v1 : Int32) (v2 : Int32) : ∀ v m' k n, fX1_equal (gE_ g) N m v0 v1 v2 = some (v, m', k, n) → Ct_ l g (⟨"MasterTree", "equal", "(II)I"⟩ : MethodName) (ws_ (⟨"MasterTree", "equal", "(II)I"⟩ : MethodName) cX1_equal 4 (Option.some Jvm.ClassFile.FieldType.int)) 18 [vr_ v0, vi_ v1, vi_ v2] m ((xe_ en_i) v) m' k n :=
  Ct_of (by decide +kernel) rfl hst (Nat.le_of_ble_eq_true rfl) rfl (fun E C hret h0 hin => wX1_equal C hret h0 hin N m v0 v1 v2 0 0)
theorem wX0_equal {l : Launch} {g : GG} {E : Me_} (C : Cx_ l g E "MasterTreeLaw" cX0_equal 5 19) (hret : (eT_ E).sig.returnType = (Option.some Jvm.ClassFile.FieldType.int)) (h0 : (eC_ E).exceptionTable.toList = tableOf [(0, 10, 13, 19), (0, 10, 17, 28), (0, 10, 21, 13)]) (hin : (eT_ E).name = "equal") (N : Nat) : ∀ (m : Mm) (v0 : Option Nat) (v1 : Int32) (v2 : Int32) (v3 : Option Nat) (k n : Nat), Sm_ l g E 5 en_i (fX0_equal (gE_ g) N m v0 v1 v2 v3) k n 0 [(0, vr_ v0), (1, vi_ v1), (2, vi_ v2), (3, vr_ v3)] [] m := by
  intro m v0 v1 v2 v3 k n
  unfold fX0_equal
  refine s_aload_n C rfl 3 rfl dX0_equal_0 1 rfl ?_
  refine s_iconst C 0 rfl dX0_equal_1 2 rfl ?_
  refine s_aload_n C rfl 0 rfl dX0_equal_2 3 rfl ?_
  refine s_iload_n C rfl 1 rfl dX0_equal_3 4 rfl ?_
  refine s_iload_n C rfl 2 rfl dX0_equal_4 5 rfl ?_
  refine x_ck (fun hb_ hb0_ => ?_)
  refine x_callV (enc := (xe_ en_i)) C 18 2 [vi_ v1, vi_ v2] 1 (ctX1_equal C.2.2.2.2.2.2.2.2.1 N m v0 v1 v2) hb_ hb0_ rfl rfl q2559 q2560 q2561 q81 q2562 hdX1_equal (Nat.le_of_ble_eq_true rfl) (Nat.le_of_ble_eq_true rfl) rfl (Nat.le_of_ble_eq_true rfl) dX0_equal_5 8 rfl rfl (hen_x hen_i) (kk_c (kk_i (fun x1 m1 k1 n1 => ?_))) (kx_c he_i (fun i_ m0 k0 n0 => ?_))
  · refine s_i2l C dX0_equal_8 9 rfl ?_
    refine x_bj3 C 203 rfl dX0_equal_9 10 rfl (fun m2 => ?_)
    refine s_goto C (off := 15) 25 dX0_equal_10 rfl ?_
    refine s_iconst C 0 rfl dX0_equal_25 26 rfl ?_
    exact x_iret C hret rfl dX0_equal_26
  · refine Sx_if ?_ ?_
    · refine Sx_ctch C h0 0 [] ({ startPc := 0, endPc := 10, handlerPc := 13, catchType := 19 } : ExceptionTableEntry) [{ startPc := 0, endPc := 10, handlerPc := 17, catchType := 28 }, { startPc := 0, endPc := 10, handlerPc := 21, catchType := 13 }] rfl (fun z hz => by cases hz) (by decide) (by decide) q600 q638 13 rfl (fun q_ => ?_)
      refine s_astore C (Nat.le_of_ble_eq_true rfl) [] rfl rfl dX0_equal_13 15 rfl ?_
      refine s_iconst C 1 rfl dX0_equal_15 16 rfl ?_
      exact x_iret C hret rfl dX0_equal_16
    refine Sx_if ?_ ?_
    · refine Sx_ctch C h0 1 [{ startPc := 0, endPc := 10, handlerPc := 13, catchType := 19 }] ({ startPc := 0, endPc := 10, handlerPc := 17, catchType := 28 } : ExceptionTableEntry) [{ startPc := 0, endPc := 10, handlerPc := 21, catchType := 13 }] rfl (List.forall_mem_cons.mpr ⟨Or.inr ⟨by decide, "java/lang/IndexOutOfBoundsException", q600, List.mem_of_getElem? (i := 2) rfl⟩, fun z hz => by cases hz⟩) (by decide) (by decide) q943 q845 17 rfl (fun q_ => ?_)
      refine s_astore C (Nat.le_of_ble_eq_true rfl) [] rfl rfl dX0_equal_17 19 rfl ?_
      refine s_iconst C 2 rfl dX0_equal_19 20 rfl ?_
      exact x_iret C hret rfl dX0_equal_20
    refine Sx_if ?_ ?_
    · refine Sx_ctch C h0 2 [{ startPc := 0, endPc := 10, handlerPc := 13, catchType := 19 }, { startPc := 0, endPc := 10, handlerPc := 17, catchType := 28 }] ({ startPc := 0, endPc := 10, handlerPc := 21, catchType := 13 } : ExceptionTableEntry) [] rfl (List.forall_mem_cons.mpr ⟨Or.inr ⟨by decide, "java/lang/IndexOutOfBoundsException", q600, List.mem_of_getElem? (i := 4) rfl⟩, List.forall_mem_cons.mpr ⟨Or.inr ⟨by decide, "java/lang/IllegalArgumentException", q943, List.mem_of_getElem? (i := 5) rfl⟩, fun z hz => by cases hz⟩⟩) (by decide) (by decide) q504 q515 21 rfl (fun q_ => ?_)
      refine s_astore C (Nat.le_of_ble_eq_true rfl) [] rfl rfl dX0_equal_21 23 rfl ?_
      refine s_iconst C 3 rfl dX0_equal_23 24 rfl ?_
      exact x_iret C hret rfl dX0_equal_24
    exact Sx_none
theorem hdX0_equal : ((⟨"MasterTreeLaw", "equal", "(LMasterTree;II[J)I"⟩ : MethodName)).cls ≠ "java/lang/invoke/MethodHandle" ∧ ((⟨"MasterTreeLaw", "equal", "(LMasterTree;II[J)I"⟩ : MethodName)).cls ≠ "java/lang/invoke/VarHandle" ∧ (parseMethodDescriptor ((⟨"MasterTreeLaw", "equal", "(LMasterTree;II[J)I"⟩ : MethodName)).desc).map (fun d => d.parameters.length) = some 4 := ⟨by decide +kernel, by decide +kernel, by decide +kernel⟩
theorem ctX0_equal {l : Launch} {g : GG} (hst : l.stackTraces = false) (N : Nat) (m : Mm) (v0 : Option Nat) (v1 : Int32) (v2 : Int32) (v3 : Option Nat) : ∀ v m' k n, fX0_equal (gE_ g) N m v0 v1 v2 v3 = some (v, m', k, n) → Ct_ l g (⟨"MasterTreeLaw", "equal", "(LMasterTree;II[J)I"⟩ : MethodName) (wsW_ (⟨"MasterTreeLaw", "equal", "(LMasterTree;II[J)I"⟩ : MethodName) cX0_equal 5 (Option.some Jvm.ClassFile.FieldType.int) [(0, 10, 13, 19), (0, 10, 17, 28), (0, 10, 21, 13)]) 19 [vr_ v0, vi_ v1, vi_ v2, vr_ v3] m (en_i v) m' k n :=
  Ct_ofW (by decide +kernel) rfl hst (Nat.le_of_ble_eq_true rfl) rfl (fun E C hret h0 hin => wX0_equal C hret h0 hin N m v0 v1 v2 v3 0 0)
theorem wX1_atLeast {l : Launch} {g : GG} {E : Me_} (C : Cx_ l g E "MasterTree" cX1_atLeast 4 18) (hret : (eT_ E).sig.returnType = (Option.some Jvm.ClassFile.FieldType.int)) (h0 : ∀ x ∈ (eC_ E).exceptionTable.toList, False) (hin : (eT_ E).name = "atLeast") (N : Nat) : ∀ (m : Mm) (v0 : Option Nat) (v1 : Int32) (v2 : Int32) (k n : Nat), Sm_ l g E 4 (xe_ en_i) (fX1_atLeast (gE_ g) N m v0 v1 v2) k n 0 [(0, vr_ v0), (1, vi_ v1), (2, vi_ v2)] [] m := by
  intro m v0 v1 v2 k n
  unfold fX1_atLeast
  refine s_aload_n C rfl 0 rfl dX1_atLeast_0 1 rfl ?_
  refine s_iload_n C rfl 1 rfl dX1_atLeast_1 2 rfl ?_
  refine x_ck (fun hb_ hb0_ => ?_)
  refine x_callV (enc := (xe_ en_r)) C 17 1 [vi_ v1] 1 (ctX1_attributeAt C.2.2.2.2.2.2.2.2.1 N m v0 v1) hb_ hb0_ rfl rfl q948 q950 qs6 q81 q951 hdX1_attributeAt (Nat.le_of_ble_eq_true rfl) (Nat.le_of_ble_eq_true rfl) rfl (Nat.le_of_ble_eq_true rfl) dX1_atLeast_2 5 rfl rfl (hen_x hen_r) (kk_x (kk_r (fun x1 m1 k1 n1 => ?_))) (kx_x C h0 he_r)
  refine s_astore_n C rfl (Nat.le_of_ble_eq_true rfl) [0, 1, 2] rfl rfl dX1_atLeast_5 6 rfl ?_
  refine s_iload_n C rfl 3 rfl dX1_atLeast_6 7 rfl ?_
  refine s_iconst C 0 rfl dX1_atLeast_7 8 rfl ?_
  refine s_sipush C 999 rfl dX1_atLeast_8 11 rfl ?_
  refine x_callS (enc := (xe_ en_v)) C 16 3 [vi_ v2, vi_ 0, vi_ 999] (ctX1_isWithin C.2.2.2.2.2.2.2.2.1 N m1 v2 0 999) q953 q954 q81 q955 hdX1_isWithin (Nat.le_of_ble_eq_true rfl) (Nat.le_of_ble_eq_true rfl) rfl (Nat.le_of_ble_eq_true rfl) dX1_atLeast_11 14 rfl rfl (hen_x hen_v) (kk_x (kk_v (fun m2 k1 n1 => ?_))) (kx_x C h0 he_v)
  refine s_aload_n C rfl 1 rfl dX1_atLeast_14 15 rfl ?_
  refine x_nw C 7 (RX9, TX9, 3) rfl q2563 q2564 q139 8 3 rfl rfl dX1_atLeast_15 18 rfl (fun x2 m3 => ?_)
  refine s_dup C rfl dX1_atLeast_18 19 rfl ?_
  refine s_iload_n C rfl 2 rfl dX1_atLeast_19 20 rfl ?_
  refine s_aload_n C rfl 0 rfl dX1_atLeast_20 21 rfl ?_
  refine s_iload_n C rfl 3 rfl dX1_atLeast_21 22 rfl ?_
  refine x_ck (fun hb_ hb0_ => ?_)
  refine x_callV (enc := en_i) C 10 1 [vi_ v2] 5 (ctX5_key C.2.2.2.2.2.2.2.2.1 N m3 x1 v2) hb_ hb0_ rfl rfl q1685 q1616 q1617 q98 q1618 hdX5_key (Nat.le_of_ble_eq_true rfl) (Nat.le_of_ble_eq_true rfl) rfl (Nat.le_of_ble_eq_true rfl) dX1_atLeast_22 25 rfl rfl hen_i (kk_i (fun x3 m4 k1 n1 => ?_)) (kx_n he_i)
  refine s_iconst C 1 rfl dX1_atLeast_25 26 rfl ?_
  refine x_callI (enc := en_v) C 11 3 [vi_ v1, vi_ x3, vi_ 1] (ctX9_init C.2.2.2.2.2.2.2.2.1 N m4 (some x2) v1 x3 1) (fun h => by cases h) rfl q2565 q2566 q139 q2567 rfl hdX9_init (Nat.le_of_ble_eq_true rfl) (Nat.le_of_ble_eq_true rfl) rfl (Nat.le_of_ble_eq_true rfl) dX1_atLeast_26 29 rfl rfl hen_v (kk_v (fun m5 k1 n1 => ?_)) (kx_n he_v)
  refine x_ck (fun hb_ hb0_ => ?_)
  refine x_callV (enc := (xe_ en_i)) C 16 1 [vr_ (some x2)] 1 (ctX1_puts C.2.2.2.2.2.2.2.2.1 N m5 v0 (some x2)) hb_ hb0_ rfl rfl q2582 q2584 qs27 q81 q2585 hdX1_puts (Nat.le_of_ble_eq_true rfl) (Nat.le_of_ble_eq_true rfl) rfl (Nat.le_of_ble_eq_true rfl) dX1_atLeast_29 32 rfl rfl (hen_x hen_i) (kk_x (kk_i (fun x4 m6 k1 n1 => ?_))) (kx_x C h0 he_i)
  exact x_iret C hret rfl dX1_atLeast_32
theorem hdX1_atLeast : ((⟨"MasterTree", "atLeast", "(II)I"⟩ : MethodName)).cls ≠ "java/lang/invoke/MethodHandle" ∧ ((⟨"MasterTree", "atLeast", "(II)I"⟩ : MethodName)).cls ≠ "java/lang/invoke/VarHandle" ∧ (parseMethodDescriptor ((⟨"MasterTree", "atLeast", "(II)I"⟩ : MethodName)).desc).map (fun d => d.parameters.length) = some 2 := ⟨by decide +kernel, by decide +kernel, by decide +kernel⟩
theorem ctX1_atLeast {l : Launch} {g : GG} (hst : l.stackTraces = false) (N : Nat) (m : Mm) (v0 : Option Nat) (v1 : Int32) (v2 : Int32) : ∀ v m' k n, fX1_atLeast (gE_ g) N m v0 v1 v2 = some (v, m', k, n) → Ct_ l g (⟨"MasterTree", "atLeast", "(II)I"⟩ : MethodName) (ws_ (⟨"MasterTree", "atLeast", "(II)I"⟩ : MethodName) cX1_atLeast 4 (Option.some Jvm.ClassFile.FieldType.int)) 18 [vr_ v0, vi_ v1, vi_ v2] m ((xe_ en_i) v) m' k n :=
  Ct_of (by decide +kernel) rfl hst (Nat.le_of_ble_eq_true rfl) rfl (fun E C hret h0 hin => wX1_atLeast C hret h0 hin N m v0 v1 v2 0 0)
theorem wX0_atLeast {l : Launch} {g : GG} {E : Me_} (C : Cx_ l g E "MasterTreeLaw" cX0_atLeast 5 19) (hret : (eT_ E).sig.returnType = (Option.some Jvm.ClassFile.FieldType.int)) (h0 : (eC_ E).exceptionTable.toList = tableOf [(0, 10, 13, 19), (0, 10, 17, 28), (0, 10, 21, 13)]) (hin : (eT_ E).name = "atLeast") (N : Nat) : ∀ (m : Mm) (v0 : Option Nat) (v1 : Int32) (v2 : Int32) (v3 : Option Nat) (k n : Nat), Sm_ l g E 5 en_i (fX0_atLeast (gE_ g) N m v0 v1 v2 v3) k n 0 [(0, vr_ v0), (1, vi_ v1), (2, vi_ v2), (3, vr_ v3)] [] m := by
  intro m v0 v1 v2 v3 k n
  unfold fX0_atLeast
  refine s_aload_n C rfl 3 rfl dX0_atLeast_0 1 rfl ?_
  refine s_iconst C 0 rfl dX0_atLeast_1 2 rfl ?_
  refine s_aload_n C rfl 0 rfl dX0_atLeast_2 3 rfl ?_
  refine s_iload_n C rfl 1 rfl dX0_atLeast_3 4 rfl ?_
  refine s_iload_n C rfl 2 rfl dX0_atLeast_4 5 rfl ?_
  refine x_ck (fun hb_ hb0_ => ?_)
  refine x_callV (enc := (xe_ en_i)) C 18 2 [vi_ v1, vi_ v2] 1 (ctX1_atLeast C.2.2.2.2.2.2.2.2.1 N m v0 v1 v2) hb_ hb0_ rfl rfl q2590 q2591 q2592 q81 q2593 hdX1_atLeast (Nat.le_of_ble_eq_true rfl) (Nat.le_of_ble_eq_true rfl) rfl (Nat.le_of_ble_eq_true rfl) dX0_atLeast_5 8 rfl rfl (hen_x hen_i) (kk_c (kk_i (fun x1 m1 k1 n1 => ?_))) (kx_c he_i (fun i_ m0 k0 n0 => ?_))
  · refine s_i2l C dX0_atLeast_8 9 rfl ?_
    refine x_bj3 C 203 rfl dX0_atLeast_9 10 rfl (fun m2 => ?_)
    refine s_goto C (off := 15) 25 dX0_atLeast_10 rfl ?_
    refine s_iconst C 0 rfl dX0_atLeast_25 26 rfl ?_
    exact x_iret C hret rfl dX0_atLeast_26
  · refine Sx_if ?_ ?_
    · refine Sx_ctch C h0 0 [] ({ startPc := 0, endPc := 10, handlerPc := 13, catchType := 19 } : ExceptionTableEntry) [{ startPc := 0, endPc := 10, handlerPc := 17, catchType := 28 }, { startPc := 0, endPc := 10, handlerPc := 21, catchType := 13 }] rfl (fun z hz => by cases hz) (by decide) (by decide) q600 q638 13 rfl (fun q_ => ?_)
      refine s_astore C (Nat.le_of_ble_eq_true rfl) [] rfl rfl dX0_atLeast_13 15 rfl ?_
      refine s_iconst C 1 rfl dX0_atLeast_15 16 rfl ?_
      exact x_iret C hret rfl dX0_atLeast_16
    refine Sx_if ?_ ?_
    · refine Sx_ctch C h0 1 [{ startPc := 0, endPc := 10, handlerPc := 13, catchType := 19 }] ({ startPc := 0, endPc := 10, handlerPc := 17, catchType := 28 } : ExceptionTableEntry) [{ startPc := 0, endPc := 10, handlerPc := 21, catchType := 13 }] rfl (List.forall_mem_cons.mpr ⟨Or.inr ⟨by decide, "java/lang/IndexOutOfBoundsException", q600, List.mem_of_getElem? (i := 2) rfl⟩, fun z hz => by cases hz⟩) (by decide) (by decide) q943 q845 17 rfl (fun q_ => ?_)
      refine s_astore C (Nat.le_of_ble_eq_true rfl) [] rfl rfl dX0_atLeast_17 19 rfl ?_
      refine s_iconst C 2 rfl dX0_atLeast_19 20 rfl ?_
      exact x_iret C hret rfl dX0_atLeast_20
    refine Sx_if ?_ ?_
    · refine Sx_ctch C h0 2 [{ startPc := 0, endPc := 10, handlerPc := 13, catchType := 19 }, { startPc := 0, endPc := 10, handlerPc := 17, catchType := 28 }] ({ startPc := 0, endPc := 10, handlerPc := 21, catchType := 13 } : ExceptionTableEntry) [] rfl (List.forall_mem_cons.mpr ⟨Or.inr ⟨by decide, "java/lang/IndexOutOfBoundsException", q600, List.mem_of_getElem? (i := 4) rfl⟩, List.forall_mem_cons.mpr ⟨Or.inr ⟨by decide, "java/lang/IllegalArgumentException", q943, List.mem_of_getElem? (i := 5) rfl⟩, fun z hz => by cases hz⟩⟩) (by decide) (by decide) q504 q515 21 rfl (fun q_ => ?_)
      refine s_astore C (Nat.le_of_ble_eq_true rfl) [] rfl rfl dX0_atLeast_21 23 rfl ?_
      refine s_iconst C 3 rfl dX0_atLeast_23 24 rfl ?_
      exact x_iret C hret rfl dX0_atLeast_24
    exact Sx_none
theorem hdX0_atLeast : ((⟨"MasterTreeLaw", "atLeast", "(LMasterTree;II[J)I"⟩ : MethodName)).cls ≠ "java/lang/invoke/MethodHandle" ∧ ((⟨"MasterTreeLaw", "atLeast", "(LMasterTree;II[J)I"⟩ : MethodName)).cls ≠ "java/lang/invoke/VarHandle" ∧ (parseMethodDescriptor ((⟨"MasterTreeLaw", "atLeast", "(LMasterTree;II[J)I"⟩ : MethodName)).desc).map (fun d => d.parameters.length) = some 4 := ⟨by decide +kernel, by decide +kernel, by decide +kernel⟩
theorem ctX0_atLeast {l : Launch} {g : GG} (hst : l.stackTraces = false) (N : Nat) (m : Mm) (v0 : Option Nat) (v1 : Int32) (v2 : Int32) (v3 : Option Nat) : ∀ v m' k n, fX0_atLeast (gE_ g) N m v0 v1 v2 v3 = some (v, m', k, n) → Ct_ l g (⟨"MasterTreeLaw", "atLeast", "(LMasterTree;II[J)I"⟩ : MethodName) (wsW_ (⟨"MasterTreeLaw", "atLeast", "(LMasterTree;II[J)I"⟩ : MethodName) cX0_atLeast 5 (Option.some Jvm.ClassFile.FieldType.int) [(0, 10, 13, 19), (0, 10, 17, 28), (0, 10, 21, 13)]) 19 [vr_ v0, vi_ v1, vi_ v2, vr_ v3] m (en_i v) m' k n :=
  Ct_ofW (by decide +kernel) rfl hst (Nat.le_of_ble_eq_true rfl) rfl (fun E C hret h0 hin => wX0_atLeast C hret h0 hin N m v0 v1 v2 v3 0 0)
