set_option maxRecDepth 100000
abbrev cX1_must : ByteArray := prog_1_method_13_code
def yX1_must : MethodName := ⟨RX1, "must", "(ZLjava/lang/String;)V"⟩
def dkwX1_must_0 : List UInt8 := [26, 154, 0, 12, 187, 0, 160, 89, 43, 183, 0, 162, 191, 177]
abbrev dktX1_must_0 : List UInt8 := dkwX1_must_0 ++ []
theorem dksX1_must_0 : cX1_must.data.toList.drop 0 = dktX1_must_0 := by decide +kernel
theorem dX1_must_0 : decode cX1_must 0 = .ok (.iload_n 0, 1) := dk_26 (dk_at dksX1_must_0 0 rfl rfl)
theorem dX1_must_1 : decode cX1_must 1 = .ok (.ifCond .ne 12, 3) := dk_154 0 12 (dk_at dksX1_must_0 1 rfl rfl)
theorem dX1_must_4 : decode cX1_must 4 = .ok (.new 160, 3) := dk_187 0 160 (dk_at dksX1_must_0 4 rfl rfl)
theorem dX1_must_7 : decode cX1_must 7 = .ok (.dup, 1) := dk_89 (dk_at dksX1_must_0 7 rfl rfl)
theorem dX1_must_8 : decode cX1_must 8 = .ok (.aload_n 1, 1) := dk_43 (dk_at dksX1_must_0 8 rfl rfl)
theorem dX1_must_9 : decode cX1_must 9 = .ok (.invokespecial 162, 3) := dk_183 0 162 (dk_at dksX1_must_0 9 rfl rfl)
theorem dX1_must_12 : decode cX1_must 12 = .ok (.athrow, 1) := dk_191 (dk_at dksX1_must_0 12 rfl rfl)
theorem dX1_must_13 : decode cX1_must 13 = .ok (.return_, 1) := dk_177 (dk_at dksX1_must_0 13 rfl rfl)
def fX1_must (e : Nat → Nat) (N : Nat) (m : Mm) (v0 : Int32) (v1 : Option Nat) : Rs (Unit ⊕ Nat) := if v0 = 0 then (nx_ m 2 (fun x1 m1 => xi_ m1 x1 2 (fun m2 => at_ m2 (some x1) 2 (.inr 2)))) else (rt_ (.inl ()) m)
abbrev cX5_init : ByteArray := prog_2_method_1_code
def yX5_init : MethodName := ⟨RX5, "<init>", "(ZZ)V"⟩
def dkwX5_init_0 : List UInt8 := [42, 183, 0, 1, 42, 27, 181, 0, 7, 42, 28, 181, 0, 13, 177]
abbrev dktX5_init_0 : List UInt8 := dkwX5_init_0 ++ []
theorem dksX5_init_0 : cX5_init.data.toList.drop 0 = dktX5_init_0 := by decide +kernel
theorem dX5_init_0 : decode cX5_init 0 = .ok (.aload_n 0, 1) := dk_42 (dk_at dksX5_init_0 0 rfl rfl)
theorem dX5_init_1 : decode cX5_init 1 = .ok (.invokespecial 1, 3) := dk_183 0 1 (dk_at dksX5_init_0 1 rfl rfl)
theorem dX5_init_4 : decode cX5_init 4 = .ok (.aload_n 0, 1) := dk_42 (dk_at dksX5_init_0 4 rfl rfl)
theorem dX5_init_5 : decode cX5_init 5 = .ok (.iload_n 1, 1) := dk_27 (dk_at dksX5_init_0 5 rfl rfl)
theorem dX5_init_6 : decode cX5_init 6 = .ok (.putfield 7, 3) := dk_181 0 7 (dk_at dksX5_init_0 6 rfl rfl)
theorem dX5_init_9 : decode cX5_init 9 = .ok (.aload_n 0, 1) := dk_42 (dk_at dksX5_init_0 9 rfl rfl)
theorem dX5_init_10 : decode cX5_init 10 = .ok (.iload_n 2, 1) := dk_28 (dk_at dksX5_init_0 10 rfl rfl)
theorem dX5_init_11 : decode cX5_init 11 = .ok (.putfield 13, 3) := dk_181 0 13 (dk_at dksX5_init_0 11 rfl rfl)
theorem dX5_init_14 : decode cX5_init 14 = .ok (.return_, 1) := dk_177 (dk_at dksX5_init_0 14 rfl rfl)
def fX5_init (e : Nat → Nat) (N : Nat) (m : Mm) (v0 : Option Nat) (v1 : Int32) (v2 : Int32) : Rs (Unit) := ok_ v0 (pz_ m v0 5 0 v1 (fun m1 => pz_ m1 v0 5 1 v2 (fun m2 => rt_ () m2)))
abbrev cJ5_newLength : ByteArray := prog_97_method_27_code
def yJ5_newLength : MethodName := ⟨RJ5, "newLength", "(III)I"⟩
def dkwJ5_newLength_1 : List UInt8 := [184, 0, 201, 172]
abbrev dktJ5_newLength_1 : List UInt8 := dkwJ5_newLength_1 ++ []
def dkwJ5_newLength_0 : List UInt8 := [26, 27, 28, 184, 0, 194, 96, 62, 3, 29, 162, 0, 11, 29, 18, 200, 163, 0, 5, 29, 172, 26, 27]
abbrev dktJ5_newLength_0 : List UInt8 := dkwJ5_newLength_0 ++ dktJ5_newLength_1
theorem dksJ5_newLength_0 : cJ5_newLength.data.toList.drop 0 = dktJ5_newLength_0 := by decide +kernel
theorem dksJ5_newLength_1 : cJ5_newLength.data.toList.drop 23 = dktJ5_newLength_1 := dk_seg dksJ5_newLength_0 23 rfl rfl
theorem dJ5_newLength_0 : decode cJ5_newLength 0 = .ok (.iload_n 0, 1) := dk_26 (dk_at dksJ5_newLength_0 0 rfl rfl)
theorem dJ5_newLength_1 : decode cJ5_newLength 1 = .ok (.iload_n 1, 1) := dk_27 (dk_at dksJ5_newLength_0 1 rfl rfl)
theorem dJ5_newLength_2 : decode cJ5_newLength 2 = .ok (.iload_n 2, 1) := dk_28 (dk_at dksJ5_newLength_0 2 rfl rfl)
theorem dJ5_newLength_3 : decode cJ5_newLength 3 = .ok (.invokestatic 194, 3) := dk_184 0 194 (dk_at dksJ5_newLength_0 3 rfl rfl)
theorem dJ5_newLength_6 : decode cJ5_newLength 6 = .ok (.iadd, 1) := dk_96 (dk_at dksJ5_newLength_0 6 rfl rfl)
theorem dJ5_newLength_7 : decode cJ5_newLength 7 = .ok (.istore_n 3, 1) := dk_62 (dk_at dksJ5_newLength_0 7 rfl rfl)
theorem dJ5_newLength_8 : decode cJ5_newLength 8 = .ok (.iconst 0, 1) := dk_3 (dk_at dksJ5_newLength_0 8 rfl rfl)
theorem dJ5_newLength_9 : decode cJ5_newLength 9 = .ok (.iload_n 3, 1) := dk_29 (dk_at dksJ5_newLength_0 9 rfl rfl)
theorem dJ5_newLength_10 : decode cJ5_newLength 10 = .ok (.if_icmp .ge 11, 3) := dk_162 0 11 (dk_at dksJ5_newLength_0 10 rfl rfl)
theorem dJ5_newLength_13 : decode cJ5_newLength 13 = .ok (.iload_n 3, 1) := dk_29 (dk_at dksJ5_newLength_0 13 rfl rfl)
theorem dJ5_newLength_14 : decode cJ5_newLength 14 = .ok (.ldc 200, 2) := dk_18 200 (dk_at dksJ5_newLength_0 14 rfl rfl)
theorem dJ5_newLength_16 : decode cJ5_newLength 16 = .ok (.if_icmp .gt 5, 3) := dk_163 0 5 (dk_at dksJ5_newLength_0 16 rfl rfl)
theorem dJ5_newLength_19 : decode cJ5_newLength 19 = .ok (.iload_n 3, 1) := dk_29 (dk_at dksJ5_newLength_0 19 rfl rfl)
theorem dJ5_newLength_20 : decode cJ5_newLength 20 = .ok (.ireturn, 1) := dk_172 (dk_at dksJ5_newLength_0 20 rfl rfl)
theorem dJ5_newLength_21 : decode cJ5_newLength 21 = .ok (.iload_n 0, 1) := dk_26 (dk_at dksJ5_newLength_0 21 rfl rfl)
theorem dJ5_newLength_22 : decode cJ5_newLength 22 = .ok (.iload_n 1, 1) := dk_27 (dk_at dksJ5_newLength_0 22 rfl rfl)
theorem dJ5_newLength_23 : decode cJ5_newLength 23 = .ok (.invokestatic 201, 3) := dk_184 0 201 (dk_at dksJ5_newLength_1 0 rfl rfl)
theorem dJ5_newLength_26 : decode cJ5_newLength 26 = .ok (.ireturn, 1) := dk_172 (dk_at dksJ5_newLength_1 3 rfl rfl)
def fJ5_newLength_b21 (e : Nat → Nat) (N : Nat) (m : Mm) (v0 : Int32) (v1 : Int32) : Rs (Int32) := none
def fJ5_newLength (e : Nat → Nat) (N : Nat) (m : Mm) (v0 : Int32) (v1 : Int32) (v2 : Int32) : Rs (Int32) := if (0 : Int32) < (v0 + (if (v1 : Int32) < v2 then v2 else v1)) then (if (2147483639 : Int32) < (v0 + (if (v1 : Int32) < v2 then v2 else v1)) then (fJ5_newLength_b21 e N m v0 v1) else (rt_ (v0 + (if (v1 : Int32) < v2 then v2 else v1)) m)) else (fJ5_newLength_b21 e N m v0 v1)
abbrev cJ7_copyOf_2 : ByteArray := prog_61_method_120_code
def yJ7_copyOf_2 : MethodName := ⟨RJ7, "copyOf", "([Ljava/lang/Object;ILjava/lang/Class;)[Ljava/lang/Object;"⟩
def dkwJ7_copyOf_2_1 : List UInt8 := [78, 42, 3, 45, 3, 42, 190, 27, 184, 1, 48, 184, 0, 150, 45, 176]
abbrev dktJ7_copyOf_2_1 : List UInt8 := dkwJ7_copyOf_2_1 ++ []
def dkwJ7_copyOf_2_0 : List UInt8 := [44, 18, 110, 166, 0, 10, 27, 189, 0, 2, 167, 0, 14, 44, 182, 0, 90, 27, 184, 0, 95, 192, 0, 110]
abbrev dktJ7_copyOf_2_0 : List UInt8 := dkwJ7_copyOf_2_0 ++ dktJ7_copyOf_2_1
theorem dksJ7_copyOf_2_0 : cJ7_copyOf_2.data.toList.drop 0 = dktJ7_copyOf_2_0 := by decide +kernel
theorem dksJ7_copyOf_2_1 : cJ7_copyOf_2.data.toList.drop 24 = dktJ7_copyOf_2_1 := dk_seg dksJ7_copyOf_2_0 24 rfl rfl
theorem dJ7_copyOf_2_0 : decode cJ7_copyOf_2 0 = .ok (.aload_n 2, 1) := dk_44 (dk_at dksJ7_copyOf_2_0 0 rfl rfl)
theorem dJ7_copyOf_2_1 : decode cJ7_copyOf_2 1 = .ok (.ldc 110, 2) := dk_18 110 (dk_at dksJ7_copyOf_2_0 1 rfl rfl)
theorem dJ7_copyOf_2_3 : decode cJ7_copyOf_2 3 = .ok (.if_acmp .ne 10, 3) := dk_166 0 10 (dk_at dksJ7_copyOf_2_0 3 rfl rfl)
theorem dJ7_copyOf_2_6 : decode cJ7_copyOf_2 6 = .ok (.iload_n 1, 1) := dk_27 (dk_at dksJ7_copyOf_2_0 6 rfl rfl)
theorem dJ7_copyOf_2_7 : decode cJ7_copyOf_2 7 = .ok (.anewarray 2, 3) := dk_189 0 2 (dk_at dksJ7_copyOf_2_0 7 rfl rfl)
theorem dJ7_copyOf_2_10 : decode cJ7_copyOf_2 10 = .ok (.goto 14, 3) := dk_167 0 14 (dk_at dksJ7_copyOf_2_0 10 rfl rfl)
theorem dJ7_copyOf_2_13 : decode cJ7_copyOf_2 13 = .ok (.aload_n 2, 1) := dk_44 (dk_at dksJ7_copyOf_2_0 13 rfl rfl)
theorem dJ7_copyOf_2_14 : decode cJ7_copyOf_2 14 = .ok (.invokevirtual 90, 3) := dk_182 0 90 (dk_at dksJ7_copyOf_2_0 14 rfl rfl)
theorem dJ7_copyOf_2_17 : decode cJ7_copyOf_2 17 = .ok (.iload_n 1, 1) := dk_27 (dk_at dksJ7_copyOf_2_0 17 rfl rfl)
theorem dJ7_copyOf_2_18 : decode cJ7_copyOf_2 18 = .ok (.invokestatic 95, 3) := dk_184 0 95 (dk_at dksJ7_copyOf_2_0 18 rfl rfl)
theorem dJ7_copyOf_2_21 : decode cJ7_copyOf_2 21 = .ok (.checkcast 110, 3) := dk_192 0 110 (dk_at dksJ7_copyOf_2_0 21 rfl rfl)
theorem dJ7_copyOf_2_24 : decode cJ7_copyOf_2 24 = .ok (.astore_n 3, 1) := dk_78 (dk_at dksJ7_copyOf_2_1 0 rfl rfl)
theorem dJ7_copyOf_2_25 : decode cJ7_copyOf_2 25 = .ok (.aload_n 0, 1) := dk_42 (dk_at dksJ7_copyOf_2_1 1 rfl rfl)
theorem dJ7_copyOf_2_26 : decode cJ7_copyOf_2 26 = .ok (.iconst 0, 1) := dk_3 (dk_at dksJ7_copyOf_2_1 2 rfl rfl)
theorem dJ7_copyOf_2_27 : decode cJ7_copyOf_2 27 = .ok (.aload_n 3, 1) := dk_45 (dk_at dksJ7_copyOf_2_1 3 rfl rfl)
theorem dJ7_copyOf_2_28 : decode cJ7_copyOf_2 28 = .ok (.iconst 0, 1) := dk_3 (dk_at dksJ7_copyOf_2_1 4 rfl rfl)
theorem dJ7_copyOf_2_29 : decode cJ7_copyOf_2 29 = .ok (.aload_n 0, 1) := dk_42 (dk_at dksJ7_copyOf_2_1 5 rfl rfl)
theorem dJ7_copyOf_2_30 : decode cJ7_copyOf_2 30 = .ok (.arraylength, 1) := dk_190 (dk_at dksJ7_copyOf_2_1 6 rfl rfl)
theorem dJ7_copyOf_2_31 : decode cJ7_copyOf_2 31 = .ok (.iload_n 1, 1) := dk_27 (dk_at dksJ7_copyOf_2_1 7 rfl rfl)
theorem dJ7_copyOf_2_32 : decode cJ7_copyOf_2 32 = .ok (.invokestatic 304, 3) := dk_184 1 48 (dk_at dksJ7_copyOf_2_1 8 rfl rfl)
theorem dJ7_copyOf_2_35 : decode cJ7_copyOf_2 35 = .ok (.invokestatic 150, 3) := dk_184 0 150 (dk_at dksJ7_copyOf_2_1 11 rfl rfl)
theorem dJ7_copyOf_2_38 : decode cJ7_copyOf_2 38 = .ok (.aload_n 3, 1) := dk_45 (dk_at dksJ7_copyOf_2_1 14 rfl rfl)
theorem dJ7_copyOf_2_39 : decode cJ7_copyOf_2 39 = .ok (.areturn, 1) := dk_176 (dk_at dksJ7_copyOf_2_1 15 rfl rfl)
def fJ7_copyOf_2 (e : Nat → Nat) (N : Nat) (m : Mm) (v0 : Option Nat) (v1 : Int32) (v2 : Option Nat) : Rs (Option Nat) := if v2 = (some (e 99)) then (na_ m 204 v1 (fun x1 m1 => ln_ m1 v0 204 (fun x2 => ac_ m1 v0 0 (some x1) 0 (if (v1 : Int32) < x2 then v1 else x2) (fun m2 => rt_ (some x1) m2)))) else (none)
abbrev cJ7_copyOf : ByteArray := prog_61_method_119_code
def yJ7_copyOf : MethodName := ⟨RJ7, "copyOf", "([Ljava/lang/Object;I)[Ljava/lang/Object;"⟩
def dkwJ7_copyOf_0 : List UInt8 := [42, 27, 42, 182, 0, 86, 184, 1, 44, 176]
abbrev dktJ7_copyOf_0 : List UInt8 := dkwJ7_copyOf_0 ++ []
theorem dksJ7_copyOf_0 : cJ7_copyOf.data.toList.drop 0 = dktJ7_copyOf_0 := by decide +kernel
theorem dJ7_copyOf_0 : decode cJ7_copyOf 0 = .ok (.aload_n 0, 1) := dk_42 (dk_at dksJ7_copyOf_0 0 rfl rfl)
theorem dJ7_copyOf_1 : decode cJ7_copyOf 1 = .ok (.iload_n 1, 1) := dk_27 (dk_at dksJ7_copyOf_0 1 rfl rfl)
theorem dJ7_copyOf_2 : decode cJ7_copyOf 2 = .ok (.aload_n 0, 1) := dk_42 (dk_at dksJ7_copyOf_0 2 rfl rfl)
theorem dJ7_copyOf_3 : decode cJ7_copyOf 3 = .ok (.invokevirtual 86, 3) := dk_182 0 86 (dk_at dksJ7_copyOf_0 3 rfl rfl)
theorem dJ7_copyOf_6 : decode cJ7_copyOf 6 = .ok (.invokestatic 300, 3) := dk_184 1 44 (dk_at dksJ7_copyOf_0 6 rfl rfl)
theorem dJ7_copyOf_9 : decode cJ7_copyOf 9 = .ok (.areturn, 1) := dk_176 (dk_at dksJ7_copyOf_0 9 rfl rfl)
def fJ7_copyOf (e : Nat → Nat) (N : Nat) (m : Mm) (v0 : Option Nat) (v1 : Int32) : Rs (Option Nat) := gc_ m v0 (bd_ (fJ7_copyOf_2 e N m v0 v1 (some (e 99))) (fun x1 m1 => rt_ x1 m1))
abbrev cJ2_grow_2 : ByteArray := prog_59_method_6_code
def yJ2_grow_2 : MethodName := ⟨RJ2, "grow", "(I)[Ljava/lang/Object;"⟩
def dkwJ2_grow_2_2 : List UInt8 := [27, 184, 0, 79, 189, 0, 7, 90, 181, 0, 9, 176]
abbrev dktJ2_grow_2_2 : List UInt8 := dkwJ2_grow_2_2 ++ []
def dkwJ2_grow_2_1 : List UInt8 := [28, 4, 122, 184, 0, 73, 62, 42, 42, 180, 0, 9, 29, 184, 0, 66, 90, 181, 0, 9, 176, 42, 16, 10]
abbrev dktJ2_grow_2_1 : List UInt8 := dkwJ2_grow_2_1 ++ dktJ2_grow_2_2
def dkwJ2_grow_2_0 : List UInt8 := [42, 180, 0, 9, 190, 61, 28, 157, 0, 13, 42, 180, 0, 9, 178, 0, 39, 165, 0, 28, 28, 27, 28, 100]
abbrev dktJ2_grow_2_0 : List UInt8 := dkwJ2_grow_2_0 ++ dktJ2_grow_2_1
theorem dksJ2_grow_2_0 : cJ2_grow_2.data.toList.drop 0 = dktJ2_grow_2_0 := by decide +kernel
theorem dksJ2_grow_2_1 : cJ2_grow_2.data.toList.drop 24 = dktJ2_grow_2_1 := dk_seg dksJ2_grow_2_0 24 rfl rfl
theorem dksJ2_grow_2_2 : cJ2_grow_2.data.toList.drop 48 = dktJ2_grow_2_2 := dk_seg dksJ2_grow_2_1 24 rfl rfl
theorem dJ2_grow_2_0 : decode cJ2_grow_2 0 = .ok (.aload_n 0, 1) := dk_42 (dk_at dksJ2_grow_2_0 0 rfl rfl)
theorem dJ2_grow_2_1 : decode cJ2_grow_2 1 = .ok (.getfield 9, 3) := dk_180 0 9 (dk_at dksJ2_grow_2_0 1 rfl rfl)
theorem dJ2_grow_2_4 : decode cJ2_grow_2 4 = .ok (.arraylength, 1) := dk_190 (dk_at dksJ2_grow_2_0 4 rfl rfl)
theorem dJ2_grow_2_5 : decode cJ2_grow_2 5 = .ok (.istore_n 2, 1) := dk_61 (dk_at dksJ2_grow_2_0 5 rfl rfl)
theorem dJ2_grow_2_6 : decode cJ2_grow_2 6 = .ok (.iload_n 2, 1) := dk_28 (dk_at dksJ2_grow_2_0 6 rfl rfl)
theorem dJ2_grow_2_7 : decode cJ2_grow_2 7 = .ok (.ifCond .gt 13, 3) := dk_157 0 13 (dk_at dksJ2_grow_2_0 7 rfl rfl)
theorem dJ2_grow_2_10 : decode cJ2_grow_2 10 = .ok (.aload_n 0, 1) := dk_42 (dk_at dksJ2_grow_2_0 10 rfl rfl)
theorem dJ2_grow_2_11 : decode cJ2_grow_2 11 = .ok (.getfield 9, 3) := dk_180 0 9 (dk_at dksJ2_grow_2_0 11 rfl rfl)
theorem dJ2_grow_2_14 : decode cJ2_grow_2 14 = .ok (.getstatic 39, 3) := dk_178 0 39 (dk_at dksJ2_grow_2_0 14 rfl rfl)
theorem dJ2_grow_2_17 : decode cJ2_grow_2 17 = .ok (.if_acmp .eq 28, 3) := dk_165 0 28 (dk_at dksJ2_grow_2_0 17 rfl rfl)
theorem dJ2_grow_2_20 : decode cJ2_grow_2 20 = .ok (.iload_n 2, 1) := dk_28 (dk_at dksJ2_grow_2_0 20 rfl rfl)
theorem dJ2_grow_2_21 : decode cJ2_grow_2 21 = .ok (.iload_n 1, 1) := dk_27 (dk_at dksJ2_grow_2_0 21 rfl rfl)
theorem dJ2_grow_2_22 : decode cJ2_grow_2 22 = .ok (.iload_n 2, 1) := dk_28 (dk_at dksJ2_grow_2_0 22 rfl rfl)
theorem dJ2_grow_2_23 : decode cJ2_grow_2 23 = .ok (.isub, 1) := dk_100 (dk_at dksJ2_grow_2_0 23 rfl rfl)
theorem dJ2_grow_2_24 : decode cJ2_grow_2 24 = .ok (.iload_n 2, 1) := dk_28 (dk_at dksJ2_grow_2_1 0 rfl rfl)
theorem dJ2_grow_2_25 : decode cJ2_grow_2 25 = .ok (.iconst 1, 1) := dk_4 (dk_at dksJ2_grow_2_1 1 rfl rfl)
theorem dJ2_grow_2_26 : decode cJ2_grow_2 26 = .ok (.ishr, 1) := dk_122 (dk_at dksJ2_grow_2_1 2 rfl rfl)
theorem dJ2_grow_2_27 : decode cJ2_grow_2 27 = .ok (.invokestatic 73, 3) := dk_184 0 73 (dk_at dksJ2_grow_2_1 3 rfl rfl)
theorem dJ2_grow_2_30 : decode cJ2_grow_2 30 = .ok (.istore_n 3, 1) := dk_62 (dk_at dksJ2_grow_2_1 6 rfl rfl)
theorem dJ2_grow_2_31 : decode cJ2_grow_2 31 = .ok (.aload_n 0, 1) := dk_42 (dk_at dksJ2_grow_2_1 7 rfl rfl)
theorem dJ2_grow_2_32 : decode cJ2_grow_2 32 = .ok (.aload_n 0, 1) := dk_42 (dk_at dksJ2_grow_2_1 8 rfl rfl)
theorem dJ2_grow_2_33 : decode cJ2_grow_2 33 = .ok (.getfield 9, 3) := dk_180 0 9 (dk_at dksJ2_grow_2_1 9 rfl rfl)
theorem dJ2_grow_2_36 : decode cJ2_grow_2 36 = .ok (.iload_n 3, 1) := dk_29 (dk_at dksJ2_grow_2_1 12 rfl rfl)
theorem dJ2_grow_2_37 : decode cJ2_grow_2 37 = .ok (.invokestatic 66, 3) := dk_184 0 66 (dk_at dksJ2_grow_2_1 13 rfl rfl)
theorem dJ2_grow_2_40 : decode cJ2_grow_2 40 = .ok (.dup_x1, 1) := dk_90 (dk_at dksJ2_grow_2_1 16 rfl rfl)
theorem dJ2_grow_2_41 : decode cJ2_grow_2 41 = .ok (.putfield 9, 3) := dk_181 0 9 (dk_at dksJ2_grow_2_1 17 rfl rfl)
theorem dJ2_grow_2_44 : decode cJ2_grow_2 44 = .ok (.areturn, 1) := dk_176 (dk_at dksJ2_grow_2_1 20 rfl rfl)
theorem dJ2_grow_2_45 : decode cJ2_grow_2 45 = .ok (.aload_n 0, 1) := dk_42 (dk_at dksJ2_grow_2_1 21 rfl rfl)
theorem dJ2_grow_2_46 : decode cJ2_grow_2 46 = .ok (.bipush 10, 2) := dk_16 10 (dk_at dksJ2_grow_2_1 22 rfl rfl)
theorem dJ2_grow_2_48 : decode cJ2_grow_2 48 = .ok (.iload_n 1, 1) := dk_27 (dk_at dksJ2_grow_2_2 0 rfl rfl)
theorem dJ2_grow_2_49 : decode cJ2_grow_2 49 = .ok (.invokestatic 79, 3) := dk_184 0 79 (dk_at dksJ2_grow_2_2 1 rfl rfl)
theorem dJ2_grow_2_52 : decode cJ2_grow_2 52 = .ok (.anewarray 7, 3) := dk_189 0 7 (dk_at dksJ2_grow_2_2 4 rfl rfl)
theorem dJ2_grow_2_55 : decode cJ2_grow_2 55 = .ok (.dup_x1, 1) := dk_90 (dk_at dksJ2_grow_2_2 7 rfl rfl)
theorem dJ2_grow_2_56 : decode cJ2_grow_2 56 = .ok (.putfield 9, 3) := dk_181 0 9 (dk_at dksJ2_grow_2_2 8 rfl rfl)
theorem dJ2_grow_2_59 : decode cJ2_grow_2 59 = .ok (.areturn, 1) := dk_176 (dk_at dksJ2_grow_2_2 11 rfl rfl)
def fJ2_grow_2_b20 (e : Nat → Nat) (N : Nat) (m : Mm) (v0 : Option Nat) (v1 : Int32) (v2 : Int32) : Rs (Option Nat) := bd_ (fJ5_newLength e N m v2 (v1 - v2) (v2 >>> (1 &&& 31))) (fun x1 m1 => gr_ m1 v0 13 1 (fun x2 => bd_ (fJ7_copyOf e N m1 x2 x1) (fun x3 m2 => pr_ m2 v0 13 1 x3 (fun m3 => rt_ x3 m3))))
def fJ2_grow_2 (e : Nat → Nat) (N : Nat) (m : Mm) (v0 : Option Nat) (v1 : Int32) : Rs (Option Nat) := gr_ m v0 13 1 (fun x1 => ln_ m x1 204 (fun x2 => if 0 < x2 then (fJ2_grow_2_b20 e N m v0 v1 x2) else (gr_ m v0 13 1 (fun x3 => if x3 = (some (e 0)) then (na_ m 204 (if (10 : Int32) < v1 then v1 else 10) (fun x4 m1 => pr_ m1 v0 13 1 (some x4) (fun m2 => rt_ (some x4) m2))) else (fJ2_grow_2_b20 e N m v0 v1 x2)))))
abbrev cJ2_grow : ByteArray := prog_59_method_7_code
def yJ2_grow : MethodName := ⟨RJ2, "grow", "()[Ljava/lang/Object;"⟩
def dkwJ2_grow_0 : List UInt8 := [42, 42, 180, 0, 48, 4, 96, 182, 0, 69, 176]
abbrev dktJ2_grow_0 : List UInt8 := dkwJ2_grow_0 ++ []
theorem dksJ2_grow_0 : cJ2_grow.data.toList.drop 0 = dktJ2_grow_0 := by decide +kernel
theorem dJ2_grow_0 : decode cJ2_grow 0 = .ok (.aload_n 0, 1) := dk_42 (dk_at dksJ2_grow_0 0 rfl rfl)
theorem dJ2_grow_1 : decode cJ2_grow 1 = .ok (.aload_n 0, 1) := dk_42 (dk_at dksJ2_grow_0 1 rfl rfl)
theorem dJ2_grow_2 : decode cJ2_grow 2 = .ok (.getfield 48, 3) := dk_180 0 48 (dk_at dksJ2_grow_0 2 rfl rfl)
theorem dJ2_grow_5 : decode cJ2_grow 5 = .ok (.iconst 1, 1) := dk_4 (dk_at dksJ2_grow_0 5 rfl rfl)
theorem dJ2_grow_6 : decode cJ2_grow 6 = .ok (.iadd, 1) := dk_96 (dk_at dksJ2_grow_0 6 rfl rfl)
theorem dJ2_grow_7 : decode cJ2_grow 7 = .ok (.invokevirtual 69, 3) := dk_182 0 69 (dk_at dksJ2_grow_0 7 rfl rfl)
theorem dJ2_grow_10 : decode cJ2_grow 10 = .ok (.areturn, 1) := dk_176 (dk_at dksJ2_grow_0 10 rfl rfl)
def fJ2_grow (e : Nat → Nat) (N : Nat) (m : Mm) (v0 : Option Nat) : Rs (Option Nat) := gi_ m v0 13 2 (fun x1 => ck_ m v0 13 (bd_ (fJ2_grow_2 e N m v0 (x1 + 1)) (fun x2 m1 => rt_ x2 m1)))
abbrev cJ2_add_2 : ByteArray := prog_59_method_24_code
def yJ2_add_2 : MethodName := ⟨RJ2, "add", "(Ljava/lang/Object;[Ljava/lang/Object;I)V"⟩
def dkwJ2_add_2_0 : List UInt8 := [29, 44, 190, 160, 0, 8, 42, 182, 0, 129, 77, 44, 29, 43, 83, 42, 29, 4, 96, 181, 0, 48, 177]
abbrev dktJ2_add_2_0 : List UInt8 := dkwJ2_add_2_0 ++ []
theorem dksJ2_add_2_0 : cJ2_add_2.data.toList.drop 0 = dktJ2_add_2_0 := by decide +kernel
theorem dJ2_add_2_0 : decode cJ2_add_2 0 = .ok (.iload_n 3, 1) := dk_29 (dk_at dksJ2_add_2_0 0 rfl rfl)
theorem dJ2_add_2_1 : decode cJ2_add_2 1 = .ok (.aload_n 2, 1) := dk_44 (dk_at dksJ2_add_2_0 1 rfl rfl)
theorem dJ2_add_2_2 : decode cJ2_add_2 2 = .ok (.arraylength, 1) := dk_190 (dk_at dksJ2_add_2_0 2 rfl rfl)
theorem dJ2_add_2_3 : decode cJ2_add_2 3 = .ok (.if_icmp .ne 8, 3) := dk_160 0 8 (dk_at dksJ2_add_2_0 3 rfl rfl)
theorem dJ2_add_2_6 : decode cJ2_add_2 6 = .ok (.aload_n 0, 1) := dk_42 (dk_at dksJ2_add_2_0 6 rfl rfl)
theorem dJ2_add_2_7 : decode cJ2_add_2 7 = .ok (.invokevirtual 129, 3) := dk_182 0 129 (dk_at dksJ2_add_2_0 7 rfl rfl)
theorem dJ2_add_2_10 : decode cJ2_add_2 10 = .ok (.astore_n 2, 1) := dk_77 (dk_at dksJ2_add_2_0 10 rfl rfl)
theorem dJ2_add_2_11 : decode cJ2_add_2 11 = .ok (.aload_n 2, 1) := dk_44 (dk_at dksJ2_add_2_0 11 rfl rfl)
theorem dJ2_add_2_12 : decode cJ2_add_2 12 = .ok (.iload_n 3, 1) := dk_29 (dk_at dksJ2_add_2_0 12 rfl rfl)
theorem dJ2_add_2_13 : decode cJ2_add_2 13 = .ok (.aload_n 1, 1) := dk_43 (dk_at dksJ2_add_2_0 13 rfl rfl)
theorem dJ2_add_2_14 : decode cJ2_add_2 14 = .ok (.aastore, 1) := dk_83 (dk_at dksJ2_add_2_0 14 rfl rfl)
theorem dJ2_add_2_15 : decode cJ2_add_2 15 = .ok (.aload_n 0, 1) := dk_42 (dk_at dksJ2_add_2_0 15 rfl rfl)
theorem dJ2_add_2_16 : decode cJ2_add_2 16 = .ok (.iload_n 3, 1) := dk_29 (dk_at dksJ2_add_2_0 16 rfl rfl)
theorem dJ2_add_2_17 : decode cJ2_add_2 17 = .ok (.iconst 1, 1) := dk_4 (dk_at dksJ2_add_2_0 17 rfl rfl)
theorem dJ2_add_2_18 : decode cJ2_add_2 18 = .ok (.iadd, 1) := dk_96 (dk_at dksJ2_add_2_0 18 rfl rfl)
theorem dJ2_add_2_19 : decode cJ2_add_2 19 = .ok (.putfield 48, 3) := dk_181 0 48 (dk_at dksJ2_add_2_0 19 rfl rfl)
theorem dJ2_add_2_22 : decode cJ2_add_2 22 = .ok (.return_, 1) := dk_177 (dk_at dksJ2_add_2_0 22 rfl rfl)
def fJ2_add_2_b11 (e : Nat → Nat) (N : Nat) (m : Mm) (v0 : Option Nat) (v1 : Option Nat) (v2 : Option Nat) (v3 : Int32) : Rs (Unit) := bk_ m v1 [2, 5, 6, 7, 8, 9, 10, 11, 27, 200] (br_ m v2 204 v3 v1 (fun m1 => pi_ m1 v0 13 2 (v3 + 1) (fun m2 => rt_ () m2)))
def fJ2_add_2 (e : Nat → Nat) (N : Nat) (m : Mm) (v0 : Option Nat) (v1 : Option Nat) (v2 : Option Nat) (v3 : Int32) : Rs (Unit) := ln_ m v2 204 (fun x1 => if v3 = x1 then (ck_ m v0 13 (bd_ (fJ2_grow e N m v0) (fun x2 m1 => fJ2_add_2_b11 e N m1 v0 v1 x2 v3))) else (fJ2_add_2_b11 e N m v0 v1 v2 v3))
abbrev cJ2_add : ByteArray := prog_59_method_25_code
def yJ2_add : MethodName := ⟨RJ2, "add", "(Ljava/lang/Object;)Z"⟩
def dkwJ2_add_1 : List UInt8 := [172]
abbrev dktJ2_add_1 : List UInt8 := dkwJ2_add_1 ++ []
def dkwJ2_add_0 : List UInt8 := [42, 89, 180, 0, 63, 4, 96, 181, 0, 63, 42, 43, 42, 180, 0, 9, 42, 180, 0, 48, 182, 0, 131, 4]
abbrev dktJ2_add_0 : List UInt8 := dkwJ2_add_0 ++ dktJ2_add_1
theorem dksJ2_add_0 : cJ2_add.data.toList.drop 0 = dktJ2_add_0 := by decide +kernel
theorem dksJ2_add_1 : cJ2_add.data.toList.drop 24 = dktJ2_add_1 := dk_seg dksJ2_add_0 24 rfl rfl
theorem dJ2_add_0 : decode cJ2_add 0 = .ok (.aload_n 0, 1) := dk_42 (dk_at dksJ2_add_0 0 rfl rfl)
theorem dJ2_add_1 : decode cJ2_add 1 = .ok (.dup, 1) := dk_89 (dk_at dksJ2_add_0 1 rfl rfl)
theorem dJ2_add_2 : decode cJ2_add 2 = .ok (.getfield 63, 3) := dk_180 0 63 (dk_at dksJ2_add_0 2 rfl rfl)
theorem dJ2_add_5 : decode cJ2_add 5 = .ok (.iconst 1, 1) := dk_4 (dk_at dksJ2_add_0 5 rfl rfl)
theorem dJ2_add_6 : decode cJ2_add 6 = .ok (.iadd, 1) := dk_96 (dk_at dksJ2_add_0 6 rfl rfl)
theorem dJ2_add_7 : decode cJ2_add 7 = .ok (.putfield 63, 3) := dk_181 0 63 (dk_at dksJ2_add_0 7 rfl rfl)
theorem dJ2_add_10 : decode cJ2_add 10 = .ok (.aload_n 0, 1) := dk_42 (dk_at dksJ2_add_0 10 rfl rfl)
theorem dJ2_add_11 : decode cJ2_add 11 = .ok (.aload_n 1, 1) := dk_43 (dk_at dksJ2_add_0 11 rfl rfl)
theorem dJ2_add_12 : decode cJ2_add 12 = .ok (.aload_n 0, 1) := dk_42 (dk_at dksJ2_add_0 12 rfl rfl)
theorem dJ2_add_13 : decode cJ2_add 13 = .ok (.getfield 9, 3) := dk_180 0 9 (dk_at dksJ2_add_0 13 rfl rfl)
theorem dJ2_add_16 : decode cJ2_add 16 = .ok (.aload_n 0, 1) := dk_42 (dk_at dksJ2_add_0 16 rfl rfl)
theorem dJ2_add_17 : decode cJ2_add 17 = .ok (.getfield 48, 3) := dk_180 0 48 (dk_at dksJ2_add_0 17 rfl rfl)
theorem dJ2_add_20 : decode cJ2_add 20 = .ok (.invokevirtual 131, 3) := dk_182 0 131 (dk_at dksJ2_add_0 20 rfl rfl)
theorem dJ2_add_23 : decode cJ2_add 23 = .ok (.iconst 1, 1) := dk_4 (dk_at dksJ2_add_0 23 rfl rfl)
theorem dJ2_add_24 : decode cJ2_add 24 = .ok (.ireturn, 1) := dk_172 (dk_at dksJ2_add_1 0 rfl rfl)
def fJ2_add (e : Nat → Nat) (N : Nat) (m : Mm) (v0 : Option Nat) (v1 : Option Nat) : Rs (Int32) := gi_ m v0 13 0 (fun x1 => pi_ m v0 13 0 (x1 + 1) (fun m1 => gr_ m1 v0 13 1 (fun x2 => gi_ m1 v0 13 2 (fun x3 => ck_ m1 v0 13 (bd_ (fJ2_add_2 e N m1 v0 v1 x2 x3) (fun _ m2 => rt_ 1 m2))))))
abbrev cJ2_size : ByteArray := prog_59_method_8_code
def yJ2_size : MethodName := ⟨RJ2, "size", "()I"⟩
theorem dJ2_size_0 : decode cJ2_size 0 = .ok (.aload_n 0, 1) := by decide +kernel
theorem dJ2_size_1 : decode cJ2_size 1 = .ok (.getfield 48, 3) := by decide +kernel
theorem dJ2_size_4 : decode cJ2_size 4 = .ok (.ireturn, 1) := by decide +kernel
def fJ2_size (e : Nat → Nat) (N : Nat) (m : Mm) (v0 : Option Nat) : Rs (Int32) := gi_ m v0 13 2 (fun x1 => rt_ x1 m)
abbrev cX1_attribute : ByteArray := prog_1_method_14_code
def yX1_attribute : MethodName := ⟨RX1, "attribute", "(ZZ)I"⟩
def dkwX1_attribute_2 : List UInt8 := [185, 0, 137, 1, 0, 4, 100, 172]
abbrev dktX1_attribute_2 : List UInt8 := dkwX1_attribute_2 ++ []
def dkwX1_attribute_1 : List UInt8 := [42, 180, 0, 53, 187, 0, 143, 89, 27, 28, 183, 0, 169, 185, 0, 80, 2, 0, 87, 42, 180, 0, 53]
abbrev dktX1_attribute_1 : List UInt8 := dkwX1_attribute_1 ++ dktX1_attribute_2
def dkwX1_attribute_0 : List UInt8 := [42, 180, 0, 53, 185, 0, 137, 1, 0, 16, 10, 162, 0, 7, 4, 167, 0, 4, 3, 18, 163, 184, 0, 165]
abbrev dktX1_attribute_0 : List UInt8 := dkwX1_attribute_0 ++ dktX1_attribute_1
theorem dksX1_attribute_0 : cX1_attribute.data.toList.drop 0 = dktX1_attribute_0 := by decide +kernel
theorem dksX1_attribute_1 : cX1_attribute.data.toList.drop 24 = dktX1_attribute_1 := dk_seg dksX1_attribute_0 24 rfl rfl
theorem dksX1_attribute_2 : cX1_attribute.data.toList.drop 47 = dktX1_attribute_2 := dk_seg dksX1_attribute_1 23 rfl rfl
theorem dX1_attribute_0 : decode cX1_attribute 0 = .ok (.aload_n 0, 1) := dk_42 (dk_at dksX1_attribute_0 0 rfl rfl)
theorem dX1_attribute_1 : decode cX1_attribute 1 = .ok (.getfield 53, 3) := dk_180 0 53 (dk_at dksX1_attribute_0 1 rfl rfl)
theorem dX1_attribute_4 : decode cX1_attribute 4 = .ok (.invokeinterface 137 1, 5) := by decide +kernel
theorem dX1_attribute_9 : decode cX1_attribute 9 = .ok (.bipush 10, 2) := dk_16 10 (dk_at dksX1_attribute_0 9 rfl rfl)
theorem dX1_attribute_11 : decode cX1_attribute 11 = .ok (.if_icmp .ge 7, 3) := dk_162 0 7 (dk_at dksX1_attribute_0 11 rfl rfl)
theorem dX1_attribute_14 : decode cX1_attribute 14 = .ok (.iconst 1, 1) := dk_4 (dk_at dksX1_attribute_0 14 rfl rfl)
theorem dX1_attribute_15 : decode cX1_attribute 15 = .ok (.goto 4, 3) := dk_167 0 4 (dk_at dksX1_attribute_0 15 rfl rfl)
theorem dX1_attribute_18 : decode cX1_attribute 18 = .ok (.iconst 0, 1) := dk_3 (dk_at dksX1_attribute_0 18 rfl rfl)
theorem dX1_attribute_19 : decode cX1_attribute 19 = .ok (.ldc 163, 2) := dk_18 163 (dk_at dksX1_attribute_0 19 rfl rfl)
theorem dX1_attribute_21 : decode cX1_attribute 21 = .ok (.invokestatic 165, 3) := dk_184 0 165 (dk_at dksX1_attribute_0 21 rfl rfl)
theorem dX1_attribute_24 : decode cX1_attribute 24 = .ok (.aload_n 0, 1) := dk_42 (dk_at dksX1_attribute_1 0 rfl rfl)
theorem dX1_attribute_25 : decode cX1_attribute 25 = .ok (.getfield 53, 3) := dk_180 0 53 (dk_at dksX1_attribute_1 1 rfl rfl)
theorem dX1_attribute_28 : decode cX1_attribute 28 = .ok (.new 143, 3) := dk_187 0 143 (dk_at dksX1_attribute_1 4 rfl rfl)
theorem dX1_attribute_31 : decode cX1_attribute 31 = .ok (.dup, 1) := dk_89 (dk_at dksX1_attribute_1 7 rfl rfl)
theorem dX1_attribute_32 : decode cX1_attribute 32 = .ok (.iload_n 1, 1) := dk_27 (dk_at dksX1_attribute_1 8 rfl rfl)
theorem dX1_attribute_33 : decode cX1_attribute 33 = .ok (.iload_n 2, 1) := dk_28 (dk_at dksX1_attribute_1 9 rfl rfl)
theorem dX1_attribute_34 : decode cX1_attribute 34 = .ok (.invokespecial 169, 3) := dk_183 0 169 (dk_at dksX1_attribute_1 10 rfl rfl)
theorem dX1_attribute_37 : decode cX1_attribute 37 = .ok (.invokeinterface 80 2, 5) := by decide +kernel
theorem dX1_attribute_42 : decode cX1_attribute 42 = .ok (.pop, 1) := dk_87 (dk_at dksX1_attribute_1 18 rfl rfl)
theorem dX1_attribute_43 : decode cX1_attribute 43 = .ok (.aload_n 0, 1) := dk_42 (dk_at dksX1_attribute_1 19 rfl rfl)
theorem dX1_attribute_44 : decode cX1_attribute 44 = .ok (.getfield 53, 3) := dk_180 0 53 (dk_at dksX1_attribute_1 20 rfl rfl)
theorem dX1_attribute_47 : decode cX1_attribute 47 = .ok (.invokeinterface 137 1, 5) := by decide +kernel
theorem dX1_attribute_52 : decode cX1_attribute 52 = .ok (.iconst 1, 1) := dk_4 (dk_at dksX1_attribute_2 5 rfl rfl)
theorem dX1_attribute_53 : decode cX1_attribute 53 = .ok (.isub, 1) := dk_100 (dk_at dksX1_attribute_2 6 rfl rfl)
theorem dX1_attribute_54 : decode cX1_attribute 54 = .ok (.ireturn, 1) := dk_172 (dk_at dksX1_attribute_2 7 rfl rfl)
def fX1_attribute_b19 (e : Nat → Nat) (N : Nat) (m : Mm) (v0 : Option Nat) (v1 : Int32) (v2 : Int32) (s0 : Int32) : Rs (Int32 ⊕ Nat) := bd_ (fX1_must e N m s0 (some (e (100 + 0)))) (xf_ (fun _ m1 => gr_ m1 v0 1 0 (fun x1 => nw_ m1 5 2 (fun x2 m2 => bd_ (fX5_init e N m2 (some x2) v1 v2) (fun _ m3 => ck_ m3 x1 13 (bd_ (fJ2_add e N m3 x1 (some x2)) (fun x3 m4 => gr_ m4 v0 1 0 (fun x4 => ck_ m4 x4 13 (bd_ (fJ2_size e N m4 x4) (fun x5 m5 => rt_ (.inl (x5 - 1)) m5))))))))))
def fX1_attribute (e : Nat → Nat) (N : Nat) (m : Mm) (v0 : Option Nat) (v1 : Int32) (v2 : Int32) : Rs (Int32 ⊕ Nat) := gr_ m v0 1 0 (fun x1 => ck_ m x1 13 (bd_ (fJ2_size e N m x1) (fun x2 m1 => if x2 < 10 then (fX1_attribute_b19 e N m1 v0 v1 v2 1) else (fX1_attribute_b19 e N m1 v0 v1 v2 0))))
abbrev cX0_attribute : ByteArray := method_3_code
def yX0_attribute : MethodName := ⟨RX0, "attribute", "(LMasterTree;ZZ[J)I"⟩
def dkwX0_attribute_0 : List UInt8 := [45, 3, 42, 27, 28, 182, 0, 7, 133, 80, 167, 0, 7, 58, 4, 4, 172, 3, 172]
abbrev dktX0_attribute_0 : List UInt8 := dkwX0_attribute_0 ++ []
theorem dksX0_attribute_0 : cX0_attribute.data.toList.drop 0 = dktX0_attribute_0 := by decide +kernel
theorem dX0_attribute_0 : decode cX0_attribute 0 = .ok (.aload_n 3, 1) := dk_45 (dk_at dksX0_attribute_0 0 rfl rfl)
theorem dX0_attribute_1 : decode cX0_attribute 1 = .ok (.iconst 0, 1) := dk_3 (dk_at dksX0_attribute_0 1 rfl rfl)
theorem dX0_attribute_2 : decode cX0_attribute 2 = .ok (.aload_n 0, 1) := dk_42 (dk_at dksX0_attribute_0 2 rfl rfl)
theorem dX0_attribute_3 : decode cX0_attribute 3 = .ok (.iload_n 1, 1) := dk_27 (dk_at dksX0_attribute_0 3 rfl rfl)
theorem dX0_attribute_4 : decode cX0_attribute 4 = .ok (.iload_n 2, 1) := dk_28 (dk_at dksX0_attribute_0 4 rfl rfl)
theorem dX0_attribute_5 : decode cX0_attribute 5 = .ok (.invokevirtual 7, 3) := dk_182 0 7 (dk_at dksX0_attribute_0 5 rfl rfl)
theorem dX0_attribute_8 : decode cX0_attribute 8 = .ok (.i2l, 1) := dk_133 (dk_at dksX0_attribute_0 8 rfl rfl)
theorem dX0_attribute_9 : decode cX0_attribute 9 = .ok (.lastore, 1) := dk_80 (dk_at dksX0_attribute_0 9 rfl rfl)
theorem dX0_attribute_10 : decode cX0_attribute 10 = .ok (.goto 7, 3) := dk_167 0 7 (dk_at dksX0_attribute_0 10 rfl rfl)
theorem dX0_attribute_13 : decode cX0_attribute 13 = .ok (.astore 4, 2) := dk_58 4 (dk_at dksX0_attribute_0 13 rfl rfl)
theorem dX0_attribute_15 : decode cX0_attribute 15 = .ok (.iconst 1, 1) := dk_4 (dk_at dksX0_attribute_0 15 rfl rfl)
theorem dX0_attribute_16 : decode cX0_attribute 16 = .ok (.ireturn, 1) := dk_172 (dk_at dksX0_attribute_0 16 rfl rfl)
theorem dX0_attribute_17 : decode cX0_attribute 17 = .ok (.iconst 0, 1) := dk_3 (dk_at dksX0_attribute_0 17 rfl rfl)
theorem dX0_attribute_18 : decode cX0_attribute 18 = .ok (.ireturn, 1) := dk_172 (dk_at dksX0_attribute_0 18 rfl rfl)
def fX0_attribute (e : Nat → Nat) (N : Nat) (m : Mm) (v0 : Option Nat) (v1 : Int32) (v2 : Int32) (v3 : Option Nat) : Rs (Int32) := ck_ m v0 1 (bd_ (fX1_attribute e N m v0 v1 v2) (ch_ (fun x1 m1 => bj_ m1 v3 203 0 ((x1 : Int32).toInt64) (fun m2 => rt_ 0 m2)) (fun i_ m0 => if i_ = 2 then rt_ 1 m0 else none)))
abbrev cX6_init : ByteArray := prog_20_method_1_code
def yX6_init : MethodName := ⟨RX6, "<init>", "(LMasterTree$Klass;II)V"⟩
def dkwX6_init_1 : List UInt8 := [181, 0, 13, 42, 28, 29, 128, 43, 199, 0, 7, 3, 167, 0, 7, 43, 180, 0, 17, 128, 181, 0, 17, 177]
abbrev dktX6_init_1 : List UInt8 := dkwX6_init_1 ++ []
def dkwX6_init_0 : List UInt8 := [42, 183, 0, 1, 42, 43, 181, 0, 7, 42, 28, 43, 199, 0, 7, 3, 167, 0, 7, 43, 180, 0, 13, 128]
abbrev dktX6_init_0 : List UInt8 := dkwX6_init_0 ++ dktX6_init_1
theorem dksX6_init_0 : cX6_init.data.toList.drop 0 = dktX6_init_0 := by decide +kernel
theorem dksX6_init_1 : cX6_init.data.toList.drop 24 = dktX6_init_1 := dk_seg dksX6_init_0 24 rfl rfl
theorem dX6_init_0 : decode cX6_init 0 = .ok (.aload_n 0, 1) := dk_42 (dk_at dksX6_init_0 0 rfl rfl)
theorem dX6_init_1 : decode cX6_init 1 = .ok (.invokespecial 1, 3) := dk_183 0 1 (dk_at dksX6_init_0 1 rfl rfl)
theorem dX6_init_4 : decode cX6_init 4 = .ok (.aload_n 0, 1) := dk_42 (dk_at dksX6_init_0 4 rfl rfl)
theorem dX6_init_5 : decode cX6_init 5 = .ok (.aload_n 1, 1) := dk_43 (dk_at dksX6_init_0 5 rfl rfl)
theorem dX6_init_6 : decode cX6_init 6 = .ok (.putfield 7, 3) := dk_181 0 7 (dk_at dksX6_init_0 6 rfl rfl)
theorem dX6_init_9 : decode cX6_init 9 = .ok (.aload_n 0, 1) := dk_42 (dk_at dksX6_init_0 9 rfl rfl)
theorem dX6_init_10 : decode cX6_init 10 = .ok (.iload_n 2, 1) := dk_28 (dk_at dksX6_init_0 10 rfl rfl)
theorem dX6_init_11 : decode cX6_init 11 = .ok (.aload_n 1, 1) := dk_43 (dk_at dksX6_init_0 11 rfl rfl)
theorem dX6_init_12 : decode cX6_init 12 = .ok (.ifnonnull 7, 3) := dk_199 0 7 (dk_at dksX6_init_0 12 rfl rfl)
theorem dX6_init_15 : decode cX6_init 15 = .ok (.iconst 0, 1) := dk_3 (dk_at dksX6_init_0 15 rfl rfl)
theorem dX6_init_16 : decode cX6_init 16 = .ok (.goto 7, 3) := dk_167 0 7 (dk_at dksX6_init_0 16 rfl rfl)
theorem dX6_init_19 : decode cX6_init 19 = .ok (.aload_n 1, 1) := dk_43 (dk_at dksX6_init_0 19 rfl rfl)
theorem dX6_init_20 : decode cX6_init 20 = .ok (.getfield 13, 3) := dk_180 0 13 (dk_at dksX6_init_0 20 rfl rfl)
theorem dX6_init_23 : decode cX6_init 23 = .ok (.ior, 1) := dk_128 (dk_at dksX6_init_0 23 rfl rfl)
theorem dX6_init_24 : decode cX6_init 24 = .ok (.putfield 13, 3) := dk_181 0 13 (dk_at dksX6_init_1 0 rfl rfl)
theorem dX6_init_27 : decode cX6_init 27 = .ok (.aload_n 0, 1) := dk_42 (dk_at dksX6_init_1 3 rfl rfl)
theorem dX6_init_28 : decode cX6_init 28 = .ok (.iload_n 2, 1) := dk_28 (dk_at dksX6_init_1 4 rfl rfl)
theorem dX6_init_29 : decode cX6_init 29 = .ok (.iload_n 3, 1) := dk_29 (dk_at dksX6_init_1 5 rfl rfl)
theorem dX6_init_30 : decode cX6_init 30 = .ok (.ior, 1) := dk_128 (dk_at dksX6_init_1 6 rfl rfl)
theorem dX6_init_31 : decode cX6_init 31 = .ok (.aload_n 1, 1) := dk_43 (dk_at dksX6_init_1 7 rfl rfl)
theorem dX6_init_32 : decode cX6_init 32 = .ok (.ifnonnull 7, 3) := dk_199 0 7 (dk_at dksX6_init_1 8 rfl rfl)
theorem dX6_init_35 : decode cX6_init 35 = .ok (.iconst 0, 1) := dk_3 (dk_at dksX6_init_1 11 rfl rfl)
theorem dX6_init_36 : decode cX6_init 36 = .ok (.goto 7, 3) := dk_167 0 7 (dk_at dksX6_init_1 12 rfl rfl)
theorem dX6_init_39 : decode cX6_init 39 = .ok (.aload_n 1, 1) := dk_43 (dk_at dksX6_init_1 15 rfl rfl)
theorem dX6_init_40 : decode cX6_init 40 = .ok (.getfield 17, 3) := dk_180 0 17 (dk_at dksX6_init_1 16 rfl rfl)
theorem dX6_init_43 : decode cX6_init 43 = .ok (.ior, 1) := dk_128 (dk_at dksX6_init_1 19 rfl rfl)
theorem dX6_init_44 : decode cX6_init 44 = .ok (.putfield 17, 3) := dk_181 0 17 (dk_at dksX6_init_1 20 rfl rfl)
theorem dX6_init_47 : decode cX6_init 47 = .ok (.return_, 1) := dk_177 (dk_at dksX6_init_1 23 rfl rfl)
def fX6_init_b43 (e : Nat → Nat) (N : Nat) (m : Mm) (s0 : Option Nat) (s1 : Int32) (s2 : Int32) : Rs (Unit) := pi_ m s0 6 2 (s1 ||| s2) (fun m1 => rt_ () m1)
def fX6_init_b23 (e : Nat → Nat) (N : Nat) (m : Mm) (v0 : Option Nat) (v1 : Option Nat) (v2 : Int32) (v3 : Int32) (s0 : Option Nat) (s1 : Int32) (s2 : Int32) : Rs (Unit) := pi_ m s0 6 1 (s1 ||| s2) (fun m1 => if v1 = none then (fX6_init_b43 e N m1 v0 (v2 ||| v3) 0) else (gi_ m1 v1 6 2 (fun x1 => fX6_init_b43 e N m1 v0 (v2 ||| v3) x1)))
def fX6_init (e : Nat → Nat) (N : Nat) (m : Mm) (v0 : Option Nat) (v1 : Option Nat) (v2 : Int32) (v3 : Int32) : Rs (Unit) := ok_ v0 (pr_ m v0 6 0 v1 (fun m1 => if v1 = none then (fX6_init_b23 e N m1 v0 v1 v2 v3 v0 v2 0) else (gi_ m1 v1 6 1 (fun x1 => fX6_init_b23 e N m1 v0 v1 v2 v3 v0 v2 x1))))
abbrev cJ15_init : ByteArray := prog_26_method_2_code
def yJ15_init : MethodName := ⟨RJ15, "<init>", "(I)V"⟩
def dkwJ15_init_1 : List UInt8 := [167, 0, 16, 42, 27, 184, 0, 26, 181, 0, 15, 42, 4, 181, 0, 22, 177]
abbrev dktJ15_init_1 : List UInt8 := dkwJ15_init_1 ++ []
def dkwJ15_init_0 : List UInt8 := [42, 183, 0, 3, 178, 0, 18, 153, 0, 18, 42, 27, 188, 8, 181, 0, 15, 42, 3, 181, 0, 22]
abbrev dktJ15_init_0 : List UInt8 := dkwJ15_init_0 ++ dktJ15_init_1
theorem dksJ15_init_0 : cJ15_init.data.toList.drop 0 = dktJ15_init_0 := by decide +kernel
theorem dksJ15_init_1 : cJ15_init.data.toList.drop 22 = dktJ15_init_1 := dk_seg dksJ15_init_0 22 rfl rfl
theorem dJ15_init_0 : decode cJ15_init 0 = .ok (.aload_n 0, 1) := dk_42 (dk_at dksJ15_init_0 0 rfl rfl)
theorem dJ15_init_1 : decode cJ15_init 1 = .ok (.invokespecial 3, 3) := dk_183 0 3 (dk_at dksJ15_init_0 1 rfl rfl)
theorem dJ15_init_4 : decode cJ15_init 4 = .ok (.getstatic 18, 3) := dk_178 0 18 (dk_at dksJ15_init_0 4 rfl rfl)
theorem dJ15_init_7 : decode cJ15_init 7 = .ok (.ifCond .eq 18, 3) := dk_153 0 18 (dk_at dksJ15_init_0 7 rfl rfl)
theorem dJ15_init_10 : decode cJ15_init 10 = .ok (.aload_n 0, 1) := dk_42 (dk_at dksJ15_init_0 10 rfl rfl)
theorem dJ15_init_11 : decode cJ15_init 11 = .ok (.iload_n 1, 1) := dk_27 (dk_at dksJ15_init_0 11 rfl rfl)
theorem dJ15_init_12 : decode cJ15_init 12 = .ok (.newarray .byte, 2) := dk_188_8 (dk_at dksJ15_init_0 12 rfl rfl)
theorem dJ15_init_14 : decode cJ15_init 14 = .ok (.putfield 15, 3) := dk_181 0 15 (dk_at dksJ15_init_0 14 rfl rfl)
theorem dJ15_init_17 : decode cJ15_init 17 = .ok (.aload_n 0, 1) := dk_42 (dk_at dksJ15_init_0 17 rfl rfl)
theorem dJ15_init_18 : decode cJ15_init 18 = .ok (.iconst 0, 1) := dk_3 (dk_at dksJ15_init_0 18 rfl rfl)
theorem dJ15_init_19 : decode cJ15_init 19 = .ok (.putfield 22, 3) := dk_181 0 22 (dk_at dksJ15_init_0 19 rfl rfl)
theorem dJ15_init_22 : decode cJ15_init 22 = .ok (.goto 16, 3) := dk_167 0 16 (dk_at dksJ15_init_1 0 rfl rfl)
theorem dJ15_init_25 : decode cJ15_init 25 = .ok (.aload_n 0, 1) := dk_42 (dk_at dksJ15_init_1 3 rfl rfl)
theorem dJ15_init_26 : decode cJ15_init 26 = .ok (.iload_n 1, 1) := dk_27 (dk_at dksJ15_init_1 4 rfl rfl)
theorem dJ15_init_27 : decode cJ15_init 27 = .ok (.invokestatic 26, 3) := dk_184 0 26 (dk_at dksJ15_init_1 5 rfl rfl)
theorem dJ15_init_30 : decode cJ15_init 30 = .ok (.putfield 15, 3) := dk_181 0 15 (dk_at dksJ15_init_1 8 rfl rfl)
theorem dJ15_init_33 : decode cJ15_init 33 = .ok (.aload_n 0, 1) := dk_42 (dk_at dksJ15_init_1 11 rfl rfl)
theorem dJ15_init_34 : decode cJ15_init 34 = .ok (.iconst 1, 1) := dk_4 (dk_at dksJ15_init_1 12 rfl rfl)
theorem dJ15_init_35 : decode cJ15_init 35 = .ok (.putfield 22, 3) := dk_181 0 22 (dk_at dksJ15_init_1 13 rfl rfl)
theorem dJ15_init_38 : decode cJ15_init 38 = .ok (.return_, 1) := dk_177 (dk_at dksJ15_init_1 16 rfl rfl)
def fJ15_init_t30 (e : Nat → Nat) (N : Nat) (m : Mm) (v0 : Option Nat) (v1 : Int32) : Rs (Unit) := ok_ v0 (if (1 : Int32) = 0 then (none) else (na_ m 202 v1 (fun x1 m1 => pr_ m1 v0 30 0 (some x1) (fun m2 => pz_ m2 v0 30 1 0 (fun m3 => rt_ () m3)))))
abbrev cJ16_init : ByteArray := prog_46_method_1_code
def yJ16_init : MethodName := ⟨RJ16, "<init>", "()V"⟩
def dkwJ16_init_0 : List UInt8 := [42, 16, 16, 183, 0, 1, 177]
abbrev dktJ16_init_0 : List UInt8 := dkwJ16_init_0 ++ []
theorem dksJ16_init_0 : cJ16_init.data.toList.drop 0 = dktJ16_init_0 := by decide +kernel
theorem dJ16_init_0 : decode cJ16_init 0 = .ok (.aload_n 0, 1) := dk_42 (dk_at dksJ16_init_0 0 rfl rfl)
theorem dJ16_init_1 : decode cJ16_init 1 = .ok (.bipush 16, 2) := dk_16 16 (dk_at dksJ16_init_0 1 rfl rfl)
theorem dJ16_init_3 : decode cJ16_init 3 = .ok (.invokespecial 1, 3) := dk_183 0 1 (dk_at dksJ16_init_0 3 rfl rfl)
theorem dJ16_init_6 : decode cJ16_init 6 = .ok (.return_, 1) := dk_177 (dk_at dksJ16_init_0 6 rfl rfl)
def fJ16_init (e : Nat → Nat) (N : Nat) (m : Mm) (v0 : Option Nat) : Rs (Unit) := ok_ v0 (bd_ (fJ15_init_t30 e N m v0 16) (fun _ m1 => rt_ () m1))
abbrev cJ14_coder : ByteArray := prog_45_method_152_code
def yJ14_coder : MethodName := ⟨RJ14, "coder", "()B"⟩
def dkwJ14_coder_0 : List UInt8 := [178, 0, 38, 153, 0, 10, 42, 180, 0, 15, 167, 0, 4, 4, 172]
abbrev dktJ14_coder_0 : List UInt8 := dkwJ14_coder_0 ++ []
theorem dksJ14_coder_0 : cJ14_coder.data.toList.drop 0 = dktJ14_coder_0 := by decide +kernel
theorem dJ14_coder_0 : decode cJ14_coder 0 = .ok (.getstatic 38, 3) := dk_178 0 38 (dk_at dksJ14_coder_0 0 rfl rfl)
theorem dJ14_coder_3 : decode cJ14_coder 3 = .ok (.ifCond .eq 10, 3) := dk_153 0 10 (dk_at dksJ14_coder_0 3 rfl rfl)
theorem dJ14_coder_6 : decode cJ14_coder 6 = .ok (.aload_n 0, 1) := dk_42 (dk_at dksJ14_coder_0 6 rfl rfl)
theorem dJ14_coder_7 : decode cJ14_coder 7 = .ok (.getfield 15, 3) := dk_180 0 15 (dk_at dksJ14_coder_0 7 rfl rfl)
theorem dJ14_coder_10 : decode cJ14_coder 10 = .ok (.goto 4, 3) := dk_167 0 4 (dk_at dksJ14_coder_0 10 rfl rfl)
theorem dJ14_coder_13 : decode cJ14_coder 13 = .ok (.iconst 1, 1) := dk_4 (dk_at dksJ14_coder_0 13 rfl rfl)
theorem dJ14_coder_14 : decode cJ14_coder 14 = .ok (.ireturn, 1) := dk_172 (dk_at dksJ14_coder_0 14 rfl rfl)
def fJ14_coder_b14 (e : Nat → Nat) (N : Nat) (m : Mm) (s0 : Int32) : Rs (Int32) := ry_ s0 s0 m
def fJ14_coder (e : Nat → Nat) (N : Nat) (m : Mm) (v0 : Option Nat) : Rs (Int32) := if (1 : Int32) = 0 then (fJ14_coder_b14 e N m 1) else (gi_ m v0 29 1 (fun x1 => fJ14_coder_b14 e N m x1))
abbrev cJ14_length : ByteArray := prog_45_method_54_code
def yJ14_length : MethodName := ⟨RJ14, "length", "()I"⟩
def dkwJ14_length_0 : List UInt8 := [42, 180, 0, 9, 190, 42, 182, 1, 79, 122, 172]
abbrev dktJ14_length_0 : List UInt8 := dkwJ14_length_0 ++ []
theorem dksJ14_length_0 : cJ14_length.data.toList.drop 0 = dktJ14_length_0 := by decide +kernel
theorem dJ14_length_0 : decode cJ14_length 0 = .ok (.aload_n 0, 1) := dk_42 (dk_at dksJ14_length_0 0 rfl rfl)
theorem dJ14_length_1 : decode cJ14_length 1 = .ok (.getfield 9, 3) := dk_180 0 9 (dk_at dksJ14_length_0 1 rfl rfl)
theorem dJ14_length_4 : decode cJ14_length 4 = .ok (.arraylength, 1) := dk_190 (dk_at dksJ14_length_0 4 rfl rfl)
theorem dJ14_length_5 : decode cJ14_length 5 = .ok (.aload_n 0, 1) := dk_42 (dk_at dksJ14_length_0 5 rfl rfl)
theorem dJ14_length_6 : decode cJ14_length 6 = .ok (.invokevirtual 335, 3) := dk_182 1 79 (dk_at dksJ14_length_0 6 rfl rfl)
theorem dJ14_length_9 : decode cJ14_length 9 = .ok (.ishr, 1) := dk_122 (dk_at dksJ14_length_0 9 rfl rfl)
theorem dJ14_length_10 : decode cJ14_length 10 = .ok (.ireturn, 1) := dk_172 (dk_at dksJ14_length_0 10 rfl rfl)
def fJ14_length (e : Nat → Nat) (N : Nat) (m : Mm) (v0 : Option Nat) : Rs (Int32) := gr_ m v0 29 0 (fun x1 => ln_ m x1 202 (fun x2 => ck_ m v0 29 (bd_ (fJ14_coder e N m v0) (fun x3 m1 => rt_ (x2 >>> (x3 &&& 31)) m1))))
abbrev cJ15_newCapacity : ByteArray := prog_26_method_10_code
def yJ15_newCapacity : MethodName := ⟨RJ15, "newCapacity", "(I)I"⟩
def dkwJ15_newCapacity_2 : List UInt8 := [183, 0, 124, 191, 21, 5, 42, 180, 0, 22, 122, 172]
abbrev dktJ15_newCapacity_2 : List UInt8 := dkwJ15_newCapacity_2 ++ []
def dkwJ15_newCapacity_1 : List UInt8 := [180, 0, 22, 120, 96, 184, 0, 114, 54, 5, 21, 5, 18, 39, 160, 0, 13, 187, 0, 120, 89, 18, 122]
abbrev dktJ15_newCapacity_1 : List UInt8 := dkwJ15_newCapacity_1 ++ dktJ15_newCapacity_2
def dkwJ15_newCapacity_0 : List UInt8 := [42, 180, 0, 15, 190, 61, 27, 42, 180, 0, 22, 120, 62, 29, 28, 100, 54, 4, 28, 21, 4, 28, 5, 42]
abbrev dktJ15_newCapacity_0 : List UInt8 := dkwJ15_newCapacity_0 ++ dktJ15_newCapacity_1
theorem dksJ15_newCapacity_0 : cJ15_newCapacity.data.toList.drop 0 = dktJ15_newCapacity_0 := by decide +kernel
theorem dksJ15_newCapacity_1 : cJ15_newCapacity.data.toList.drop 24 = dktJ15_newCapacity_1 := dk_seg dksJ15_newCapacity_0 24 rfl rfl
theorem dksJ15_newCapacity_2 : cJ15_newCapacity.data.toList.drop 47 = dktJ15_newCapacity_2 := dk_seg dksJ15_newCapacity_1 23 rfl rfl
theorem dJ15_newCapacity_0 : decode cJ15_newCapacity 0 = .ok (.aload_n 0, 1) := dk_42 (dk_at dksJ15_newCapacity_0 0 rfl rfl)
theorem dJ15_newCapacity_1 : decode cJ15_newCapacity 1 = .ok (.getfield 15, 3) := dk_180 0 15 (dk_at dksJ15_newCapacity_0 1 rfl rfl)
theorem dJ15_newCapacity_4 : decode cJ15_newCapacity 4 = .ok (.arraylength, 1) := dk_190 (dk_at dksJ15_newCapacity_0 4 rfl rfl)
theorem dJ15_newCapacity_5 : decode cJ15_newCapacity 5 = .ok (.istore_n 2, 1) := dk_61 (dk_at dksJ15_newCapacity_0 5 rfl rfl)
theorem dJ15_newCapacity_6 : decode cJ15_newCapacity 6 = .ok (.iload_n 1, 1) := dk_27 (dk_at dksJ15_newCapacity_0 6 rfl rfl)
theorem dJ15_newCapacity_7 : decode cJ15_newCapacity 7 = .ok (.aload_n 0, 1) := dk_42 (dk_at dksJ15_newCapacity_0 7 rfl rfl)
theorem dJ15_newCapacity_8 : decode cJ15_newCapacity 8 = .ok (.getfield 22, 3) := dk_180 0 22 (dk_at dksJ15_newCapacity_0 8 rfl rfl)
theorem dJ15_newCapacity_11 : decode cJ15_newCapacity 11 = .ok (.ishl, 1) := dk_120 (dk_at dksJ15_newCapacity_0 11 rfl rfl)
theorem dJ15_newCapacity_12 : decode cJ15_newCapacity 12 = .ok (.istore_n 3, 1) := dk_62 (dk_at dksJ15_newCapacity_0 12 rfl rfl)
theorem dJ15_newCapacity_13 : decode cJ15_newCapacity 13 = .ok (.iload_n 3, 1) := dk_29 (dk_at dksJ15_newCapacity_0 13 rfl rfl)
theorem dJ15_newCapacity_14 : decode cJ15_newCapacity 14 = .ok (.iload_n 2, 1) := dk_28 (dk_at dksJ15_newCapacity_0 14 rfl rfl)
theorem dJ15_newCapacity_15 : decode cJ15_newCapacity 15 = .ok (.isub, 1) := dk_100 (dk_at dksJ15_newCapacity_0 15 rfl rfl)
theorem dJ15_newCapacity_16 : decode cJ15_newCapacity 16 = .ok (.istore 4, 2) := dk_54 4 (dk_at dksJ15_newCapacity_0 16 rfl rfl)
theorem dJ15_newCapacity_18 : decode cJ15_newCapacity 18 = .ok (.iload_n 2, 1) := dk_28 (dk_at dksJ15_newCapacity_0 18 rfl rfl)
theorem dJ15_newCapacity_19 : decode cJ15_newCapacity 19 = .ok (.iload 4, 2) := dk_21 4 (dk_at dksJ15_newCapacity_0 19 rfl rfl)
theorem dJ15_newCapacity_21 : decode cJ15_newCapacity 21 = .ok (.iload_n 2, 1) := dk_28 (dk_at dksJ15_newCapacity_0 21 rfl rfl)
theorem dJ15_newCapacity_22 : decode cJ15_newCapacity 22 = .ok (.iconst 2, 1) := dk_5 (dk_at dksJ15_newCapacity_0 22 rfl rfl)
theorem dJ15_newCapacity_23 : decode cJ15_newCapacity 23 = .ok (.aload_n 0, 1) := dk_42 (dk_at dksJ15_newCapacity_0 23 rfl rfl)
theorem dJ15_newCapacity_24 : decode cJ15_newCapacity 24 = .ok (.getfield 22, 3) := dk_180 0 22 (dk_at dksJ15_newCapacity_1 0 rfl rfl)
theorem dJ15_newCapacity_27 : decode cJ15_newCapacity 27 = .ok (.ishl, 1) := dk_120 (dk_at dksJ15_newCapacity_1 3 rfl rfl)
theorem dJ15_newCapacity_28 : decode cJ15_newCapacity 28 = .ok (.iadd, 1) := dk_96 (dk_at dksJ15_newCapacity_1 4 rfl rfl)
theorem dJ15_newCapacity_29 : decode cJ15_newCapacity 29 = .ok (.invokestatic 114, 3) := dk_184 0 114 (dk_at dksJ15_newCapacity_1 5 rfl rfl)
theorem dJ15_newCapacity_32 : decode cJ15_newCapacity 32 = .ok (.istore 5, 2) := dk_54 5 (dk_at dksJ15_newCapacity_1 8 rfl rfl)
theorem dJ15_newCapacity_34 : decode cJ15_newCapacity 34 = .ok (.iload 5, 2) := dk_21 5 (dk_at dksJ15_newCapacity_1 10 rfl rfl)
theorem dJ15_newCapacity_36 : decode cJ15_newCapacity 36 = .ok (.ldc 39, 2) := dk_18 39 (dk_at dksJ15_newCapacity_1 12 rfl rfl)
theorem dJ15_newCapacity_38 : decode cJ15_newCapacity 38 = .ok (.if_icmp .ne 13, 3) := dk_160 0 13 (dk_at dksJ15_newCapacity_1 14 rfl rfl)
theorem dJ15_newCapacity_41 : decode cJ15_newCapacity 41 = .ok (.new 120, 3) := dk_187 0 120 (dk_at dksJ15_newCapacity_1 17 rfl rfl)
theorem dJ15_newCapacity_44 : decode cJ15_newCapacity 44 = .ok (.dup, 1) := dk_89 (dk_at dksJ15_newCapacity_1 20 rfl rfl)
theorem dJ15_newCapacity_45 : decode cJ15_newCapacity 45 = .ok (.ldc 122, 2) := dk_18 122 (dk_at dksJ15_newCapacity_1 21 rfl rfl)
theorem dJ15_newCapacity_47 : decode cJ15_newCapacity 47 = .ok (.invokespecial 124, 3) := dk_183 0 124 (dk_at dksJ15_newCapacity_2 0 rfl rfl)
theorem dJ15_newCapacity_50 : decode cJ15_newCapacity 50 = .ok (.athrow, 1) := dk_191 (dk_at dksJ15_newCapacity_2 3 rfl rfl)
theorem dJ15_newCapacity_51 : decode cJ15_newCapacity 51 = .ok (.iload 5, 2) := dk_21 5 (dk_at dksJ15_newCapacity_2 4 rfl rfl)
theorem dJ15_newCapacity_53 : decode cJ15_newCapacity 53 = .ok (.aload_n 0, 1) := dk_42 (dk_at dksJ15_newCapacity_2 6 rfl rfl)
theorem dJ15_newCapacity_54 : decode cJ15_newCapacity 54 = .ok (.getfield 22, 3) := dk_180 0 22 (dk_at dksJ15_newCapacity_2 7 rfl rfl)
theorem dJ15_newCapacity_57 : decode cJ15_newCapacity 57 = .ok (.ishr, 1) := dk_122 (dk_at dksJ15_newCapacity_2 10 rfl rfl)
theorem dJ15_newCapacity_58 : decode cJ15_newCapacity 58 = .ok (.ireturn, 1) := dk_172 (dk_at dksJ15_newCapacity_2 11 rfl rfl)
def fJ15_newCapacity_t30 (e : Nat → Nat) (N : Nat) (m : Mm) (v0 : Option Nat) (v1 : Int32) : Rs (Int32) := gr_ m v0 30 0 (fun x1 => ln_ m x1 202 (fun x2 => gi_ m v0 30 1 (fun x3 => gi_ m v0 30 1 (fun x4 => bd_ (fJ5_newLength e N m x2 ((v1 <<< (x3 &&& 31)) - x2) (x2 + (2 <<< (x4 &&& 31)))) (fun x5 m1 => if x5 = 2147483647 then (none) else (gi_ m1 v0 30 1 (fun x6 => rt_ (x5 >>> (x6 &&& 31)) m1)))))))
abbrev cJ7_copyOf_3 : ByteArray := prog_61_method_121_code
def yJ7_copyOf_3 : MethodName := ⟨RJ7, "copyOf", "([BI)[B"⟩
def dkwJ7_copyOf_3_1 : List UInt8 := [27, 184, 1, 48, 184, 0, 150, 44, 176]
abbrev dktJ7_copyOf_3_1 : List UInt8 := dkwJ7_copyOf_3_1 ++ []
def dkwJ7_copyOf_3_0 : List UInt8 := [27, 42, 190, 160, 0, 11, 42, 182, 1, 54, 192, 1, 55, 176, 27, 188, 8, 77, 42, 3, 44, 3, 42, 190]
abbrev dktJ7_copyOf_3_0 : List UInt8 := dkwJ7_copyOf_3_0 ++ dktJ7_copyOf_3_1
theorem dksJ7_copyOf_3_0 : cJ7_copyOf_3.data.toList.drop 0 = dktJ7_copyOf_3_0 := by decide +kernel
theorem dksJ7_copyOf_3_1 : cJ7_copyOf_3.data.toList.drop 24 = dktJ7_copyOf_3_1 := dk_seg dksJ7_copyOf_3_0 24 rfl rfl
theorem dJ7_copyOf_3_0 : decode cJ7_copyOf_3 0 = .ok (.iload_n 1, 1) := dk_27 (dk_at dksJ7_copyOf_3_0 0 rfl rfl)
theorem dJ7_copyOf_3_1 : decode cJ7_copyOf_3 1 = .ok (.aload_n 0, 1) := dk_42 (dk_at dksJ7_copyOf_3_0 1 rfl rfl)
theorem dJ7_copyOf_3_2 : decode cJ7_copyOf_3 2 = .ok (.arraylength, 1) := dk_190 (dk_at dksJ7_copyOf_3_0 2 rfl rfl)
theorem dJ7_copyOf_3_3 : decode cJ7_copyOf_3 3 = .ok (.if_icmp .ne 11, 3) := dk_160 0 11 (dk_at dksJ7_copyOf_3_0 3 rfl rfl)
theorem dJ7_copyOf_3_6 : decode cJ7_copyOf_3 6 = .ok (.aload_n 0, 1) := dk_42 (dk_at dksJ7_copyOf_3_0 6 rfl rfl)
theorem dJ7_copyOf_3_7 : decode cJ7_copyOf_3 7 = .ok (.invokevirtual 310, 3) := dk_182 1 54 (dk_at dksJ7_copyOf_3_0 7 rfl rfl)
theorem dJ7_copyOf_3_10 : decode cJ7_copyOf_3 10 = .ok (.checkcast 311, 3) := dk_192 1 55 (dk_at dksJ7_copyOf_3_0 10 rfl rfl)
theorem dJ7_copyOf_3_13 : decode cJ7_copyOf_3 13 = .ok (.areturn, 1) := dk_176 (dk_at dksJ7_copyOf_3_0 13 rfl rfl)
theorem dJ7_copyOf_3_14 : decode cJ7_copyOf_3 14 = .ok (.iload_n 1, 1) := dk_27 (dk_at dksJ7_copyOf_3_0 14 rfl rfl)
theorem dJ7_copyOf_3_15 : decode cJ7_copyOf_3 15 = .ok (.newarray .byte, 2) := dk_188_8 (dk_at dksJ7_copyOf_3_0 15 rfl rfl)
theorem dJ7_copyOf_3_17 : decode cJ7_copyOf_3 17 = .ok (.astore_n 2, 1) := dk_77 (dk_at dksJ7_copyOf_3_0 17 rfl rfl)
theorem dJ7_copyOf_3_18 : decode cJ7_copyOf_3 18 = .ok (.aload_n 0, 1) := dk_42 (dk_at dksJ7_copyOf_3_0 18 rfl rfl)
theorem dJ7_copyOf_3_19 : decode cJ7_copyOf_3 19 = .ok (.iconst 0, 1) := dk_3 (dk_at dksJ7_copyOf_3_0 19 rfl rfl)
theorem dJ7_copyOf_3_20 : decode cJ7_copyOf_3 20 = .ok (.aload_n 2, 1) := dk_44 (dk_at dksJ7_copyOf_3_0 20 rfl rfl)
theorem dJ7_copyOf_3_21 : decode cJ7_copyOf_3 21 = .ok (.iconst 0, 1) := dk_3 (dk_at dksJ7_copyOf_3_0 21 rfl rfl)
theorem dJ7_copyOf_3_22 : decode cJ7_copyOf_3 22 = .ok (.aload_n 0, 1) := dk_42 (dk_at dksJ7_copyOf_3_0 22 rfl rfl)
theorem dJ7_copyOf_3_23 : decode cJ7_copyOf_3 23 = .ok (.arraylength, 1) := dk_190 (dk_at dksJ7_copyOf_3_0 23 rfl rfl)
theorem dJ7_copyOf_3_24 : decode cJ7_copyOf_3 24 = .ok (.iload_n 1, 1) := dk_27 (dk_at dksJ7_copyOf_3_1 0 rfl rfl)
theorem dJ7_copyOf_3_25 : decode cJ7_copyOf_3 25 = .ok (.invokestatic 304, 3) := dk_184 1 48 (dk_at dksJ7_copyOf_3_1 1 rfl rfl)
theorem dJ7_copyOf_3_28 : decode cJ7_copyOf_3 28 = .ok (.invokestatic 150, 3) := dk_184 0 150 (dk_at dksJ7_copyOf_3_1 4 rfl rfl)
theorem dJ7_copyOf_3_31 : decode cJ7_copyOf_3 31 = .ok (.aload_n 2, 1) := dk_44 (dk_at dksJ7_copyOf_3_1 7 rfl rfl)
theorem dJ7_copyOf_3_32 : decode cJ7_copyOf_3 32 = .ok (.areturn, 1) := dk_176 (dk_at dksJ7_copyOf_3_1 8 rfl rfl)
def fJ7_copyOf_3 (e : Nat → Nat) (N : Nat) (m : Mm) (v0 : Option Nat) (v1 : Int32) : Rs (Option Nat) := ln_ m v0 202 (fun x1 => if v1 = x1 then (cl_ m v0 (fun x2 m1 => cc_ m1 (some x2) [202] (rt_ (some x2) m1))) else (na_ m 202 v1 (fun x3 m2 => ln_ m2 v0 202 (fun x4 => ab_ m2 v0 0 (some x3) 0 (if (v1 : Int32) < x4 then v1 else x4) (fun m3 => rt_ (some x3) m3)))))
abbrev cJ15_ensureCapacityInternal : ByteArray := prog_26_method_9_code
def yJ15_ensureCapacityInternal : MethodName := ⟨RJ15, "ensureCapacityInternal", "(I)V"⟩
def dkwJ15_ensureCapacityInternal_1 : List UInt8 := [182, 0, 104, 42, 180, 0, 22, 120, 184, 0, 108, 181, 0, 15, 177]
abbrev dktJ15_ensureCapacityInternal_1 : List UInt8 := dkwJ15_ensureCapacityInternal_1 ++ []
def dkwJ15_ensureCapacityInternal_0 : List UInt8 := [42, 180, 0, 15, 190, 42, 180, 0, 22, 122, 61, 27, 28, 100, 158, 0, 24, 42, 42, 180, 0, 15, 42, 27]
abbrev dktJ15_ensureCapacityInternal_0 : List UInt8 := dkwJ15_ensureCapacityInternal_0 ++ dktJ15_ensureCapacityInternal_1
theorem dksJ15_ensureCapacityInternal_0 : cJ15_ensureCapacityInternal.data.toList.drop 0 = dktJ15_ensureCapacityInternal_0 := by decide +kernel
theorem dksJ15_ensureCapacityInternal_1 : cJ15_ensureCapacityInternal.data.toList.drop 24 = dktJ15_ensureCapacityInternal_1 := dk_seg dksJ15_ensureCapacityInternal_0 24 rfl rfl
theorem dJ15_ensureCapacityInternal_0 : decode cJ15_ensureCapacityInternal 0 = .ok (.aload_n 0, 1) := dk_42 (dk_at dksJ15_ensureCapacityInternal_0 0 rfl rfl)
theorem dJ15_ensureCapacityInternal_1 : decode cJ15_ensureCapacityInternal 1 = .ok (.getfield 15, 3) := dk_180 0 15 (dk_at dksJ15_ensureCapacityInternal_0 1 rfl rfl)
theorem dJ15_ensureCapacityInternal_4 : decode cJ15_ensureCapacityInternal 4 = .ok (.arraylength, 1) := dk_190 (dk_at dksJ15_ensureCapacityInternal_0 4 rfl rfl)
theorem dJ15_ensureCapacityInternal_5 : decode cJ15_ensureCapacityInternal 5 = .ok (.aload_n 0, 1) := dk_42 (dk_at dksJ15_ensureCapacityInternal_0 5 rfl rfl)
theorem dJ15_ensureCapacityInternal_6 : decode cJ15_ensureCapacityInternal 6 = .ok (.getfield 22, 3) := dk_180 0 22 (dk_at dksJ15_ensureCapacityInternal_0 6 rfl rfl)
theorem dJ15_ensureCapacityInternal_9 : decode cJ15_ensureCapacityInternal 9 = .ok (.ishr, 1) := dk_122 (dk_at dksJ15_ensureCapacityInternal_0 9 rfl rfl)
theorem dJ15_ensureCapacityInternal_10 : decode cJ15_ensureCapacityInternal 10 = .ok (.istore_n 2, 1) := dk_61 (dk_at dksJ15_ensureCapacityInternal_0 10 rfl rfl)
theorem dJ15_ensureCapacityInternal_11 : decode cJ15_ensureCapacityInternal 11 = .ok (.iload_n 1, 1) := dk_27 (dk_at dksJ15_ensureCapacityInternal_0 11 rfl rfl)
theorem dJ15_ensureCapacityInternal_12 : decode cJ15_ensureCapacityInternal 12 = .ok (.iload_n 2, 1) := dk_28 (dk_at dksJ15_ensureCapacityInternal_0 12 rfl rfl)
theorem dJ15_ensureCapacityInternal_13 : decode cJ15_ensureCapacityInternal 13 = .ok (.isub, 1) := dk_100 (dk_at dksJ15_ensureCapacityInternal_0 13 rfl rfl)
theorem dJ15_ensureCapacityInternal_14 : decode cJ15_ensureCapacityInternal 14 = .ok (.ifCond .le 24, 3) := dk_158 0 24 (dk_at dksJ15_ensureCapacityInternal_0 14 rfl rfl)
theorem dJ15_ensureCapacityInternal_17 : decode cJ15_ensureCapacityInternal 17 = .ok (.aload_n 0, 1) := dk_42 (dk_at dksJ15_ensureCapacityInternal_0 17 rfl rfl)
theorem dJ15_ensureCapacityInternal_18 : decode cJ15_ensureCapacityInternal 18 = .ok (.aload_n 0, 1) := dk_42 (dk_at dksJ15_ensureCapacityInternal_0 18 rfl rfl)
theorem dJ15_ensureCapacityInternal_19 : decode cJ15_ensureCapacityInternal 19 = .ok (.getfield 15, 3) := dk_180 0 15 (dk_at dksJ15_ensureCapacityInternal_0 19 rfl rfl)
theorem dJ15_ensureCapacityInternal_22 : decode cJ15_ensureCapacityInternal 22 = .ok (.aload_n 0, 1) := dk_42 (dk_at dksJ15_ensureCapacityInternal_0 22 rfl rfl)
theorem dJ15_ensureCapacityInternal_23 : decode cJ15_ensureCapacityInternal 23 = .ok (.iload_n 1, 1) := dk_27 (dk_at dksJ15_ensureCapacityInternal_0 23 rfl rfl)
theorem dJ15_ensureCapacityInternal_24 : decode cJ15_ensureCapacityInternal 24 = .ok (.invokevirtual 104, 3) := dk_182 0 104 (dk_at dksJ15_ensureCapacityInternal_1 0 rfl rfl)
theorem dJ15_ensureCapacityInternal_27 : decode cJ15_ensureCapacityInternal 27 = .ok (.aload_n 0, 1) := dk_42 (dk_at dksJ15_ensureCapacityInternal_1 3 rfl rfl)
theorem dJ15_ensureCapacityInternal_28 : decode cJ15_ensureCapacityInternal 28 = .ok (.getfield 22, 3) := dk_180 0 22 (dk_at dksJ15_ensureCapacityInternal_1 4 rfl rfl)
theorem dJ15_ensureCapacityInternal_31 : decode cJ15_ensureCapacityInternal 31 = .ok (.ishl, 1) := dk_120 (dk_at dksJ15_ensureCapacityInternal_1 7 rfl rfl)
theorem dJ15_ensureCapacityInternal_32 : decode cJ15_ensureCapacityInternal 32 = .ok (.invokestatic 108, 3) := dk_184 0 108 (dk_at dksJ15_ensureCapacityInternal_1 8 rfl rfl)
theorem dJ15_ensureCapacityInternal_35 : decode cJ15_ensureCapacityInternal 35 = .ok (.putfield 15, 3) := dk_181 0 15 (dk_at dksJ15_ensureCapacityInternal_1 11 rfl rfl)
theorem dJ15_ensureCapacityInternal_38 : decode cJ15_ensureCapacityInternal 38 = .ok (.return_, 1) := dk_177 (dk_at dksJ15_ensureCapacityInternal_1 14 rfl rfl)
def fJ15_ensureCapacityInternal_t30_b38 (e : Nat → Nat) (N : Nat) (m : Mm) : Rs (Unit) := rt_ () m
def fJ15_ensureCapacityInternal_t30 (e : Nat → Nat) (N : Nat) (m : Mm) (v0 : Option Nat) (v1 : Int32) : Rs (Unit) := gr_ m v0 30 0 (fun x1 => ln_ m x1 202 (fun x2 => gi_ m v0 30 1 (fun x3 => if 0 < (v1 - (x2 >>> (x3 &&& 31))) then (gr_ m v0 30 0 (fun x4 => ck_ m v0 30 (bd_ (fJ15_newCapacity_t30 e N m v0 v1) (fun x5 m1 => gi_ m1 v0 30 1 (fun x6 => bd_ (fJ7_copyOf_3 e N m1 x4 (x5 <<< (x6 &&& 31))) (fun x7 m2 => pr_ m2 v0 30 0 x7 (fun m3 => fJ15_ensureCapacityInternal_t30_b38 e N m3))))))) else (fJ15_ensureCapacityInternal_t30_b38 e N m))))
abbrev cJ15_inflateIfNeededFor : ByteArray := prog_26_method_71_code
def yJ15_inflateIfNeededFor : MethodName := ⟨RJ15, "inflateIfNeededFor", "(Ljava/lang/String;)V"⟩
def dkwJ15_inflateIfNeededFor_0 : List UInt8 := [178, 0, 18, 153, 0, 18, 42, 180, 0, 22, 43, 182, 0, 40, 159, 0, 7, 42, 182, 0, 195, 177]
abbrev dktJ15_inflateIfNeededFor_0 : List UInt8 := dkwJ15_inflateIfNeededFor_0 ++ []
theorem dksJ15_inflateIfNeededFor_0 : cJ15_inflateIfNeededFor.data.toList.drop 0 = dktJ15_inflateIfNeededFor_0 := by decide +kernel
theorem dJ15_inflateIfNeededFor_0 : decode cJ15_inflateIfNeededFor 0 = .ok (.getstatic 18, 3) := dk_178 0 18 (dk_at dksJ15_inflateIfNeededFor_0 0 rfl rfl)
theorem dJ15_inflateIfNeededFor_3 : decode cJ15_inflateIfNeededFor 3 = .ok (.ifCond .eq 18, 3) := dk_153 0 18 (dk_at dksJ15_inflateIfNeededFor_0 3 rfl rfl)
theorem dJ15_inflateIfNeededFor_6 : decode cJ15_inflateIfNeededFor 6 = .ok (.aload_n 0, 1) := dk_42 (dk_at dksJ15_inflateIfNeededFor_0 6 rfl rfl)
theorem dJ15_inflateIfNeededFor_7 : decode cJ15_inflateIfNeededFor 7 = .ok (.getfield 22, 3) := dk_180 0 22 (dk_at dksJ15_inflateIfNeededFor_0 7 rfl rfl)
theorem dJ15_inflateIfNeededFor_10 : decode cJ15_inflateIfNeededFor 10 = .ok (.aload_n 1, 1) := dk_43 (dk_at dksJ15_inflateIfNeededFor_0 10 rfl rfl)
theorem dJ15_inflateIfNeededFor_11 : decode cJ15_inflateIfNeededFor 11 = .ok (.invokevirtual 40, 3) := dk_182 0 40 (dk_at dksJ15_inflateIfNeededFor_0 11 rfl rfl)
theorem dJ15_inflateIfNeededFor_14 : decode cJ15_inflateIfNeededFor 14 = .ok (.if_icmp .eq 7, 3) := dk_159 0 7 (dk_at dksJ15_inflateIfNeededFor_0 14 rfl rfl)
theorem dJ15_inflateIfNeededFor_17 : decode cJ15_inflateIfNeededFor 17 = .ok (.aload_n 0, 1) := dk_42 (dk_at dksJ15_inflateIfNeededFor_0 17 rfl rfl)
theorem dJ15_inflateIfNeededFor_18 : decode cJ15_inflateIfNeededFor 18 = .ok (.invokevirtual 195, 3) := dk_182 0 195 (dk_at dksJ15_inflateIfNeededFor_0 18 rfl rfl)
theorem dJ15_inflateIfNeededFor_21 : decode cJ15_inflateIfNeededFor 21 = .ok (.return_, 1) := dk_177 (dk_at dksJ15_inflateIfNeededFor_0 21 rfl rfl)
def fJ15_inflateIfNeededFor_t30_b21 (e : Nat → Nat) (N : Nat) (m : Mm) : Rs (Unit) := rt_ () m
def fJ15_inflateIfNeededFor_t30 (e : Nat → Nat) (N : Nat) (m : Mm) (v0 : Option Nat) (v1 : Option Nat) : Rs (Unit) := if (1 : Int32) = 0 then (fJ15_inflateIfNeededFor_t30_b21 e N m) else (gi_ m v0 30 1 (fun x1 => ck_ m v1 29 (bd_ (fJ14_coder e N m v1) (fun x2 m1 => if x1 = x2 then (fJ15_inflateIfNeededFor_t30_b21 e N m1) else (none)))))
abbrev cJ14_getBytes : ByteArray := prog_45_method_147_code
def yJ14_getBytes : MethodName := ⟨RJ14, "getBytes", "([BIB)V"⟩
def dkwJ14_getBytes_1 : List UInt8 := [184, 0, 212, 167, 0, 18, 42, 180, 0, 9, 3, 43, 28, 42, 180, 0, 9, 190, 184, 0, 106, 177]
abbrev dktJ14_getBytes_1 : List UInt8 := dkwJ14_getBytes_1 ++ []
def dkwJ14_getBytes_0 : List UInt8 := [42, 182, 1, 79, 29, 160, 0, 23, 42, 180, 0, 9, 3, 43, 28, 29, 120, 42, 180, 0, 9, 190]
abbrev dktJ14_getBytes_0 : List UInt8 := dkwJ14_getBytes_0 ++ dktJ14_getBytes_1
theorem dksJ14_getBytes_0 : cJ14_getBytes.data.toList.drop 0 = dktJ14_getBytes_0 := by decide +kernel
theorem dksJ14_getBytes_1 : cJ14_getBytes.data.toList.drop 22 = dktJ14_getBytes_1 := dk_seg dksJ14_getBytes_0 22 rfl rfl
theorem dJ14_getBytes_0 : decode cJ14_getBytes 0 = .ok (.aload_n 0, 1) := dk_42 (dk_at dksJ14_getBytes_0 0 rfl rfl)
theorem dJ14_getBytes_1 : decode cJ14_getBytes 1 = .ok (.invokevirtual 335, 3) := dk_182 1 79 (dk_at dksJ14_getBytes_0 1 rfl rfl)
theorem dJ14_getBytes_4 : decode cJ14_getBytes 4 = .ok (.iload_n 3, 1) := dk_29 (dk_at dksJ14_getBytes_0 4 rfl rfl)
theorem dJ14_getBytes_5 : decode cJ14_getBytes 5 = .ok (.if_icmp .ne 23, 3) := dk_160 0 23 (dk_at dksJ14_getBytes_0 5 rfl rfl)
theorem dJ14_getBytes_8 : decode cJ14_getBytes 8 = .ok (.aload_n 0, 1) := dk_42 (dk_at dksJ14_getBytes_0 8 rfl rfl)
theorem dJ14_getBytes_9 : decode cJ14_getBytes 9 = .ok (.getfield 9, 3) := dk_180 0 9 (dk_at dksJ14_getBytes_0 9 rfl rfl)
theorem dJ14_getBytes_12 : decode cJ14_getBytes 12 = .ok (.iconst 0, 1) := dk_3 (dk_at dksJ14_getBytes_0 12 rfl rfl)
theorem dJ14_getBytes_13 : decode cJ14_getBytes 13 = .ok (.aload_n 1, 1) := dk_43 (dk_at dksJ14_getBytes_0 13 rfl rfl)
theorem dJ14_getBytes_14 : decode cJ14_getBytes 14 = .ok (.iload_n 2, 1) := dk_28 (dk_at dksJ14_getBytes_0 14 rfl rfl)
theorem dJ14_getBytes_15 : decode cJ14_getBytes 15 = .ok (.iload_n 3, 1) := dk_29 (dk_at dksJ14_getBytes_0 15 rfl rfl)
theorem dJ14_getBytes_16 : decode cJ14_getBytes 16 = .ok (.ishl, 1) := dk_120 (dk_at dksJ14_getBytes_0 16 rfl rfl)
theorem dJ14_getBytes_17 : decode cJ14_getBytes 17 = .ok (.aload_n 0, 1) := dk_42 (dk_at dksJ14_getBytes_0 17 rfl rfl)
theorem dJ14_getBytes_18 : decode cJ14_getBytes 18 = .ok (.getfield 9, 3) := dk_180 0 9 (dk_at dksJ14_getBytes_0 18 rfl rfl)
theorem dJ14_getBytes_21 : decode cJ14_getBytes 21 = .ok (.arraylength, 1) := dk_190 (dk_at dksJ14_getBytes_0 21 rfl rfl)
theorem dJ14_getBytes_22 : decode cJ14_getBytes 22 = .ok (.invokestatic 212, 3) := dk_184 0 212 (dk_at dksJ14_getBytes_1 0 rfl rfl)
theorem dJ14_getBytes_25 : decode cJ14_getBytes 25 = .ok (.goto 18, 3) := dk_167 0 18 (dk_at dksJ14_getBytes_1 3 rfl rfl)
theorem dJ14_getBytes_28 : decode cJ14_getBytes 28 = .ok (.aload_n 0, 1) := dk_42 (dk_at dksJ14_getBytes_1 6 rfl rfl)
theorem dJ14_getBytes_29 : decode cJ14_getBytes 29 = .ok (.getfield 9, 3) := dk_180 0 9 (dk_at dksJ14_getBytes_1 7 rfl rfl)
theorem dJ14_getBytes_32 : decode cJ14_getBytes 32 = .ok (.iconst 0, 1) := dk_3 (dk_at dksJ14_getBytes_1 10 rfl rfl)
theorem dJ14_getBytes_33 : decode cJ14_getBytes 33 = .ok (.aload_n 1, 1) := dk_43 (dk_at dksJ14_getBytes_1 11 rfl rfl)
theorem dJ14_getBytes_34 : decode cJ14_getBytes 34 = .ok (.iload_n 2, 1) := dk_28 (dk_at dksJ14_getBytes_1 12 rfl rfl)
theorem dJ14_getBytes_35 : decode cJ14_getBytes 35 = .ok (.aload_n 0, 1) := dk_42 (dk_at dksJ14_getBytes_1 13 rfl rfl)
theorem dJ14_getBytes_36 : decode cJ14_getBytes 36 = .ok (.getfield 9, 3) := dk_180 0 9 (dk_at dksJ14_getBytes_1 14 rfl rfl)
theorem dJ14_getBytes_39 : decode cJ14_getBytes 39 = .ok (.arraylength, 1) := dk_190 (dk_at dksJ14_getBytes_1 17 rfl rfl)
theorem dJ14_getBytes_40 : decode cJ14_getBytes 40 = .ok (.invokestatic 106, 3) := dk_184 0 106 (dk_at dksJ14_getBytes_1 18 rfl rfl)
theorem dJ14_getBytes_43 : decode cJ14_getBytes 43 = .ok (.return_, 1) := dk_177 (dk_at dksJ14_getBytes_1 21 rfl rfl)
def fJ14_getBytes (e : Nat → Nat) (N : Nat) (m : Mm) (v0 : Option Nat) (v1 : Option Nat) (v2 : Int32) (v3 : Int32) : Rs (Unit) := ck_ m v0 29 (bd_ (fJ14_coder e N m v0) (fun x1 m1 => if x1 = v3 then (gr_ m1 v0 29 0 (fun x2 => gr_ m1 v0 29 0 (fun x3 => ln_ m1 x3 202 (fun x4 => ab_ m1 x2 0 v1 (v2 <<< (v3 &&& 31)) x4 (fun m2 => rt_ () m2))))) else (gr_ m1 v0 29 0 (fun x5 => gr_ m1 v0 29 0 (fun x6 => ln_ m1 x6 202 (fun x7 => none))))))
abbrev cJ15_putStringAt : ByteArray := prog_26_method_73_code
def yJ15_putStringAt : MethodName := ⟨RJ15, "putStringAt", "(ILjava/lang/String;)V"⟩
def dkwJ15_putStringAt_0 : List UInt8 := [42, 44, 182, 1, 141, 44, 42, 180, 0, 15, 27, 42, 180, 0, 22, 182, 1, 143, 177]
abbrev dktJ15_putStringAt_0 : List UInt8 := dkwJ15_putStringAt_0 ++ []
theorem dksJ15_putStringAt_0 : cJ15_putStringAt.data.toList.drop 0 = dktJ15_putStringAt_0 := by decide +kernel
theorem dJ15_putStringAt_0 : decode cJ15_putStringAt 0 = .ok (.aload_n 0, 1) := dk_42 (dk_at dksJ15_putStringAt_0 0 rfl rfl)
theorem dJ15_putStringAt_1 : decode cJ15_putStringAt 1 = .ok (.aload_n 2, 1) := dk_44 (dk_at dksJ15_putStringAt_0 1 rfl rfl)
theorem dJ15_putStringAt_2 : decode cJ15_putStringAt 2 = .ok (.invokevirtual 397, 3) := dk_182 1 141 (dk_at dksJ15_putStringAt_0 2 rfl rfl)
theorem dJ15_putStringAt_5 : decode cJ15_putStringAt 5 = .ok (.aload_n 2, 1) := dk_44 (dk_at dksJ15_putStringAt_0 5 rfl rfl)
theorem dJ15_putStringAt_6 : decode cJ15_putStringAt 6 = .ok (.aload_n 0, 1) := dk_42 (dk_at dksJ15_putStringAt_0 6 rfl rfl)
theorem dJ15_putStringAt_7 : decode cJ15_putStringAt 7 = .ok (.getfield 15, 3) := dk_180 0 15 (dk_at dksJ15_putStringAt_0 7 rfl rfl)
theorem dJ15_putStringAt_10 : decode cJ15_putStringAt 10 = .ok (.iload_n 1, 1) := dk_27 (dk_at dksJ15_putStringAt_0 10 rfl rfl)
theorem dJ15_putStringAt_11 : decode cJ15_putStringAt 11 = .ok (.aload_n 0, 1) := dk_42 (dk_at dksJ15_putStringAt_0 11 rfl rfl)
theorem dJ15_putStringAt_12 : decode cJ15_putStringAt 12 = .ok (.getfield 22, 3) := dk_180 0 22 (dk_at dksJ15_putStringAt_0 12 rfl rfl)
theorem dJ15_putStringAt_15 : decode cJ15_putStringAt 15 = .ok (.invokevirtual 399, 3) := dk_182 1 143 (dk_at dksJ15_putStringAt_0 15 rfl rfl)
theorem dJ15_putStringAt_18 : decode cJ15_putStringAt 18 = .ok (.return_, 1) := dk_177 (dk_at dksJ15_putStringAt_0 18 rfl rfl)
def fJ15_putStringAt_t30 (e : Nat → Nat) (N : Nat) (m : Mm) (v0 : Option Nat) (v1 : Int32) (v2 : Option Nat) : Rs (Unit) := ck_ m v0 30 (bd_ (fJ15_inflateIfNeededFor_t30 e N m v0 v2) (fun _ m1 => gr_ m1 v0 30 0 (fun x1 => gi_ m1 v0 30 1 (fun x2 => ck_ m1 v2 29 (bd_ (fJ14_getBytes e N m1 v2 x1 v1 x2) (fun _ m2 => rt_ () m2))))))
abbrev cJ15_append : ByteArray := prog_26_method_22_code
def yJ15_append : MethodName := ⟨RJ15, "append", "(Ljava/lang/String;)Ljava/lang/AbstractStringBuilder;"⟩
def dkwJ15_append_1 : List UInt8 := [42, 42, 180, 0, 79, 43, 182, 0, 208, 42, 89, 180, 0, 79, 28, 96, 181, 0, 79, 42, 176]
abbrev dktJ15_append_1 : List UInt8 := dkwJ15_append_1 ++ []
def dkwJ15_append_0 : List UInt8 := [43, 199, 0, 8, 42, 182, 0, 204, 176, 43, 182, 0, 32, 61, 42, 42, 180, 0, 79, 28, 96, 182, 0, 100]
abbrev dktJ15_append_0 : List UInt8 := dkwJ15_append_0 ++ dktJ15_append_1
theorem dksJ15_append_0 : cJ15_append.data.toList.drop 0 = dktJ15_append_0 := by decide +kernel
theorem dksJ15_append_1 : cJ15_append.data.toList.drop 24 = dktJ15_append_1 := dk_seg dksJ15_append_0 24 rfl rfl
theorem dJ15_append_0 : decode cJ15_append 0 = .ok (.aload_n 1, 1) := dk_43 (dk_at dksJ15_append_0 0 rfl rfl)
theorem dJ15_append_1 : decode cJ15_append 1 = .ok (.ifnonnull 8, 3) := dk_199 0 8 (dk_at dksJ15_append_0 1 rfl rfl)
theorem dJ15_append_4 : decode cJ15_append 4 = .ok (.aload_n 0, 1) := dk_42 (dk_at dksJ15_append_0 4 rfl rfl)
theorem dJ15_append_5 : decode cJ15_append 5 = .ok (.invokevirtual 204, 3) := dk_182 0 204 (dk_at dksJ15_append_0 5 rfl rfl)
theorem dJ15_append_8 : decode cJ15_append 8 = .ok (.areturn, 1) := dk_176 (dk_at dksJ15_append_0 8 rfl rfl)
theorem dJ15_append_9 : decode cJ15_append 9 = .ok (.aload_n 1, 1) := dk_43 (dk_at dksJ15_append_0 9 rfl rfl)
theorem dJ15_append_10 : decode cJ15_append 10 = .ok (.invokevirtual 32, 3) := dk_182 0 32 (dk_at dksJ15_append_0 10 rfl rfl)
theorem dJ15_append_13 : decode cJ15_append 13 = .ok (.istore_n 2, 1) := dk_61 (dk_at dksJ15_append_0 13 rfl rfl)
theorem dJ15_append_14 : decode cJ15_append 14 = .ok (.aload_n 0, 1) := dk_42 (dk_at dksJ15_append_0 14 rfl rfl)
theorem dJ15_append_15 : decode cJ15_append 15 = .ok (.aload_n 0, 1) := dk_42 (dk_at dksJ15_append_0 15 rfl rfl)
theorem dJ15_append_16 : decode cJ15_append 16 = .ok (.getfield 79, 3) := dk_180 0 79 (dk_at dksJ15_append_0 16 rfl rfl)
theorem dJ15_append_19 : decode cJ15_append 19 = .ok (.iload_n 2, 1) := dk_28 (dk_at dksJ15_append_0 19 rfl rfl)
theorem dJ15_append_20 : decode cJ15_append 20 = .ok (.iadd, 1) := dk_96 (dk_at dksJ15_append_0 20 rfl rfl)
theorem dJ15_append_21 : decode cJ15_append 21 = .ok (.invokevirtual 100, 3) := dk_182 0 100 (dk_at dksJ15_append_0 21 rfl rfl)
theorem dJ15_append_24 : decode cJ15_append 24 = .ok (.aload_n 0, 1) := dk_42 (dk_at dksJ15_append_1 0 rfl rfl)
theorem dJ15_append_25 : decode cJ15_append 25 = .ok (.aload_n 0, 1) := dk_42 (dk_at dksJ15_append_1 1 rfl rfl)
theorem dJ15_append_26 : decode cJ15_append 26 = .ok (.getfield 79, 3) := dk_180 0 79 (dk_at dksJ15_append_1 2 rfl rfl)
theorem dJ15_append_29 : decode cJ15_append 29 = .ok (.aload_n 1, 1) := dk_43 (dk_at dksJ15_append_1 5 rfl rfl)
theorem dJ15_append_30 : decode cJ15_append 30 = .ok (.invokevirtual 208, 3) := dk_182 0 208 (dk_at dksJ15_append_1 6 rfl rfl)
theorem dJ15_append_33 : decode cJ15_append 33 = .ok (.aload_n 0, 1) := dk_42 (dk_at dksJ15_append_1 9 rfl rfl)
theorem dJ15_append_34 : decode cJ15_append 34 = .ok (.dup, 1) := dk_89 (dk_at dksJ15_append_1 10 rfl rfl)
theorem dJ15_append_35 : decode cJ15_append 35 = .ok (.getfield 79, 3) := dk_180 0 79 (dk_at dksJ15_append_1 11 rfl rfl)
theorem dJ15_append_38 : decode cJ15_append 38 = .ok (.iload_n 2, 1) := dk_28 (dk_at dksJ15_append_1 14 rfl rfl)
theorem dJ15_append_39 : decode cJ15_append 39 = .ok (.iadd, 1) := dk_96 (dk_at dksJ15_append_1 15 rfl rfl)
theorem dJ15_append_40 : decode cJ15_append 40 = .ok (.putfield 79, 3) := dk_181 0 79 (dk_at dksJ15_append_1 16 rfl rfl)
theorem dJ15_append_43 : decode cJ15_append 43 = .ok (.aload_n 0, 1) := dk_42 (dk_at dksJ15_append_1 19 rfl rfl)
theorem dJ15_append_44 : decode cJ15_append 44 = .ok (.areturn, 1) := dk_176 (dk_at dksJ15_append_1 20 rfl rfl)
def fJ15_append_t30 (e : Nat → Nat) (N : Nat) (m : Mm) (v0 : Option Nat) (v1 : Option Nat) : Rs (Option Nat) := if v1 = none then (none) else (ck_ m v1 29 (bd_ (fJ14_length e N m v1) (fun x1 m1 => gi_ m1 v0 30 3 (fun x2 => ck_ m1 v0 30 (bd_ (fJ15_ensureCapacityInternal_t30 e N m1 v0 (x2 + x1)) (fun _ m2 => gi_ m2 v0 30 3 (fun x3 => ck_ m2 v0 30 (bd_ (fJ15_putStringAt_t30 e N m2 v0 x3 v1) (fun _ m3 => gi_ m3 v0 30 3 (fun x4 => pi_ m3 v0 30 3 (x4 + x1) (fun m4 => rt_ v0 m4)))))))))))
abbrev cJ16_append : ByteArray := prog_46_method_7_code
def yJ16_append : MethodName := ⟨RJ16, "append", "(Ljava/lang/String;)Ljava/lang/StringBuilder;"⟩
def dkwJ16_append_0 : List UInt8 := [42, 43, 183, 0, 29, 87, 42, 176]
abbrev dktJ16_append_0 : List UInt8 := dkwJ16_append_0 ++ []
theorem dksJ16_append_0 : cJ16_append.data.toList.drop 0 = dktJ16_append_0 := by decide +kernel
theorem dJ16_append_0 : decode cJ16_append 0 = .ok (.aload_n 0, 1) := dk_42 (dk_at dksJ16_append_0 0 rfl rfl)
theorem dJ16_append_1 : decode cJ16_append 1 = .ok (.aload_n 1, 1) := dk_43 (dk_at dksJ16_append_0 1 rfl rfl)
theorem dJ16_append_2 : decode cJ16_append 2 = .ok (.invokespecial 29, 3) := dk_183 0 29 (dk_at dksJ16_append_0 2 rfl rfl)
theorem dJ16_append_5 : decode cJ16_append 5 = .ok (.pop, 1) := dk_87 (dk_at dksJ16_append_0 5 rfl rfl)
theorem dJ16_append_6 : decode cJ16_append 6 = .ok (.aload_n 0, 1) := dk_42 (dk_at dksJ16_append_0 6 rfl rfl)
theorem dJ16_append_7 : decode cJ16_append 7 = .ok (.areturn, 1) := dk_176 (dk_at dksJ16_append_0 7 rfl rfl)
def fJ16_append (e : Nat → Nat) (N : Nat) (m : Mm) (v0 : Option Nat) (v1 : Option Nat) : Rs (Option Nat) := ck_ m v0 30 (bd_ (fJ15_append_t30 e N m v0 v1) (fun x1 m1 => rt_ v0 m1))
abbrev cJ21_stringSize : ByteArray := prog_37_method_13_code
def yJ21_stringSize : MethodName := ⟨RJ21, "stringSize", "(I)I"⟩
def dkwJ21_stringSize_1 : List UInt8 := [164, 0, 7, 29, 27, 96, 172, 16, 10, 28, 104, 61, 132, 3, 1, 167, 255, 233, 16, 10, 27, 96, 172]
abbrev dktJ21_stringSize_1 : List UInt8 := dkwJ21_stringSize_1 ++ []
def dkwJ21_stringSize_0 : List UInt8 := [4, 60, 26, 155, 0, 8, 3, 60, 26, 116, 59, 16, 246, 61, 4, 62, 29, 16, 10, 162, 0, 23, 26, 28]
abbrev dktJ21_stringSize_0 : List UInt8 := dkwJ21_stringSize_0 ++ dktJ21_stringSize_1
theorem dksJ21_stringSize_0 : cJ21_stringSize.data.toList.drop 0 = dktJ21_stringSize_0 := by decide +kernel
theorem dksJ21_stringSize_1 : cJ21_stringSize.data.toList.drop 24 = dktJ21_stringSize_1 := dk_seg dksJ21_stringSize_0 24 rfl rfl
theorem dJ21_stringSize_0 : decode cJ21_stringSize 0 = .ok (.iconst 1, 1) := dk_4 (dk_at dksJ21_stringSize_0 0 rfl rfl)
theorem dJ21_stringSize_1 : decode cJ21_stringSize 1 = .ok (.istore_n 1, 1) := dk_60 (dk_at dksJ21_stringSize_0 1 rfl rfl)
theorem dJ21_stringSize_2 : decode cJ21_stringSize 2 = .ok (.iload_n 0, 1) := dk_26 (dk_at dksJ21_stringSize_0 2 rfl rfl)
theorem dJ21_stringSize_3 : decode cJ21_stringSize 3 = .ok (.ifCond .lt 8, 3) := dk_155 0 8 (dk_at dksJ21_stringSize_0 3 rfl rfl)
theorem dJ21_stringSize_6 : decode cJ21_stringSize 6 = .ok (.iconst 0, 1) := dk_3 (dk_at dksJ21_stringSize_0 6 rfl rfl)
theorem dJ21_stringSize_7 : decode cJ21_stringSize 7 = .ok (.istore_n 1, 1) := dk_60 (dk_at dksJ21_stringSize_0 7 rfl rfl)
theorem dJ21_stringSize_8 : decode cJ21_stringSize 8 = .ok (.iload_n 0, 1) := dk_26 (dk_at dksJ21_stringSize_0 8 rfl rfl)
theorem dJ21_stringSize_9 : decode cJ21_stringSize 9 = .ok (.ineg, 1) := dk_116 (dk_at dksJ21_stringSize_0 9 rfl rfl)
theorem dJ21_stringSize_10 : decode cJ21_stringSize 10 = .ok (.istore_n 0, 1) := dk_59 (dk_at dksJ21_stringSize_0 10 rfl rfl)
theorem dJ21_stringSize_11 : decode cJ21_stringSize 11 = .ok (.bipush (-10), 2) := dk_16 246 (dk_at dksJ21_stringSize_0 11 rfl rfl)
theorem dJ21_stringSize_13 : decode cJ21_stringSize 13 = .ok (.istore_n 2, 1) := dk_61 (dk_at dksJ21_stringSize_0 13 rfl rfl)
theorem dJ21_stringSize_14 : decode cJ21_stringSize 14 = .ok (.iconst 1, 1) := dk_4 (dk_at dksJ21_stringSize_0 14 rfl rfl)
theorem dJ21_stringSize_15 : decode cJ21_stringSize 15 = .ok (.istore_n 3, 1) := dk_62 (dk_at dksJ21_stringSize_0 15 rfl rfl)
theorem dJ21_stringSize_16 : decode cJ21_stringSize 16 = .ok (.iload_n 3, 1) := dk_29 (dk_at dksJ21_stringSize_0 16 rfl rfl)
theorem dJ21_stringSize_17 : decode cJ21_stringSize 17 = .ok (.bipush 10, 2) := dk_16 10 (dk_at dksJ21_stringSize_0 17 rfl rfl)
theorem dJ21_stringSize_19 : decode cJ21_stringSize 19 = .ok (.if_icmp .ge 23, 3) := dk_162 0 23 (dk_at dksJ21_stringSize_0 19 rfl rfl)
theorem dJ21_stringSize_22 : decode cJ21_stringSize 22 = .ok (.iload_n 0, 1) := dk_26 (dk_at dksJ21_stringSize_0 22 rfl rfl)
theorem dJ21_stringSize_23 : decode cJ21_stringSize 23 = .ok (.iload_n 2, 1) := dk_28 (dk_at dksJ21_stringSize_0 23 rfl rfl)
theorem dJ21_stringSize_24 : decode cJ21_stringSize 24 = .ok (.if_icmp .le 7, 3) := dk_164 0 7 (dk_at dksJ21_stringSize_1 0 rfl rfl)
theorem dJ21_stringSize_27 : decode cJ21_stringSize 27 = .ok (.iload_n 3, 1) := dk_29 (dk_at dksJ21_stringSize_1 3 rfl rfl)
theorem dJ21_stringSize_28 : decode cJ21_stringSize 28 = .ok (.iload_n 1, 1) := dk_27 (dk_at dksJ21_stringSize_1 4 rfl rfl)
theorem dJ21_stringSize_29 : decode cJ21_stringSize 29 = .ok (.iadd, 1) := dk_96 (dk_at dksJ21_stringSize_1 5 rfl rfl)
theorem dJ21_stringSize_30 : decode cJ21_stringSize 30 = .ok (.ireturn, 1) := dk_172 (dk_at dksJ21_stringSize_1 6 rfl rfl)
theorem dJ21_stringSize_31 : decode cJ21_stringSize 31 = .ok (.bipush 10, 2) := dk_16 10 (dk_at dksJ21_stringSize_1 7 rfl rfl)
theorem dJ21_stringSize_33 : decode cJ21_stringSize 33 = .ok (.iload_n 2, 1) := dk_28 (dk_at dksJ21_stringSize_1 9 rfl rfl)
theorem dJ21_stringSize_34 : decode cJ21_stringSize 34 = .ok (.imul, 1) := dk_104 (dk_at dksJ21_stringSize_1 10 rfl rfl)
theorem dJ21_stringSize_35 : decode cJ21_stringSize 35 = .ok (.istore_n 2, 1) := dk_61 (dk_at dksJ21_stringSize_1 11 rfl rfl)
theorem dJ21_stringSize_36 : decode cJ21_stringSize 36 = .ok (.iinc 3 1, 3) := dk_132 3 1 (dk_at dksJ21_stringSize_1 12 rfl rfl)
theorem dJ21_stringSize_39 : decode cJ21_stringSize 39 = .ok (.goto (-23), 3) := dk_167 255 233 (dk_at dksJ21_stringSize_1 15 rfl rfl)
theorem dJ21_stringSize_42 : decode cJ21_stringSize 42 = .ok (.bipush 10, 2) := dk_16 10 (dk_at dksJ21_stringSize_1 18 rfl rfl)
theorem dJ21_stringSize_44 : decode cJ21_stringSize 44 = .ok (.iload_n 1, 1) := dk_27 (dk_at dksJ21_stringSize_1 20 rfl rfl)
theorem dJ21_stringSize_45 : decode cJ21_stringSize 45 = .ok (.iadd, 1) := dk_96 (dk_at dksJ21_stringSize_1 21 rfl rfl)
theorem dJ21_stringSize_46 : decode cJ21_stringSize 46 = .ok (.ireturn, 1) := dk_172 (dk_at dksJ21_stringSize_1 22 rfl rfl)
def fJ21_stringSize_b16 (e : Nat → Nat) (N : Nat) : Nat → Mm → Int32 → Int32 → Int32 → Int32 → Rs (Int32)
  | 0, _, _, _, _, _ => none
  | F + 1, m, v0, v1, v2, v3 => if v3 < 10 then (if v2 < v0 then (rt_ (v3 + v1) m) else (fJ21_stringSize_b16 e N F m v0 v1 (10 * v2) (v3 + 1))) else (rt_ (10 + v1) m)
def fJ21_stringSize_b11 (e : Nat → Nat) (N : Nat) (m : Mm) (v0 : Int32) (v1 : Int32) : Rs (Int32) := fJ21_stringSize_b16 e N N m v0 v1 (-10) 1
def fJ21_stringSize (e : Nat → Nat) (N : Nat) (m : Mm) (v0 : Int32) : Rs (Int32) := if v0 < 0 then (fJ21_stringSize_b11 e N m v0 1) else (fJ21_stringSize_b11 e N m (-v0) 0)
abbrev cJ15_isLatin1 : ByteArray := prog_26_method_68_code
def yJ15_isLatin1 : MethodName := ⟨RJ15, "isLatin1", "()Z"⟩
def dkwJ15_isLatin1_0 : List UInt8 := [178, 0, 18, 153, 0, 14, 42, 180, 0, 22, 154, 0, 7, 4, 167, 0, 4, 3, 172]
abbrev dktJ15_isLatin1_0 : List UInt8 := dkwJ15_isLatin1_0 ++ []
theorem dksJ15_isLatin1_0 : cJ15_isLatin1.data.toList.drop 0 = dktJ15_isLatin1_0 := by decide +kernel
theorem dJ15_isLatin1_0 : decode cJ15_isLatin1 0 = .ok (.getstatic 18, 3) := dk_178 0 18 (dk_at dksJ15_isLatin1_0 0 rfl rfl)
theorem dJ15_isLatin1_3 : decode cJ15_isLatin1 3 = .ok (.ifCond .eq 14, 3) := dk_153 0 14 (dk_at dksJ15_isLatin1_0 3 rfl rfl)
theorem dJ15_isLatin1_6 : decode cJ15_isLatin1 6 = .ok (.aload_n 0, 1) := dk_42 (dk_at dksJ15_isLatin1_0 6 rfl rfl)
theorem dJ15_isLatin1_7 : decode cJ15_isLatin1 7 = .ok (.getfield 22, 3) := dk_180 0 22 (dk_at dksJ15_isLatin1_0 7 rfl rfl)
theorem dJ15_isLatin1_10 : decode cJ15_isLatin1 10 = .ok (.ifCond .ne 7, 3) := dk_154 0 7 (dk_at dksJ15_isLatin1_0 10 rfl rfl)
theorem dJ15_isLatin1_13 : decode cJ15_isLatin1 13 = .ok (.iconst 1, 1) := dk_4 (dk_at dksJ15_isLatin1_0 13 rfl rfl)
theorem dJ15_isLatin1_14 : decode cJ15_isLatin1 14 = .ok (.goto 4, 3) := dk_167 0 4 (dk_at dksJ15_isLatin1_0 14 rfl rfl)
theorem dJ15_isLatin1_17 : decode cJ15_isLatin1 17 = .ok (.iconst 0, 1) := dk_3 (dk_at dksJ15_isLatin1_0 17 rfl rfl)
theorem dJ15_isLatin1_18 : decode cJ15_isLatin1 18 = .ok (.ireturn, 1) := dk_172 (dk_at dksJ15_isLatin1_0 18 rfl rfl)
def fJ15_isLatin1_t30_b18 (e : Nat → Nat) (N : Nat) (m : Mm) (s0 : Int32) : Rs (Int32) := rz_ s0 s0 m
def fJ15_isLatin1_t30_b17 (e : Nat → Nat) (N : Nat) (m : Mm) : Rs (Int32) := fJ15_isLatin1_t30_b18 e N m 0
def fJ15_isLatin1_t30 (e : Nat → Nat) (N : Nat) (m : Mm) (v0 : Option Nat) : Rs (Int32) := if (1 : Int32) = 0 then (fJ15_isLatin1_t30_b17 e N m) else (gi_ m v0 30 1 (fun x1 => if x1 = 0 then (fJ15_isLatin1_t30_b18 e N m 1) else (fJ15_isLatin1_t30_b17 e N m)))
abbrev cJ21_getChars : ByteArray := prog_37_method_12_code
def yJ21_getChars : MethodName := ⟨RJ21, "getChars", "(II[B)I"⟩
def dkwJ21_getChars_5 : List UInt8 := [16, 45, 84, 21, 5, 172]
abbrev dktJ21_getChars_5 : List UInt8 := dkwJ21_getChars_5 ++ []
def dkwJ21_getChars_4 : List UInt8 := [132, 5, 255, 21, 5, 178, 0, 87, 26, 116, 51, 84, 21, 6, 153, 0, 12, 44, 132, 5, 255, 21, 5]
abbrev dktJ21_getChars_4 : List UInt8 := dkwJ21_getChars_4 ++ dktJ21_getChars_5
def dkwJ21_getChars_3 : List UInt8 := [167, 255, 209, 44, 132, 5, 255, 21, 5, 178, 0, 83, 26, 116, 51, 84, 26, 16, 247, 162, 0, 16, 44]
abbrev dktJ21_getChars_3 : List UInt8 := dkwJ21_getChars_3 ++ dktJ21_getChars_4
def dkwJ21_getChars_2 : List UInt8 := [21, 5, 178, 0, 83, 21, 4, 51, 84, 44, 132, 5, 255, 21, 5, 178, 0, 87, 21, 4, 51, 84]
abbrev dktJ21_getChars_2 : List UInt8 := dkwJ21_getChars_2 ++ dktJ21_getChars_3
def dkwJ21_getChars_1 : List UInt8 := [16, 156, 163, 0, 47, 26, 16, 100, 108, 62, 29, 16, 100, 104, 26, 100, 54, 4, 29, 59, 44, 132, 5, 255]
abbrev dktJ21_getChars_1 : List UInt8 := dkwJ21_getChars_1 ++ dktJ21_getChars_2
def dkwJ21_getChars_0 : List UInt8 := [27, 54, 5, 26, 156, 0, 7, 4, 167, 0, 4, 3, 54, 6, 21, 6, 154, 0, 6, 26, 116, 59, 26]
abbrev dktJ21_getChars_0 : List UInt8 := dkwJ21_getChars_0 ++ dktJ21_getChars_1
theorem dksJ21_getChars_0 : cJ21_getChars.data.toList.drop 0 = dktJ21_getChars_0 := by decide +kernel
theorem dksJ21_getChars_1 : cJ21_getChars.data.toList.drop 23 = dktJ21_getChars_1 := dk_seg dksJ21_getChars_0 23 rfl rfl
theorem dksJ21_getChars_2 : cJ21_getChars.data.toList.drop 47 = dktJ21_getChars_2 := dk_seg dksJ21_getChars_1 24 rfl rfl
theorem dksJ21_getChars_3 : cJ21_getChars.data.toList.drop 69 = dktJ21_getChars_3 := dk_seg dksJ21_getChars_2 22 rfl rfl
theorem dksJ21_getChars_4 : cJ21_getChars.data.toList.drop 92 = dktJ21_getChars_4 := dk_seg dksJ21_getChars_3 23 rfl rfl
theorem dksJ21_getChars_5 : cJ21_getChars.data.toList.drop 115 = dktJ21_getChars_5 := dk_seg dksJ21_getChars_4 23 rfl rfl
theorem dJ21_getChars_0 : decode cJ21_getChars 0 = .ok (.iload_n 1, 1) := dk_27 (dk_at dksJ21_getChars_0 0 rfl rfl)
theorem dJ21_getChars_1 : decode cJ21_getChars 1 = .ok (.istore 5, 2) := dk_54 5 (dk_at dksJ21_getChars_0 1 rfl rfl)
theorem dJ21_getChars_3 : decode cJ21_getChars 3 = .ok (.iload_n 0, 1) := dk_26 (dk_at dksJ21_getChars_0 3 rfl rfl)
theorem dJ21_getChars_4 : decode cJ21_getChars 4 = .ok (.ifCond .ge 7, 3) := dk_156 0 7 (dk_at dksJ21_getChars_0 4 rfl rfl)
theorem dJ21_getChars_7 : decode cJ21_getChars 7 = .ok (.iconst 1, 1) := dk_4 (dk_at dksJ21_getChars_0 7 rfl rfl)
theorem dJ21_getChars_8 : decode cJ21_getChars 8 = .ok (.goto 4, 3) := dk_167 0 4 (dk_at dksJ21_getChars_0 8 rfl rfl)
theorem dJ21_getChars_11 : decode cJ21_getChars 11 = .ok (.iconst 0, 1) := dk_3 (dk_at dksJ21_getChars_0 11 rfl rfl)
theorem dJ21_getChars_12 : decode cJ21_getChars 12 = .ok (.istore 6, 2) := dk_54 6 (dk_at dksJ21_getChars_0 12 rfl rfl)
theorem dJ21_getChars_14 : decode cJ21_getChars 14 = .ok (.iload 6, 2) := dk_21 6 (dk_at dksJ21_getChars_0 14 rfl rfl)
theorem dJ21_getChars_16 : decode cJ21_getChars 16 = .ok (.ifCond .ne 6, 3) := dk_154 0 6 (dk_at dksJ21_getChars_0 16 rfl rfl)
theorem dJ21_getChars_19 : decode cJ21_getChars 19 = .ok (.iload_n 0, 1) := dk_26 (dk_at dksJ21_getChars_0 19 rfl rfl)
theorem dJ21_getChars_20 : decode cJ21_getChars 20 = .ok (.ineg, 1) := dk_116 (dk_at dksJ21_getChars_0 20 rfl rfl)
theorem dJ21_getChars_21 : decode cJ21_getChars 21 = .ok (.istore_n 0, 1) := dk_59 (dk_at dksJ21_getChars_0 21 rfl rfl)
theorem dJ21_getChars_22 : decode cJ21_getChars 22 = .ok (.iload_n 0, 1) := dk_26 (dk_at dksJ21_getChars_0 22 rfl rfl)
theorem dJ21_getChars_23 : decode cJ21_getChars 23 = .ok (.bipush (-100), 2) := dk_16 156 (dk_at dksJ21_getChars_1 0 rfl rfl)
theorem dJ21_getChars_25 : decode cJ21_getChars 25 = .ok (.if_icmp .gt 47, 3) := dk_163 0 47 (dk_at dksJ21_getChars_1 2 rfl rfl)
theorem dJ21_getChars_28 : decode cJ21_getChars 28 = .ok (.iload_n 0, 1) := dk_26 (dk_at dksJ21_getChars_1 5 rfl rfl)
theorem dJ21_getChars_29 : decode cJ21_getChars 29 = .ok (.bipush 100, 2) := dk_16 100 (dk_at dksJ21_getChars_1 6 rfl rfl)
theorem dJ21_getChars_31 : decode cJ21_getChars 31 = .ok (.idiv, 1) := dk_108 (dk_at dksJ21_getChars_1 8 rfl rfl)
theorem dJ21_getChars_32 : decode cJ21_getChars 32 = .ok (.istore_n 3, 1) := dk_62 (dk_at dksJ21_getChars_1 9 rfl rfl)
theorem dJ21_getChars_33 : decode cJ21_getChars 33 = .ok (.iload_n 3, 1) := dk_29 (dk_at dksJ21_getChars_1 10 rfl rfl)
theorem dJ21_getChars_34 : decode cJ21_getChars 34 = .ok (.bipush 100, 2) := dk_16 100 (dk_at dksJ21_getChars_1 11 rfl rfl)
theorem dJ21_getChars_36 : decode cJ21_getChars 36 = .ok (.imul, 1) := dk_104 (dk_at dksJ21_getChars_1 13 rfl rfl)
theorem dJ21_getChars_37 : decode cJ21_getChars 37 = .ok (.iload_n 0, 1) := dk_26 (dk_at dksJ21_getChars_1 14 rfl rfl)
theorem dJ21_getChars_38 : decode cJ21_getChars 38 = .ok (.isub, 1) := dk_100 (dk_at dksJ21_getChars_1 15 rfl rfl)
theorem dJ21_getChars_39 : decode cJ21_getChars 39 = .ok (.istore 4, 2) := dk_54 4 (dk_at dksJ21_getChars_1 16 rfl rfl)
theorem dJ21_getChars_41 : decode cJ21_getChars 41 = .ok (.iload_n 3, 1) := dk_29 (dk_at dksJ21_getChars_1 18 rfl rfl)
theorem dJ21_getChars_42 : decode cJ21_getChars 42 = .ok (.istore_n 0, 1) := dk_59 (dk_at dksJ21_getChars_1 19 rfl rfl)
theorem dJ21_getChars_43 : decode cJ21_getChars 43 = .ok (.aload_n 2, 1) := dk_44 (dk_at dksJ21_getChars_1 20 rfl rfl)
theorem dJ21_getChars_44 : decode cJ21_getChars 44 = .ok (.iinc 5 (-1), 3) := dk_132 5 255 (dk_at dksJ21_getChars_1 21 rfl rfl)
theorem dJ21_getChars_47 : decode cJ21_getChars 47 = .ok (.iload 5, 2) := dk_21 5 (dk_at dksJ21_getChars_2 0 rfl rfl)
theorem dJ21_getChars_49 : decode cJ21_getChars 49 = .ok (.getstatic 83, 3) := dk_178 0 83 (dk_at dksJ21_getChars_2 2 rfl rfl)
theorem dJ21_getChars_52 : decode cJ21_getChars 52 = .ok (.iload 4, 2) := dk_21 4 (dk_at dksJ21_getChars_2 5 rfl rfl)
theorem dJ21_getChars_54 : decode cJ21_getChars 54 = .ok (.baload, 1) := dk_51 (dk_at dksJ21_getChars_2 7 rfl rfl)
theorem dJ21_getChars_55 : decode cJ21_getChars 55 = .ok (.bastore, 1) := dk_84 (dk_at dksJ21_getChars_2 8 rfl rfl)
theorem dJ21_getChars_56 : decode cJ21_getChars 56 = .ok (.aload_n 2, 1) := dk_44 (dk_at dksJ21_getChars_2 9 rfl rfl)
theorem dJ21_getChars_57 : decode cJ21_getChars 57 = .ok (.iinc 5 (-1), 3) := dk_132 5 255 (dk_at dksJ21_getChars_2 10 rfl rfl)
theorem dJ21_getChars_60 : decode cJ21_getChars 60 = .ok (.iload 5, 2) := dk_21 5 (dk_at dksJ21_getChars_2 13 rfl rfl)
theorem dJ21_getChars_62 : decode cJ21_getChars 62 = .ok (.getstatic 87, 3) := dk_178 0 87 (dk_at dksJ21_getChars_2 15 rfl rfl)
theorem dJ21_getChars_65 : decode cJ21_getChars 65 = .ok (.iload 4, 2) := dk_21 4 (dk_at dksJ21_getChars_2 18 rfl rfl)
theorem dJ21_getChars_67 : decode cJ21_getChars 67 = .ok (.baload, 1) := dk_51 (dk_at dksJ21_getChars_2 20 rfl rfl)
theorem dJ21_getChars_68 : decode cJ21_getChars 68 = .ok (.bastore, 1) := dk_84 (dk_at dksJ21_getChars_2 21 rfl rfl)
theorem dJ21_getChars_69 : decode cJ21_getChars 69 = .ok (.goto (-47), 3) := dk_167 255 209 (dk_at dksJ21_getChars_3 0 rfl rfl)
theorem dJ21_getChars_72 : decode cJ21_getChars 72 = .ok (.aload_n 2, 1) := dk_44 (dk_at dksJ21_getChars_3 3 rfl rfl)
theorem dJ21_getChars_73 : decode cJ21_getChars 73 = .ok (.iinc 5 (-1), 3) := dk_132 5 255 (dk_at dksJ21_getChars_3 4 rfl rfl)
theorem dJ21_getChars_76 : decode cJ21_getChars 76 = .ok (.iload 5, 2) := dk_21 5 (dk_at dksJ21_getChars_3 7 rfl rfl)
theorem dJ21_getChars_78 : decode cJ21_getChars 78 = .ok (.getstatic 83, 3) := dk_178 0 83 (dk_at dksJ21_getChars_3 9 rfl rfl)
theorem dJ21_getChars_81 : decode cJ21_getChars 81 = .ok (.iload_n 0, 1) := dk_26 (dk_at dksJ21_getChars_3 12 rfl rfl)
theorem dJ21_getChars_82 : decode cJ21_getChars 82 = .ok (.ineg, 1) := dk_116 (dk_at dksJ21_getChars_3 13 rfl rfl)
theorem dJ21_getChars_83 : decode cJ21_getChars 83 = .ok (.baload, 1) := dk_51 (dk_at dksJ21_getChars_3 14 rfl rfl)
theorem dJ21_getChars_84 : decode cJ21_getChars 84 = .ok (.bastore, 1) := dk_84 (dk_at dksJ21_getChars_3 15 rfl rfl)
theorem dJ21_getChars_85 : decode cJ21_getChars 85 = .ok (.iload_n 0, 1) := dk_26 (dk_at dksJ21_getChars_3 16 rfl rfl)
theorem dJ21_getChars_86 : decode cJ21_getChars 86 = .ok (.bipush (-9), 2) := dk_16 247 (dk_at dksJ21_getChars_3 17 rfl rfl)
theorem dJ21_getChars_88 : decode cJ21_getChars 88 = .ok (.if_icmp .ge 16, 3) := dk_162 0 16 (dk_at dksJ21_getChars_3 19 rfl rfl)
theorem dJ21_getChars_91 : decode cJ21_getChars 91 = .ok (.aload_n 2, 1) := dk_44 (dk_at dksJ21_getChars_3 22 rfl rfl)
theorem dJ21_getChars_92 : decode cJ21_getChars 92 = .ok (.iinc 5 (-1), 3) := dk_132 5 255 (dk_at dksJ21_getChars_4 0 rfl rfl)
theorem dJ21_getChars_95 : decode cJ21_getChars 95 = .ok (.iload 5, 2) := dk_21 5 (dk_at dksJ21_getChars_4 3 rfl rfl)
theorem dJ21_getChars_97 : decode cJ21_getChars 97 = .ok (.getstatic 87, 3) := dk_178 0 87 (dk_at dksJ21_getChars_4 5 rfl rfl)
theorem dJ21_getChars_100 : decode cJ21_getChars 100 = .ok (.iload_n 0, 1) := dk_26 (dk_at dksJ21_getChars_4 8 rfl rfl)
theorem dJ21_getChars_101 : decode cJ21_getChars 101 = .ok (.ineg, 1) := dk_116 (dk_at dksJ21_getChars_4 9 rfl rfl)
theorem dJ21_getChars_102 : decode cJ21_getChars 102 = .ok (.baload, 1) := dk_51 (dk_at dksJ21_getChars_4 10 rfl rfl)
theorem dJ21_getChars_103 : decode cJ21_getChars 103 = .ok (.bastore, 1) := dk_84 (dk_at dksJ21_getChars_4 11 rfl rfl)
theorem dJ21_getChars_104 : decode cJ21_getChars 104 = .ok (.iload 6, 2) := dk_21 6 (dk_at dksJ21_getChars_4 12 rfl rfl)
theorem dJ21_getChars_106 : decode cJ21_getChars 106 = .ok (.ifCond .eq 12, 3) := dk_153 0 12 (dk_at dksJ21_getChars_4 14 rfl rfl)
theorem dJ21_getChars_109 : decode cJ21_getChars 109 = .ok (.aload_n 2, 1) := dk_44 (dk_at dksJ21_getChars_4 17 rfl rfl)
theorem dJ21_getChars_110 : decode cJ21_getChars 110 = .ok (.iinc 5 (-1), 3) := dk_132 5 255 (dk_at dksJ21_getChars_4 18 rfl rfl)
theorem dJ21_getChars_113 : decode cJ21_getChars 113 = .ok (.iload 5, 2) := dk_21 5 (dk_at dksJ21_getChars_4 21 rfl rfl)
theorem dJ21_getChars_115 : decode cJ21_getChars 115 = .ok (.bipush 45, 2) := dk_16 45 (dk_at dksJ21_getChars_5 0 rfl rfl)
theorem dJ21_getChars_117 : decode cJ21_getChars 117 = .ok (.bastore, 1) := dk_84 (dk_at dksJ21_getChars_5 2 rfl rfl)
theorem dJ21_getChars_118 : decode cJ21_getChars 118 = .ok (.iload 5, 2) := dk_21 5 (dk_at dksJ21_getChars_5 3 rfl rfl)
theorem dJ21_getChars_120 : decode cJ21_getChars 120 = .ok (.ireturn, 1) := dk_172 (dk_at dksJ21_getChars_5 5 rfl rfl)
def fJ21_getChars_b118 (e : Nat → Nat) (N : Nat) (m : Mm) (v5 : Int32) : Rs (Int32) := rt_ v5 m
def fJ21_getChars_b104 (e : Nat → Nat) (N : Nat) (m : Mm) (v2 : Option Nat) (v5 : Int32) (v6 : Int32) : Rs (Int32) := if v6 = 0 then (fJ21_getChars_b118 e N m v5) else (bi_ m v2 202 (v5 + (-1)) ((45 : Int32).toInt8.toInt32) (fun m1 => fJ21_getChars_b118 e N m1 (v5 + (-1))))
def fJ21_getChars_b22 (e : Nat → Nat) (N : Nat) : Nat → Mm → Int32 → Option Nat → Int32 → Int32 → Rs (Int32)
  | 0, _, _, _, _, _ => none
  | F + 1, m, v0, v2, v5, v6 => if ((-100) : Int32) < v0 then (ai_ m (some (e 1)) 202 (-v0) (fun x1 => bi_ m v2 202 (v5 + (-1)) ((x1 : Int32).toInt8.toInt32) (fun m1 => if v0 < (-9) then (ai_ m1 (some (e 2)) 202 (-v0) (fun x2 => bi_ m1 v2 202 ((v5 + (-1)) + (-1)) ((x2 : Int32).toInt8.toInt32) (fun m2 => fJ21_getChars_b104 e N m2 v2 ((v5 + (-1)) + (-1)) v6))) else (fJ21_getChars_b104 e N m1 v2 (v5 + (-1)) v6)))) else (ai_ m (some (e 1)) 202 (((v0 / 100) * 100) - v0) (fun x3 => bi_ m v2 202 (v5 + (-1)) ((x3 : Int32).toInt8.toInt32) (fun m3 => ai_ m3 (some (e 2)) 202 (((v0 / 100) * 100) - v0) (fun x4 => bi_ m3 v2 202 ((v5 + (-1)) + (-1)) ((x4 : Int32).toInt8.toInt32) (fun m4 => fJ21_getChars_b22 e N F m4 (v0 / 100) v2 ((v5 + (-1)) + (-1)) v6)))))
def fJ21_getChars_b12 (e : Nat → Nat) (N : Nat) (m : Mm) (v0 : Int32) (v2 : Option Nat) (v5 : Int32) (s0 : Int32) : Rs (Int32) := if s0 = 0 then (fJ21_getChars_b22 e N N m (-v0) v2 v5 s0) else (fJ21_getChars_b22 e N N m v0 v2 v5 s0)
def fJ21_getChars (e : Nat → Nat) (N : Nat) (m : Mm) (v0 : Int32) (v1 : Int32) (v2 : Option Nat) : Rs (Int32) := if v0 < 0 then (fJ21_getChars_b12 e N m v0 v2 v1 1) else (fJ21_getChars_b12 e N m v0 v2 v1 0)
abbrev cJ15_append_2 : ByteArray := prog_26_method_32_code
def yJ15_append_2 : MethodName := ⟨RJ15, "append", "(I)Ljava/lang/AbstractStringBuilder;"⟩
def dkwJ15_append_2_2 : List UInt8 := [42, 29, 181, 0, 79, 42, 176]
abbrev dktJ15_append_2_2 : List UInt8 := dkwJ15_append_2_2 ++ []
def dkwJ15_append_2_1 : List UInt8 := [27, 29, 42, 180, 0, 15, 184, 0, 248, 87, 167, 0, 14, 27, 28, 29, 42, 180, 0, 15, 184, 0, 251, 87]
abbrev dktJ15_append_2_1 : List UInt8 := dkwJ15_append_2_1 ++ dktJ15_append_2_2
def dkwJ15_append_2_0 : List UInt8 := [42, 180, 0, 79, 61, 28, 27, 184, 0, 245, 96, 62, 42, 29, 182, 0, 100, 42, 182, 0, 83, 153, 0, 16]
abbrev dktJ15_append_2_0 : List UInt8 := dkwJ15_append_2_0 ++ dktJ15_append_2_1
theorem dksJ15_append_2_0 : cJ15_append_2.data.toList.drop 0 = dktJ15_append_2_0 := by decide +kernel
theorem dksJ15_append_2_1 : cJ15_append_2.data.toList.drop 24 = dktJ15_append_2_1 := dk_seg dksJ15_append_2_0 24 rfl rfl
theorem dksJ15_append_2_2 : cJ15_append_2.data.toList.drop 48 = dktJ15_append_2_2 := dk_seg dksJ15_append_2_1 24 rfl rfl
theorem dJ15_append_2_0 : decode cJ15_append_2 0 = .ok (.aload_n 0, 1) := dk_42 (dk_at dksJ15_append_2_0 0 rfl rfl)
theorem dJ15_append_2_1 : decode cJ15_append_2 1 = .ok (.getfield 79, 3) := dk_180 0 79 (dk_at dksJ15_append_2_0 1 rfl rfl)
theorem dJ15_append_2_4 : decode cJ15_append_2 4 = .ok (.istore_n 2, 1) := dk_61 (dk_at dksJ15_append_2_0 4 rfl rfl)
theorem dJ15_append_2_5 : decode cJ15_append_2 5 = .ok (.iload_n 2, 1) := dk_28 (dk_at dksJ15_append_2_0 5 rfl rfl)
theorem dJ15_append_2_6 : decode cJ15_append_2 6 = .ok (.iload_n 1, 1) := dk_27 (dk_at dksJ15_append_2_0 6 rfl rfl)
theorem dJ15_append_2_7 : decode cJ15_append_2 7 = .ok (.invokestatic 245, 3) := dk_184 0 245 (dk_at dksJ15_append_2_0 7 rfl rfl)
theorem dJ15_append_2_10 : decode cJ15_append_2 10 = .ok (.iadd, 1) := dk_96 (dk_at dksJ15_append_2_0 10 rfl rfl)
theorem dJ15_append_2_11 : decode cJ15_append_2 11 = .ok (.istore_n 3, 1) := dk_62 (dk_at dksJ15_append_2_0 11 rfl rfl)
theorem dJ15_append_2_12 : decode cJ15_append_2 12 = .ok (.aload_n 0, 1) := dk_42 (dk_at dksJ15_append_2_0 12 rfl rfl)
theorem dJ15_append_2_13 : decode cJ15_append_2 13 = .ok (.iload_n 3, 1) := dk_29 (dk_at dksJ15_append_2_0 13 rfl rfl)
theorem dJ15_append_2_14 : decode cJ15_append_2 14 = .ok (.invokevirtual 100, 3) := dk_182 0 100 (dk_at dksJ15_append_2_0 14 rfl rfl)
theorem dJ15_append_2_17 : decode cJ15_append_2 17 = .ok (.aload_n 0, 1) := dk_42 (dk_at dksJ15_append_2_0 17 rfl rfl)
theorem dJ15_append_2_18 : decode cJ15_append_2 18 = .ok (.invokevirtual 83, 3) := dk_182 0 83 (dk_at dksJ15_append_2_0 18 rfl rfl)
theorem dJ15_append_2_21 : decode cJ15_append_2 21 = .ok (.ifCond .eq 16, 3) := dk_153 0 16 (dk_at dksJ15_append_2_0 21 rfl rfl)
theorem dJ15_append_2_24 : decode cJ15_append_2 24 = .ok (.iload_n 1, 1) := dk_27 (dk_at dksJ15_append_2_1 0 rfl rfl)
theorem dJ15_append_2_25 : decode cJ15_append_2 25 = .ok (.iload_n 3, 1) := dk_29 (dk_at dksJ15_append_2_1 1 rfl rfl)
theorem dJ15_append_2_26 : decode cJ15_append_2 26 = .ok (.aload_n 0, 1) := dk_42 (dk_at dksJ15_append_2_1 2 rfl rfl)
theorem dJ15_append_2_27 : decode cJ15_append_2 27 = .ok (.getfield 15, 3) := dk_180 0 15 (dk_at dksJ15_append_2_1 3 rfl rfl)
theorem dJ15_append_2_30 : decode cJ15_append_2 30 = .ok (.invokestatic 248, 3) := dk_184 0 248 (dk_at dksJ15_append_2_1 6 rfl rfl)
theorem dJ15_append_2_33 : decode cJ15_append_2 33 = .ok (.pop, 1) := dk_87 (dk_at dksJ15_append_2_1 9 rfl rfl)
theorem dJ15_append_2_34 : decode cJ15_append_2 34 = .ok (.goto 14, 3) := dk_167 0 14 (dk_at dksJ15_append_2_1 10 rfl rfl)
theorem dJ15_append_2_37 : decode cJ15_append_2 37 = .ok (.iload_n 1, 1) := dk_27 (dk_at dksJ15_append_2_1 13 rfl rfl)
theorem dJ15_append_2_38 : decode cJ15_append_2 38 = .ok (.iload_n 2, 1) := dk_28 (dk_at dksJ15_append_2_1 14 rfl rfl)
theorem dJ15_append_2_39 : decode cJ15_append_2 39 = .ok (.iload_n 3, 1) := dk_29 (dk_at dksJ15_append_2_1 15 rfl rfl)
theorem dJ15_append_2_40 : decode cJ15_append_2 40 = .ok (.aload_n 0, 1) := dk_42 (dk_at dksJ15_append_2_1 16 rfl rfl)
theorem dJ15_append_2_41 : decode cJ15_append_2 41 = .ok (.getfield 15, 3) := dk_180 0 15 (dk_at dksJ15_append_2_1 17 rfl rfl)
theorem dJ15_append_2_44 : decode cJ15_append_2 44 = .ok (.invokestatic 251, 3) := dk_184 0 251 (dk_at dksJ15_append_2_1 20 rfl rfl)
theorem dJ15_append_2_47 : decode cJ15_append_2 47 = .ok (.pop, 1) := dk_87 (dk_at dksJ15_append_2_1 23 rfl rfl)
theorem dJ15_append_2_48 : decode cJ15_append_2 48 = .ok (.aload_n 0, 1) := dk_42 (dk_at dksJ15_append_2_2 0 rfl rfl)
theorem dJ15_append_2_49 : decode cJ15_append_2 49 = .ok (.iload_n 3, 1) := dk_29 (dk_at dksJ15_append_2_2 1 rfl rfl)
theorem dJ15_append_2_50 : decode cJ15_append_2 50 = .ok (.putfield 79, 3) := dk_181 0 79 (dk_at dksJ15_append_2_2 2 rfl rfl)
theorem dJ15_append_2_53 : decode cJ15_append_2 53 = .ok (.aload_n 0, 1) := dk_42 (dk_at dksJ15_append_2_2 5 rfl rfl)
theorem dJ15_append_2_54 : decode cJ15_append_2 54 = .ok (.areturn, 1) := dk_176 (dk_at dksJ15_append_2_2 6 rfl rfl)
def fJ15_append_2_t30 (e : Nat → Nat) (N : Nat) (m : Mm) (v0 : Option Nat) (v1 : Int32) : Rs (Option Nat) := gi_ m v0 30 3 (fun x1 => bd_ (fJ21_stringSize e N m v1) (fun x2 m1 => ck_ m1 v0 30 (bd_ (fJ15_ensureCapacityInternal_t30 e N m1 v0 (x1 + x2)) (fun _ m2 => ck_ m2 v0 30 (bd_ (fJ15_isLatin1_t30 e N m2 v0) (fun x3 m3 => if x3 = 0 then (gr_ m3 v0 30 0 (fun x4 => none)) else (gr_ m3 v0 30 0 (fun x5 => bd_ (fJ21_getChars e N m3 v1 (x1 + x2) x5) (fun x6 m4 => pi_ m4 v0 30 3 (x1 + x2) (fun m5 => rt_ v0 m5))))))))))
abbrev cJ16_append_2 : ByteArray := prog_46_method_15_code
def yJ16_append_2 : MethodName := ⟨RJ16, "append", "(I)Ljava/lang/StringBuilder;"⟩
def dkwJ16_append_2_0 : List UInt8 := [42, 27, 183, 0, 53, 87, 42, 176]
abbrev dktJ16_append_2_0 : List UInt8 := dkwJ16_append_2_0 ++ []
theorem dksJ16_append_2_0 : cJ16_append_2.data.toList.drop 0 = dktJ16_append_2_0 := by decide +kernel
theorem dJ16_append_2_0 : decode cJ16_append_2 0 = .ok (.aload_n 0, 1) := dk_42 (dk_at dksJ16_append_2_0 0 rfl rfl)
theorem dJ16_append_2_1 : decode cJ16_append_2 1 = .ok (.iload_n 1, 1) := dk_27 (dk_at dksJ16_append_2_0 1 rfl rfl)
theorem dJ16_append_2_2 : decode cJ16_append_2 2 = .ok (.invokespecial 53, 3) := dk_183 0 53 (dk_at dksJ16_append_2_0 2 rfl rfl)
theorem dJ16_append_2_5 : decode cJ16_append_2 5 = .ok (.pop, 1) := dk_87 (dk_at dksJ16_append_2_0 5 rfl rfl)
theorem dJ16_append_2_6 : decode cJ16_append_2 6 = .ok (.aload_n 0, 1) := dk_42 (dk_at dksJ16_append_2_0 6 rfl rfl)
theorem dJ16_append_2_7 : decode cJ16_append_2 7 = .ok (.areturn, 1) := dk_176 (dk_at dksJ16_append_2_0 7 rfl rfl)
def fJ16_append_2 (e : Nat → Nat) (N : Nat) (m : Mm) (v0 : Option Nat) (v1 : Int32) : Rs (Option Nat) := ck_ m v0 30 (bd_ (fJ15_append_2_t30 e N m v0 v1) (fun x1 m1 => rt_ v0 m1))
abbrev cJ7_checkLength : ByteArray := prog_61_method_131_code
def yJ7_checkLength : MethodName := ⟨RJ7, "checkLength", "(II)V"⟩
def dkwJ7_checkLength_1 : List UInt8 := [182, 0, 50, 27, 182, 0, 54, 182, 0, 61, 183, 0, 65, 191, 177]
abbrev dktJ7_checkLength_1 : List UInt8 := dkwJ7_checkLength_1 ++ []
def dkwJ7_checkLength_0 : List UInt8 := [27, 26, 162, 0, 35, 187, 0, 43, 89, 187, 0, 45, 89, 183, 0, 47, 26, 182, 0, 54, 19, 1, 81]
abbrev dktJ7_checkLength_0 : List UInt8 := dkwJ7_checkLength_0 ++ dktJ7_checkLength_1
theorem dksJ7_checkLength_0 : cJ7_checkLength.data.toList.drop 0 = dktJ7_checkLength_0 := by decide +kernel
theorem dksJ7_checkLength_1 : cJ7_checkLength.data.toList.drop 23 = dktJ7_checkLength_1 := dk_seg dksJ7_checkLength_0 23 rfl rfl
theorem dJ7_checkLength_0 : decode cJ7_checkLength 0 = .ok (.iload_n 1, 1) := dk_27 (dk_at dksJ7_checkLength_0 0 rfl rfl)
theorem dJ7_checkLength_1 : decode cJ7_checkLength 1 = .ok (.iload_n 0, 1) := dk_26 (dk_at dksJ7_checkLength_0 1 rfl rfl)
theorem dJ7_checkLength_2 : decode cJ7_checkLength 2 = .ok (.if_icmp .ge 35, 3) := dk_162 0 35 (dk_at dksJ7_checkLength_0 2 rfl rfl)
theorem dJ7_checkLength_5 : decode cJ7_checkLength 5 = .ok (.new 43, 3) := dk_187 0 43 (dk_at dksJ7_checkLength_0 5 rfl rfl)
theorem dJ7_checkLength_8 : decode cJ7_checkLength 8 = .ok (.dup, 1) := dk_89 (dk_at dksJ7_checkLength_0 8 rfl rfl)
theorem dJ7_checkLength_9 : decode cJ7_checkLength 9 = .ok (.new 45, 3) := dk_187 0 45 (dk_at dksJ7_checkLength_0 9 rfl rfl)
theorem dJ7_checkLength_12 : decode cJ7_checkLength 12 = .ok (.dup, 1) := dk_89 (dk_at dksJ7_checkLength_0 12 rfl rfl)
theorem dJ7_checkLength_13 : decode cJ7_checkLength 13 = .ok (.invokespecial 47, 3) := dk_183 0 47 (dk_at dksJ7_checkLength_0 13 rfl rfl)
theorem dJ7_checkLength_16 : decode cJ7_checkLength 16 = .ok (.iload_n 0, 1) := dk_26 (dk_at dksJ7_checkLength_0 16 rfl rfl)
theorem dJ7_checkLength_17 : decode cJ7_checkLength 17 = .ok (.invokevirtual 54, 3) := dk_182 0 54 (dk_at dksJ7_checkLength_0 17 rfl rfl)
theorem dJ7_checkLength_20 : decode cJ7_checkLength 20 = .ok (.ldc_w 337, 3) := dk_19 1 81 (dk_at dksJ7_checkLength_0 20 rfl rfl)
theorem dJ7_checkLength_23 : decode cJ7_checkLength 23 = .ok (.invokevirtual 50, 3) := dk_182 0 50 (dk_at dksJ7_checkLength_1 0 rfl rfl)
theorem dJ7_checkLength_26 : decode cJ7_checkLength 26 = .ok (.iload_n 1, 1) := dk_27 (dk_at dksJ7_checkLength_1 3 rfl rfl)
theorem dJ7_checkLength_27 : decode cJ7_checkLength 27 = .ok (.invokevirtual 54, 3) := dk_182 0 54 (dk_at dksJ7_checkLength_1 4 rfl rfl)
theorem dJ7_checkLength_30 : decode cJ7_checkLength 30 = .ok (.invokevirtual 61, 3) := dk_182 0 61 (dk_at dksJ7_checkLength_1 7 rfl rfl)
theorem dJ7_checkLength_33 : decode cJ7_checkLength 33 = .ok (.invokespecial 65, 3) := dk_183 0 65 (dk_at dksJ7_checkLength_1 10 rfl rfl)
theorem dJ7_checkLength_36 : decode cJ7_checkLength 36 = .ok (.athrow, 1) := dk_191 (dk_at dksJ7_checkLength_1 13 rfl rfl)
theorem dJ7_checkLength_37 : decode cJ7_checkLength 37 = .ok (.return_, 1) := dk_177 (dk_at dksJ7_checkLength_1 14 rfl rfl)
def fJ7_checkLength (e : Nat → Nat) (N : Nat) (m : Mm) (v0 : Int32) (v1 : Int32) : Rs (Unit) := if v1 < v0 then (none) else (rt_ () m)
abbrev cJ7_copyOfRangeByte : ByteArray := prog_61_method_133_code
def yJ7_copyOfRangeByte : MethodName := ⟨RJ7, "copyOfRangeByte", "([BII)[B"⟩
def dkwJ7_copyOfRangeByte_1 : List UInt8 := [184, 1, 48, 184, 0, 150, 25, 4, 176]
abbrev dktJ7_copyOfRangeByte_1 : List UInt8 := dkwJ7_copyOfRangeByte_1 ++ []
def dkwJ7_copyOfRangeByte_0 : List UInt8 := [27, 28, 184, 1, 87, 28, 27, 100, 62, 29, 188, 8, 58, 4, 42, 27, 25, 4, 3, 42, 190, 27, 100, 29]
abbrev dktJ7_copyOfRangeByte_0 : List UInt8 := dkwJ7_copyOfRangeByte_0 ++ dktJ7_copyOfRangeByte_1
theorem dksJ7_copyOfRangeByte_0 : cJ7_copyOfRangeByte.data.toList.drop 0 = dktJ7_copyOfRangeByte_0 := by decide +kernel
theorem dksJ7_copyOfRangeByte_1 : cJ7_copyOfRangeByte.data.toList.drop 24 = dktJ7_copyOfRangeByte_1 := dk_seg dksJ7_copyOfRangeByte_0 24 rfl rfl
theorem dJ7_copyOfRangeByte_0 : decode cJ7_copyOfRangeByte 0 = .ok (.iload_n 1, 1) := dk_27 (dk_at dksJ7_copyOfRangeByte_0 0 rfl rfl)
theorem dJ7_copyOfRangeByte_1 : decode cJ7_copyOfRangeByte 1 = .ok (.iload_n 2, 1) := dk_28 (dk_at dksJ7_copyOfRangeByte_0 1 rfl rfl)
theorem dJ7_copyOfRangeByte_2 : decode cJ7_copyOfRangeByte 2 = .ok (.invokestatic 343, 3) := dk_184 1 87 (dk_at dksJ7_copyOfRangeByte_0 2 rfl rfl)
theorem dJ7_copyOfRangeByte_5 : decode cJ7_copyOfRangeByte 5 = .ok (.iload_n 2, 1) := dk_28 (dk_at dksJ7_copyOfRangeByte_0 5 rfl rfl)
theorem dJ7_copyOfRangeByte_6 : decode cJ7_copyOfRangeByte 6 = .ok (.iload_n 1, 1) := dk_27 (dk_at dksJ7_copyOfRangeByte_0 6 rfl rfl)
theorem dJ7_copyOfRangeByte_7 : decode cJ7_copyOfRangeByte 7 = .ok (.isub, 1) := dk_100 (dk_at dksJ7_copyOfRangeByte_0 7 rfl rfl)
theorem dJ7_copyOfRangeByte_8 : decode cJ7_copyOfRangeByte 8 = .ok (.istore_n 3, 1) := dk_62 (dk_at dksJ7_copyOfRangeByte_0 8 rfl rfl)
theorem dJ7_copyOfRangeByte_9 : decode cJ7_copyOfRangeByte 9 = .ok (.iload_n 3, 1) := dk_29 (dk_at dksJ7_copyOfRangeByte_0 9 rfl rfl)
theorem dJ7_copyOfRangeByte_10 : decode cJ7_copyOfRangeByte 10 = .ok (.newarray .byte, 2) := dk_188_8 (dk_at dksJ7_copyOfRangeByte_0 10 rfl rfl)
theorem dJ7_copyOfRangeByte_12 : decode cJ7_copyOfRangeByte 12 = .ok (.astore 4, 2) := dk_58 4 (dk_at dksJ7_copyOfRangeByte_0 12 rfl rfl)
theorem dJ7_copyOfRangeByte_14 : decode cJ7_copyOfRangeByte 14 = .ok (.aload_n 0, 1) := dk_42 (dk_at dksJ7_copyOfRangeByte_0 14 rfl rfl)
theorem dJ7_copyOfRangeByte_15 : decode cJ7_copyOfRangeByte 15 = .ok (.iload_n 1, 1) := dk_27 (dk_at dksJ7_copyOfRangeByte_0 15 rfl rfl)
theorem dJ7_copyOfRangeByte_16 : decode cJ7_copyOfRangeByte 16 = .ok (.aload 4, 2) := dk_25 4 (dk_at dksJ7_copyOfRangeByte_0 16 rfl rfl)
theorem dJ7_copyOfRangeByte_18 : decode cJ7_copyOfRangeByte 18 = .ok (.iconst 0, 1) := dk_3 (dk_at dksJ7_copyOfRangeByte_0 18 rfl rfl)
theorem dJ7_copyOfRangeByte_19 : decode cJ7_copyOfRangeByte 19 = .ok (.aload_n 0, 1) := dk_42 (dk_at dksJ7_copyOfRangeByte_0 19 rfl rfl)
theorem dJ7_copyOfRangeByte_20 : decode cJ7_copyOfRangeByte 20 = .ok (.arraylength, 1) := dk_190 (dk_at dksJ7_copyOfRangeByte_0 20 rfl rfl)
theorem dJ7_copyOfRangeByte_21 : decode cJ7_copyOfRangeByte 21 = .ok (.iload_n 1, 1) := dk_27 (dk_at dksJ7_copyOfRangeByte_0 21 rfl rfl)
theorem dJ7_copyOfRangeByte_22 : decode cJ7_copyOfRangeByte 22 = .ok (.isub, 1) := dk_100 (dk_at dksJ7_copyOfRangeByte_0 22 rfl rfl)
theorem dJ7_copyOfRangeByte_23 : decode cJ7_copyOfRangeByte 23 = .ok (.iload_n 3, 1) := dk_29 (dk_at dksJ7_copyOfRangeByte_0 23 rfl rfl)
theorem dJ7_copyOfRangeByte_24 : decode cJ7_copyOfRangeByte 24 = .ok (.invokestatic 304, 3) := dk_184 1 48 (dk_at dksJ7_copyOfRangeByte_1 0 rfl rfl)
theorem dJ7_copyOfRangeByte_27 : decode cJ7_copyOfRangeByte 27 = .ok (.invokestatic 150, 3) := dk_184 0 150 (dk_at dksJ7_copyOfRangeByte_1 3 rfl rfl)
theorem dJ7_copyOfRangeByte_30 : decode cJ7_copyOfRangeByte 30 = .ok (.aload 4, 2) := dk_25 4 (dk_at dksJ7_copyOfRangeByte_1 6 rfl rfl)
theorem dJ7_copyOfRangeByte_32 : decode cJ7_copyOfRangeByte 32 = .ok (.areturn, 1) := dk_176 (dk_at dksJ7_copyOfRangeByte_1 8 rfl rfl)
def fJ7_copyOfRangeByte (e : Nat → Nat) (N : Nat) (m : Mm) (v0 : Option Nat) (v1 : Int32) (v2 : Int32) : Rs (Option Nat) := bd_ (fJ7_checkLength e N m v1 v2) (fun _ m1 => na_ m1 202 (v2 - v1) (fun x1 m2 => ln_ m2 v0 202 (fun x2 => ab_ m2 v0 v1 (some x1) 0 (if ((v2 - v1) : Int32) < (x2 - v1) then (v2 - v1) else (x2 - v1)) (fun m3 => rt_ (some x1) m3))))
abbrev cJ7_copyOfRange : ByteArray := prog_61_method_132_code
def yJ7_copyOfRange : MethodName := ⟨RJ7, "copyOfRange", "([BII)[B"⟩
def dkwJ7_copyOfRange_1 : List UInt8 := [176]
abbrev dktJ7_copyOfRange_1 : List UInt8 := dkwJ7_copyOfRange_1 ++ []
def dkwJ7_copyOfRange_0 : List UInt8 := [27, 154, 0, 9, 28, 42, 190, 159, 0, 10, 42, 27, 28, 184, 1, 83, 176, 42, 182, 1, 54, 192, 1, 55]
abbrev dktJ7_copyOfRange_0 : List UInt8 := dkwJ7_copyOfRange_0 ++ dktJ7_copyOfRange_1
theorem dksJ7_copyOfRange_0 : cJ7_copyOfRange.data.toList.drop 0 = dktJ7_copyOfRange_0 := by decide +kernel
theorem dksJ7_copyOfRange_1 : cJ7_copyOfRange.data.toList.drop 24 = dktJ7_copyOfRange_1 := dk_seg dksJ7_copyOfRange_0 24 rfl rfl
theorem dJ7_copyOfRange_0 : decode cJ7_copyOfRange 0 = .ok (.iload_n 1, 1) := dk_27 (dk_at dksJ7_copyOfRange_0 0 rfl rfl)
theorem dJ7_copyOfRange_1 : decode cJ7_copyOfRange 1 = .ok (.ifCond .ne 9, 3) := dk_154 0 9 (dk_at dksJ7_copyOfRange_0 1 rfl rfl)
theorem dJ7_copyOfRange_4 : decode cJ7_copyOfRange 4 = .ok (.iload_n 2, 1) := dk_28 (dk_at dksJ7_copyOfRange_0 4 rfl rfl)
theorem dJ7_copyOfRange_5 : decode cJ7_copyOfRange 5 = .ok (.aload_n 0, 1) := dk_42 (dk_at dksJ7_copyOfRange_0 5 rfl rfl)
theorem dJ7_copyOfRange_6 : decode cJ7_copyOfRange 6 = .ok (.arraylength, 1) := dk_190 (dk_at dksJ7_copyOfRange_0 6 rfl rfl)
theorem dJ7_copyOfRange_7 : decode cJ7_copyOfRange 7 = .ok (.if_icmp .eq 10, 3) := dk_159 0 10 (dk_at dksJ7_copyOfRange_0 7 rfl rfl)
theorem dJ7_copyOfRange_10 : decode cJ7_copyOfRange 10 = .ok (.aload_n 0, 1) := dk_42 (dk_at dksJ7_copyOfRange_0 10 rfl rfl)
theorem dJ7_copyOfRange_11 : decode cJ7_copyOfRange 11 = .ok (.iload_n 1, 1) := dk_27 (dk_at dksJ7_copyOfRange_0 11 rfl rfl)
theorem dJ7_copyOfRange_12 : decode cJ7_copyOfRange 12 = .ok (.iload_n 2, 1) := dk_28 (dk_at dksJ7_copyOfRange_0 12 rfl rfl)
theorem dJ7_copyOfRange_13 : decode cJ7_copyOfRange 13 = .ok (.invokestatic 339, 3) := dk_184 1 83 (dk_at dksJ7_copyOfRange_0 13 rfl rfl)
theorem dJ7_copyOfRange_16 : decode cJ7_copyOfRange 16 = .ok (.areturn, 1) := dk_176 (dk_at dksJ7_copyOfRange_0 16 rfl rfl)
theorem dJ7_copyOfRange_17 : decode cJ7_copyOfRange 17 = .ok (.aload_n 0, 1) := dk_42 (dk_at dksJ7_copyOfRange_0 17 rfl rfl)
theorem dJ7_copyOfRange_18 : decode cJ7_copyOfRange 18 = .ok (.invokevirtual 310, 3) := dk_182 1 54 (dk_at dksJ7_copyOfRange_0 18 rfl rfl)
theorem dJ7_copyOfRange_21 : decode cJ7_copyOfRange 21 = .ok (.checkcast 311, 3) := dk_192 1 55 (dk_at dksJ7_copyOfRange_0 21 rfl rfl)
theorem dJ7_copyOfRange_24 : decode cJ7_copyOfRange 24 = .ok (.areturn, 1) := dk_176 (dk_at dksJ7_copyOfRange_1 0 rfl rfl)
def fJ7_copyOfRange_b10 (e : Nat → Nat) (N : Nat) (m : Mm) (v0 : Option Nat) (v1 : Int32) (v2 : Int32) : Rs (Option Nat) := bd_ (fJ7_copyOfRangeByte e N m v0 v1 v2) (fun x1 m1 => rt_ x1 m1)
def fJ7_copyOfRange (e : Nat → Nat) (N : Nat) (m : Mm) (v0 : Option Nat) (v1 : Int32) (v2 : Int32) : Rs (Option Nat) := if v1 = 0 then (ln_ m v0 202 (fun x1 => if v2 = x1 then (cl_ m v0 (fun x2 m1 => cc_ m1 (some x2) [202] (rt_ (some x2) m1))) else (fJ7_copyOfRange_b10 e N m v0 v1 v2))) else (fJ7_copyOfRange_b10 e N m v0 v1 v2)
abbrev cJ15_getValue : ByteArray := prog_26_method_64_code
def yJ15_getValue : MethodName := ⟨RJ15, "getValue", "()[B"⟩
theorem dJ15_getValue_0 : decode cJ15_getValue 0 = .ok (.aload_n 0, 1) := by decide +kernel
theorem dJ15_getValue_1 : decode cJ15_getValue 1 = .ok (.getfield 15, 3) := by decide +kernel
theorem dJ15_getValue_4 : decode cJ15_getValue 4 = .ok (.areturn, 1) := by decide +kernel
def fJ15_getValue_t30 (e : Nat → Nat) (N : Nat) (m : Mm) (v0 : Option Nat) : Rs (Option Nat) := gr_ m v0 30 0 (fun x1 => rt_ x1 m)
abbrev cJ15_length : ByteArray := prog_26_method_6_code
def yJ15_length : MethodName := ⟨RJ15, "length", "()I"⟩
theorem dJ15_length_0 : decode cJ15_length 0 = .ok (.aload_n 0, 1) := by decide +kernel
theorem dJ15_length_1 : decode cJ15_length 1 = .ok (.getfield 79, 3) := by decide +kernel
theorem dJ15_length_4 : decode cJ15_length 4 = .ok (.ireturn, 1) := by decide +kernel
def fJ15_length_t30 (e : Nat → Nat) (N : Nat) (m : Mm) (v0 : Option Nat) : Rs (Int32) := gi_ m v0 30 3 (fun x1 => rt_ x1 m)
abbrev cJ16_length : ByteArray := prog_46_method_93_code
def yJ16_length : MethodName := ⟨RJ16, "length", "()I"⟩
theorem dJ16_length_0 : decode cJ16_length 0 = .ok (.aload_n 0, 1) := by decide +kernel
theorem dJ16_length_1 : decode cJ16_length 1 = .ok (.invokespecial 343, 3) := by decide +kernel
theorem dJ16_length_4 : decode cJ16_length 4 = .ok (.ireturn, 1) := by decide +kernel
def fJ16_length (e : Nat → Nat) (N : Nat) (m : Mm) (v0 : Option Nat) : Rs (Int32) := ck_ m v0 30 (bd_ (fJ15_length_t30 e N m v0) (fun x1 m1 => rt_ x1 m1))
abbrev cJ14_init_2 : ByteArray := prog_45_method_150_code
def yJ14_init_2 : MethodName := ⟨RJ14, "<init>", "(Ljava/lang/AbstractStringBuilder;Ljava/lang/Void;)V"⟩
def dkwJ14_init_2_4 : List UInt8 := [181, 0, 9, 177]
abbrev dktJ14_init_2_4 : List UInt8 := dkwJ14_init_2_4 ++ []
def dkwJ14_init_2_3 : List UInt8 := [184, 0, 47, 181, 0, 15, 177, 42, 4, 181, 0, 15, 42, 45, 3, 21, 4, 4, 120, 184, 0, 54]
abbrev dktJ14_init_2_3 : List UInt8 := dkwJ14_init_2_3 ++ dktJ14_init_2_4
def dkwJ14_init_2_2 : List UInt8 := [180, 4, 24, 153, 0, 28, 42, 45, 3, 21, 4, 184, 4, 27, 181, 0, 9, 42, 42, 180, 0, 9, 21, 4]
abbrev dktJ14_init_2_2 : List UInt8 := dkwJ14_init_2_2 ++ dktJ14_init_2_3
def dkwJ14_init_2_1 : List UInt8 := [181, 0, 15, 42, 45, 3, 21, 4, 184, 0, 54, 181, 0, 9, 167, 0, 59, 178, 0, 38, 153, 0, 35, 43]
abbrev dktJ14_init_2_1 : List UInt8 := dkwJ14_init_2_1 ++ dktJ14_init_2_2
def dkwJ14_init_2_0 : List UInt8 := [42, 183, 0, 1, 43, 182, 2, 40, 78, 43, 182, 2, 37, 54, 4, 43, 182, 4, 23, 153, 0, 22, 42, 3]
abbrev dktJ14_init_2_0 : List UInt8 := dkwJ14_init_2_0 ++ dktJ14_init_2_1
theorem dksJ14_init_2_0 : cJ14_init_2.data.toList.drop 0 = dktJ14_init_2_0 := by decide +kernel
theorem dksJ14_init_2_1 : cJ14_init_2.data.toList.drop 24 = dktJ14_init_2_1 := dk_seg dksJ14_init_2_0 24 rfl rfl
theorem dksJ14_init_2_2 : cJ14_init_2.data.toList.drop 48 = dktJ14_init_2_2 := dk_seg dksJ14_init_2_1 24 rfl rfl
theorem dksJ14_init_2_3 : cJ14_init_2.data.toList.drop 72 = dktJ14_init_2_3 := dk_seg dksJ14_init_2_2 24 rfl rfl
theorem dksJ14_init_2_4 : cJ14_init_2.data.toList.drop 94 = dktJ14_init_2_4 := dk_seg dksJ14_init_2_3 22 rfl rfl
theorem dJ14_init_2_0 : decode cJ14_init_2 0 = .ok (.aload_n 0, 1) := dk_42 (dk_at dksJ14_init_2_0 0 rfl rfl)
theorem dJ14_init_2_1 : decode cJ14_init_2 1 = .ok (.invokespecial 1, 3) := dk_183 0 1 (dk_at dksJ14_init_2_0 1 rfl rfl)
theorem dJ14_init_2_4 : decode cJ14_init_2 4 = .ok (.aload_n 1, 1) := dk_43 (dk_at dksJ14_init_2_0 4 rfl rfl)
theorem dJ14_init_2_5 : decode cJ14_init_2 5 = .ok (.invokevirtual 552, 3) := dk_182 2 40 (dk_at dksJ14_init_2_0 5 rfl rfl)
theorem dJ14_init_2_8 : decode cJ14_init_2 8 = .ok (.astore_n 3, 1) := dk_78 (dk_at dksJ14_init_2_0 8 rfl rfl)
theorem dJ14_init_2_9 : decode cJ14_init_2 9 = .ok (.aload_n 1, 1) := dk_43 (dk_at dksJ14_init_2_0 9 rfl rfl)
theorem dJ14_init_2_10 : decode cJ14_init_2 10 = .ok (.invokevirtual 549, 3) := dk_182 2 37 (dk_at dksJ14_init_2_0 10 rfl rfl)
theorem dJ14_init_2_13 : decode cJ14_init_2 13 = .ok (.istore 4, 2) := dk_54 4 (dk_at dksJ14_init_2_0 13 rfl rfl)
theorem dJ14_init_2_15 : decode cJ14_init_2 15 = .ok (.aload_n 1, 1) := dk_43 (dk_at dksJ14_init_2_0 15 rfl rfl)
theorem dJ14_init_2_16 : decode cJ14_init_2 16 = .ok (.invokevirtual 1047, 3) := dk_182 4 23 (dk_at dksJ14_init_2_0 16 rfl rfl)
theorem dJ14_init_2_19 : decode cJ14_init_2 19 = .ok (.ifCond .eq 22, 3) := dk_153 0 22 (dk_at dksJ14_init_2_0 19 rfl rfl)
theorem dJ14_init_2_22 : decode cJ14_init_2 22 = .ok (.aload_n 0, 1) := dk_42 (dk_at dksJ14_init_2_0 22 rfl rfl)
theorem dJ14_init_2_23 : decode cJ14_init_2 23 = .ok (.iconst 0, 1) := dk_3 (dk_at dksJ14_init_2_0 23 rfl rfl)
theorem dJ14_init_2_24 : decode cJ14_init_2 24 = .ok (.putfield 15, 3) := dk_181 0 15 (dk_at dksJ14_init_2_1 0 rfl rfl)
theorem dJ14_init_2_27 : decode cJ14_init_2 27 = .ok (.aload_n 0, 1) := dk_42 (dk_at dksJ14_init_2_1 3 rfl rfl)
theorem dJ14_init_2_28 : decode cJ14_init_2 28 = .ok (.aload_n 3, 1) := dk_45 (dk_at dksJ14_init_2_1 4 rfl rfl)
theorem dJ14_init_2_29 : decode cJ14_init_2 29 = .ok (.iconst 0, 1) := dk_3 (dk_at dksJ14_init_2_1 5 rfl rfl)
theorem dJ14_init_2_30 : decode cJ14_init_2 30 = .ok (.iload 4, 2) := dk_21 4 (dk_at dksJ14_init_2_1 6 rfl rfl)
theorem dJ14_init_2_32 : decode cJ14_init_2 32 = .ok (.invokestatic 54, 3) := dk_184 0 54 (dk_at dksJ14_init_2_1 8 rfl rfl)
theorem dJ14_init_2_35 : decode cJ14_init_2 35 = .ok (.putfield 9, 3) := dk_181 0 9 (dk_at dksJ14_init_2_1 11 rfl rfl)
theorem dJ14_init_2_38 : decode cJ14_init_2 38 = .ok (.goto 59, 3) := dk_167 0 59 (dk_at dksJ14_init_2_1 14 rfl rfl)
theorem dJ14_init_2_41 : decode cJ14_init_2 41 = .ok (.getstatic 38, 3) := dk_178 0 38 (dk_at dksJ14_init_2_1 17 rfl rfl)
theorem dJ14_init_2_44 : decode cJ14_init_2 44 = .ok (.ifCond .eq 35, 3) := dk_153 0 35 (dk_at dksJ14_init_2_1 20 rfl rfl)
theorem dJ14_init_2_47 : decode cJ14_init_2 47 = .ok (.aload_n 1, 1) := dk_43 (dk_at dksJ14_init_2_1 23 rfl rfl)
theorem dJ14_init_2_48 : decode cJ14_init_2 48 = .ok (.getfield 1048, 3) := dk_180 4 24 (dk_at dksJ14_init_2_2 0 rfl rfl)
theorem dJ14_init_2_51 : decode cJ14_init_2 51 = .ok (.ifCond .eq 28, 3) := dk_153 0 28 (dk_at dksJ14_init_2_2 3 rfl rfl)
theorem dJ14_init_2_54 : decode cJ14_init_2 54 = .ok (.aload_n 0, 1) := dk_42 (dk_at dksJ14_init_2_2 6 rfl rfl)
theorem dJ14_init_2_55 : decode cJ14_init_2 55 = .ok (.aload_n 3, 1) := dk_45 (dk_at dksJ14_init_2_2 7 rfl rfl)
theorem dJ14_init_2_56 : decode cJ14_init_2 56 = .ok (.iconst 0, 1) := dk_3 (dk_at dksJ14_init_2_2 8 rfl rfl)
theorem dJ14_init_2_57 : decode cJ14_init_2 57 = .ok (.iload 4, 2) := dk_21 4 (dk_at dksJ14_init_2_2 9 rfl rfl)
theorem dJ14_init_2_59 : decode cJ14_init_2 59 = .ok (.invokestatic 1051, 3) := dk_184 4 27 (dk_at dksJ14_init_2_2 11 rfl rfl)
theorem dJ14_init_2_62 : decode cJ14_init_2 62 = .ok (.putfield 9, 3) := dk_181 0 9 (dk_at dksJ14_init_2_2 14 rfl rfl)
theorem dJ14_init_2_65 : decode cJ14_init_2 65 = .ok (.aload_n 0, 1) := dk_42 (dk_at dksJ14_init_2_2 17 rfl rfl)
theorem dJ14_init_2_66 : decode cJ14_init_2 66 = .ok (.aload_n 0, 1) := dk_42 (dk_at dksJ14_init_2_2 18 rfl rfl)
theorem dJ14_init_2_67 : decode cJ14_init_2 67 = .ok (.getfield 9, 3) := dk_180 0 9 (dk_at dksJ14_init_2_2 19 rfl rfl)
theorem dJ14_init_2_70 : decode cJ14_init_2 70 = .ok (.iload 4, 2) := dk_21 4 (dk_at dksJ14_init_2_2 22 rfl rfl)
theorem dJ14_init_2_72 : decode cJ14_init_2 72 = .ok (.invokestatic 47, 3) := dk_184 0 47 (dk_at dksJ14_init_2_3 0 rfl rfl)
theorem dJ14_init_2_75 : decode cJ14_init_2 75 = .ok (.putfield 15, 3) := dk_181 0 15 (dk_at dksJ14_init_2_3 3 rfl rfl)
theorem dJ14_init_2_78 : decode cJ14_init_2 78 = .ok (.return_, 1) := dk_177 (dk_at dksJ14_init_2_3 6 rfl rfl)
theorem dJ14_init_2_79 : decode cJ14_init_2 79 = .ok (.aload_n 0, 1) := dk_42 (dk_at dksJ14_init_2_3 7 rfl rfl)
theorem dJ14_init_2_80 : decode cJ14_init_2 80 = .ok (.iconst 1, 1) := dk_4 (dk_at dksJ14_init_2_3 8 rfl rfl)
theorem dJ14_init_2_81 : decode cJ14_init_2 81 = .ok (.putfield 15, 3) := dk_181 0 15 (dk_at dksJ14_init_2_3 9 rfl rfl)
theorem dJ14_init_2_84 : decode cJ14_init_2 84 = .ok (.aload_n 0, 1) := dk_42 (dk_at dksJ14_init_2_3 12 rfl rfl)
theorem dJ14_init_2_85 : decode cJ14_init_2 85 = .ok (.aload_n 3, 1) := dk_45 (dk_at dksJ14_init_2_3 13 rfl rfl)
theorem dJ14_init_2_86 : decode cJ14_init_2 86 = .ok (.iconst 0, 1) := dk_3 (dk_at dksJ14_init_2_3 14 rfl rfl)
theorem dJ14_init_2_87 : decode cJ14_init_2 87 = .ok (.iload 4, 2) := dk_21 4 (dk_at dksJ14_init_2_3 15 rfl rfl)
theorem dJ14_init_2_89 : decode cJ14_init_2 89 = .ok (.iconst 1, 1) := dk_4 (dk_at dksJ14_init_2_3 17 rfl rfl)
theorem dJ14_init_2_90 : decode cJ14_init_2 90 = .ok (.ishl, 1) := dk_120 (dk_at dksJ14_init_2_3 18 rfl rfl)
theorem dJ14_init_2_91 : decode cJ14_init_2 91 = .ok (.invokestatic 54, 3) := dk_184 0 54 (dk_at dksJ14_init_2_3 19 rfl rfl)
theorem dJ14_init_2_94 : decode cJ14_init_2 94 = .ok (.putfield 9, 3) := dk_181 0 9 (dk_at dksJ14_init_2_4 0 rfl rfl)
theorem dJ14_init_2_97 : decode cJ14_init_2 97 = .ok (.return_, 1) := dk_177 (dk_at dksJ14_init_2_4 3 rfl rfl)
def fJ14_init_2_b97 (e : Nat → Nat) (N : Nat) (m : Mm) : Rs (Unit) := rt_ () m
def fJ14_init_2_b79 (e : Nat → Nat) (N : Nat) (m : Mm) (v0 : Option Nat) (v3 : Option Nat) (v4 : Int32) : Rs (Unit) := wb_ m v0 (pz_ m v0 29 1 1 (fun m1 => bd_ (fJ7_copyOfRange e N m1 v3 0 (v4 <<< (1 &&& 31))) (fun x1 m2 => wb_ m2 v0 (pr_ m2 v0 29 0 x1 (fun m3 => fJ14_init_2_b97 e N m3)))))
def fJ14_init_2 (e : Nat → Nat) (N : Nat) (m : Mm) (v0 : Option Nat) (v1 : Option Nat) (v2 : Option Nat) : Rs (Unit) := ok_ v0 (ck_ m v1 30 (bd_ (fJ15_getValue_t30 e N m v1) (fun x1 m1 => ck_ m1 v1 30 (bd_ (fJ16_length e N m1 v1) (fun x2 m2 => ck_ m2 v1 30 (bd_ (fJ15_isLatin1_t30 e N m2 v1) (fun x3 m3 => if x3 = 0 then (if (1 : Int32) = 0 then (fJ14_init_2_b79 e N m3 v0 x1 x2) else (gi_ m3 v1 30 2 (fun x4 => if x4 = 0 then (fJ14_init_2_b79 e N m3 v0 x1 x2) else (none)))) else (wb_ m3 v0 (pz_ m3 v0 29 1 0 (fun m4 => bd_ (fJ7_copyOfRange e N m4 x1 0 x2) (fun x5 m5 => wb_ m5 v0 (pr_ m5 v0 29 0 x5 (fun m6 => fJ14_init_2_b97 e N m6)))))))))))))
abbrev cJ14_init : ByteArray := prog_45_method_53_code
def yJ14_init : MethodName := ⟨RJ14, "<init>", "(Ljava/lang/StringBuilder;)V"⟩
def dkwJ14_init_0 : List UInt8 := [42, 43, 1, 183, 1, 233, 177]
abbrev dktJ14_init_0 : List UInt8 := dkwJ14_init_0 ++ []
theorem dksJ14_init_0 : cJ14_init.data.toList.drop 0 = dktJ14_init_0 := by decide +kernel
theorem dJ14_init_0 : decode cJ14_init 0 = .ok (.aload_n 0, 1) := dk_42 (dk_at dksJ14_init_0 0 rfl rfl)
theorem dJ14_init_1 : decode cJ14_init 1 = .ok (.aload_n 1, 1) := dk_43 (dk_at dksJ14_init_0 1 rfl rfl)
theorem dJ14_init_2 : decode cJ14_init 2 = .ok (.aconst_null, 1) := dk_1 (dk_at dksJ14_init_0 2 rfl rfl)
theorem dJ14_init_3 : decode cJ14_init 3 = .ok (.invokespecial 489, 3) := dk_183 1 233 (dk_at dksJ14_init_0 3 rfl rfl)
theorem dJ14_init_6 : decode cJ14_init 6 = .ok (.return_, 1) := dk_177 (dk_at dksJ14_init_0 6 rfl rfl)
def fJ14_init (e : Nat → Nat) (N : Nat) (m : Mm) (v0 : Option Nat) (v1 : Option Nat) : Rs (Unit) := ok_ v0 (bd_ (fJ14_init_2 e N m v0 v1 none) (fun _ m1 => rt_ () m1))
abbrev cJ16_toString : ByteArray := prog_46_method_42_code
def yJ16_toString : MethodName := ⟨RJ16, "toString", "()Ljava/lang/String;"⟩
def dkwJ16_toString_0 : List UInt8 := [187, 0, 18, 89, 42, 183, 0, 137, 176]
abbrev dktJ16_toString_0 : List UInt8 := dkwJ16_toString_0 ++ []
theorem dksJ16_toString_0 : cJ16_toString.data.toList.drop 0 = dktJ16_toString_0 := by decide +kernel
theorem dJ16_toString_0 : decode cJ16_toString 0 = .ok (.new 18, 3) := dk_187 0 18 (dk_at dksJ16_toString_0 0 rfl rfl)
theorem dJ16_toString_3 : decode cJ16_toString 3 = .ok (.dup, 1) := dk_89 (dk_at dksJ16_toString_0 3 rfl rfl)
theorem dJ16_toString_4 : decode cJ16_toString 4 = .ok (.aload_n 0, 1) := dk_42 (dk_at dksJ16_toString_0 4 rfl rfl)
theorem dJ16_toString_5 : decode cJ16_toString 5 = .ok (.invokespecial 137, 3) := dk_183 0 137 (dk_at dksJ16_toString_0 5 rfl rfl)
theorem dJ16_toString_8 : decode cJ16_toString 8 = .ok (.areturn, 1) := dk_176 (dk_at dksJ16_toString_0 8 rfl rfl)
def fJ16_toString (e : Nat → Nat) (N : Nat) (m : Mm) (v0 : Option Nat) : Rs (Option Nat) := nw_ m 29 4 (fun x1 m1 => bd_ (fJ14_init e N m1 (some x1) v0) (fun _ m2 => rt_ (some x1) m2))
abbrev cX1_place : ByteArray := prog_1_method_5_code
def yX1_place : MethodName := ⟨RX1, "place", "(IILjava/lang/String;)I"⟩
def dkwX1_place_2 : List UInt8 := [172]
abbrev dktX1_place_2 : List UInt8 := dkwX1_place_2 ++ []
def dkwX1_place_1 : List UInt8 := [182, 0, 91, 44, 182, 0, 91, 18, 95, 182, 0, 91, 26, 182, 0, 97, 182, 0, 100, 183, 0, 104, 191, 26]
abbrev dktX1_place_1 : List UInt8 := dkwX1_place_1 ++ dktX1_place_2
def dkwX1_place_0 : List UInt8 := [26, 155, 0, 8, 26, 27, 161, 0, 39, 187, 0, 84, 89, 187, 0, 86, 89, 183, 0, 88, 18, 89]
abbrev dktX1_place_0 : List UInt8 := dkwX1_place_0 ++ dktX1_place_1
theorem dksX1_place_0 : cX1_place.data.toList.drop 0 = dktX1_place_0 := by decide +kernel
theorem dksX1_place_1 : cX1_place.data.toList.drop 22 = dktX1_place_1 := dk_seg dksX1_place_0 22 rfl rfl
theorem dksX1_place_2 : cX1_place.data.toList.drop 46 = dktX1_place_2 := dk_seg dksX1_place_1 24 rfl rfl
theorem dX1_place_0 : decode cX1_place 0 = .ok (.iload_n 0, 1) := dk_26 (dk_at dksX1_place_0 0 rfl rfl)
theorem dX1_place_1 : decode cX1_place 1 = .ok (.ifCond .lt 8, 3) := dk_155 0 8 (dk_at dksX1_place_0 1 rfl rfl)
theorem dX1_place_4 : decode cX1_place 4 = .ok (.iload_n 0, 1) := dk_26 (dk_at dksX1_place_0 4 rfl rfl)
theorem dX1_place_5 : decode cX1_place 5 = .ok (.iload_n 1, 1) := dk_27 (dk_at dksX1_place_0 5 rfl rfl)
theorem dX1_place_6 : decode cX1_place 6 = .ok (.if_icmp .lt 39, 3) := dk_161 0 39 (dk_at dksX1_place_0 6 rfl rfl)
theorem dX1_place_9 : decode cX1_place 9 = .ok (.new 84, 3) := dk_187 0 84 (dk_at dksX1_place_0 9 rfl rfl)
theorem dX1_place_12 : decode cX1_place 12 = .ok (.dup, 1) := dk_89 (dk_at dksX1_place_0 12 rfl rfl)
theorem dX1_place_13 : decode cX1_place 13 = .ok (.new 86, 3) := dk_187 0 86 (dk_at dksX1_place_0 13 rfl rfl)
theorem dX1_place_16 : decode cX1_place 16 = .ok (.dup, 1) := dk_89 (dk_at dksX1_place_0 16 rfl rfl)
theorem dX1_place_17 : decode cX1_place 17 = .ok (.invokespecial 88, 3) := dk_183 0 88 (dk_at dksX1_place_0 17 rfl rfl)
theorem dX1_place_20 : decode cX1_place 20 = .ok (.ldc 89, 2) := dk_18 89 (dk_at dksX1_place_0 20 rfl rfl)
theorem dX1_place_22 : decode cX1_place 22 = .ok (.invokevirtual 91, 3) := dk_182 0 91 (dk_at dksX1_place_1 0 rfl rfl)
theorem dX1_place_25 : decode cX1_place 25 = .ok (.aload_n 2, 1) := dk_44 (dk_at dksX1_place_1 3 rfl rfl)
theorem dX1_place_26 : decode cX1_place 26 = .ok (.invokevirtual 91, 3) := dk_182 0 91 (dk_at dksX1_place_1 4 rfl rfl)
theorem dX1_place_29 : decode cX1_place 29 = .ok (.ldc 95, 2) := dk_18 95 (dk_at dksX1_place_1 7 rfl rfl)
theorem dX1_place_31 : decode cX1_place 31 = .ok (.invokevirtual 91, 3) := dk_182 0 91 (dk_at dksX1_place_1 9 rfl rfl)
theorem dX1_place_34 : decode cX1_place 34 = .ok (.iload_n 0, 1) := dk_26 (dk_at dksX1_place_1 12 rfl rfl)
theorem dX1_place_35 : decode cX1_place 35 = .ok (.invokevirtual 97, 3) := dk_182 0 97 (dk_at dksX1_place_1 13 rfl rfl)
theorem dX1_place_38 : decode cX1_place 38 = .ok (.invokevirtual 100, 3) := dk_182 0 100 (dk_at dksX1_place_1 16 rfl rfl)
theorem dX1_place_41 : decode cX1_place 41 = .ok (.invokespecial 104, 3) := dk_183 0 104 (dk_at dksX1_place_1 19 rfl rfl)
theorem dX1_place_44 : decode cX1_place 44 = .ok (.athrow, 1) := dk_191 (dk_at dksX1_place_1 22 rfl rfl)
theorem dX1_place_45 : decode cX1_place 45 = .ok (.iload_n 0, 1) := dk_26 (dk_at dksX1_place_1 23 rfl rfl)
theorem dX1_place_46 : decode cX1_place 46 = .ok (.ireturn, 1) := dk_172 (dk_at dksX1_place_2 0 rfl rfl)
def fX1_place_b9 (e : Nat → Nat) (N : Nat) (m : Mm) (v0 : Int32) (v2 : Option Nat) : Rs (Int32 ⊕ Nat) := nx_ m 0 (fun x1 m1 => nw_ m1 30 4 (fun x2 m2 => bd_ (fJ16_init e N m2 (some x2)) (fun _ m3 => ck_ m3 (some x2) 30 (bd_ (fJ16_append e N m3 (some x2) (some (e (100 + 2)))) (fun x3 m4 => ck_ m4 x3 30 (bd_ (fJ16_append e N m4 x3 v2) (fun x4 m5 => ck_ m5 x4 30 (bd_ (fJ16_append e N m5 x4 (some (e (100 + 3)))) (fun x5 m6 => ck_ m6 x5 30 (bd_ (fJ16_append_2 e N m6 x5 v0) (fun x6 m7 => ck_ m7 x6 30 (bd_ (fJ16_toString e N m7 x6) (fun x7 m8 => xi_ m8 x1 0 (fun m9 => at_ m9 (some x1) 0 (.inr 0)))))))))))))))
def fX1_place (e : Nat → Nat) (N : Nat) (m : Mm) (v0 : Int32) (v1 : Int32) (v2 : Option Nat) : Rs (Int32 ⊕ Nat) := if v0 < 0 then (fX1_place_b9 e N m v0 v2) else (if v0 < v1 then (rt_ (.inl v0) m) else (fX1_place_b9 e N m v0 v2))
theorem wX1_must {l : Launch} {g : GG} {E : Me_} (C : Cx_ l g E "MasterTree" cX1_must 2 10) (hret : (eT_ E).sig.returnType = (Option.none : Option Jvm.ClassFile.FieldType)) (h0 : ∀ x ∈ (eC_ E).exceptionTable.toList, False) (hin : (eT_ E).name = "must") (N : Nat) : ∀ (m : Mm) (v0 : Int32) (v1 : Option Nat) (k n : Nat), Sm_ l g E 2 (xe_ en_v) (fX1_must (gE_ g) N m v0 v1) k n 0 [(0, vi_ v0), (1, vr_ v1)] [] m := by
  intro m v0 v1 k n
  unfold fX1_must
  refine s_iload_n C rfl 0 rfl dX1_must_0 1 rfl ?_
  refine s_if_ne C dX1_must_1 13 rfl 4 rfl (fun c_ => ?_) (fun c_ => ?_)
  · refine x_nx C 2 (by decide) q513 q514 q97 dX1_must_4 7 rfl (fun x1 m1 hz_x1 => ?_)
    refine s_dup C rfl dX1_must_7 8 rfl ?_
    refine s_aload_n C rfl 1 rfl dX1_must_8 9 rfl ?_
    refine x_xi2 C q556 hz_x1 (Nat.le_of_ble_eq_true rfl) (Nat.le_of_ble_eq_true rfl) dX1_must_9 12 rfl (fun m2 => ?_)
    exact x_at C h0 2 (by decide) rfl dX1_must_12
  · exact x_vret C hret rfl dX1_must_13
theorem hdX1_must : ((⟨"MasterTree", "must", "(ZLjava/lang/String;)V"⟩ : MethodName)).cls ≠ "java/lang/invoke/MethodHandle" ∧ ((⟨"MasterTree", "must", "(ZLjava/lang/String;)V"⟩ : MethodName)).cls ≠ "java/lang/invoke/VarHandle" ∧ (parseMethodDescriptor ((⟨"MasterTree", "must", "(ZLjava/lang/String;)V"⟩ : MethodName)).desc).map (fun d => d.parameters.length) = some 2 := ⟨by decide +kernel, by decide +kernel, by decide +kernel⟩
theorem ctX1_must {l : Launch} {g : GG} (hst : l.stackTraces = false) (N : Nat) (m : Mm) (v0 : Int32) (v1 : Option Nat) : ∀ v m' k n, fX1_must (gE_ g) N m v0 v1 = some (v, m', k, n) → Ct_ l g (⟨"MasterTree", "must", "(ZLjava/lang/String;)V"⟩ : MethodName) (ws_ (⟨"MasterTree", "must", "(ZLjava/lang/String;)V"⟩ : MethodName) cX1_must 2 (Option.none : Option Jvm.ClassFile.FieldType)) 10 [vi_ v0, vr_ v1] m ((xe_ en_v) v) m' k n :=
  Ct_of (by decide +kernel) rfl hst (Nat.le_of_ble_eq_true rfl) rfl (fun E C hret h0 hin => wX1_must C hret h0 hin N m v0 v1 0 0)
theorem wX5_init {l : Launch} {g : GG} {E : Me_} (C : Cx_ l g E "MasterTree$Attribute" cX5_init 3 10) (hret : (eT_ E).sig.returnType = (Option.none : Option Jvm.ClassFile.FieldType)) (h0 : ∀ x ∈ (eC_ E).exceptionTable.toList, False) (hin : (eT_ E).name = "<init>") (N : Nat) : ∀ (m : Mm) (v0 : Option Nat) (v1 : Int32) (v2 : Int32) (k n : Nat), Sm_ l g E 3 en_v (fX5_init (gE_ g) N m v0 v1 v2) k n 0 [(0, vr_ v0), (1, vi_ v1), (2, vi_ v2)] [] m := by
  intro m v0 v1 v2 k n
  unfold fX5_init
  refine s_aload_n C rfl 0 rfl dX5_init_0 1 rfl ?_
  refine x_ok (fun hb_ => ?_)
  refine x_obj C hb_ q587 q152 q153 (by decide) (Nat.le_of_ble_eq_true rfl) dX5_init_1 4 rfl ?_
  refine s_aload_n C rfl 0 rfl dX5_init_4 5 rfl ?_
  refine s_iload_n C rfl 1 rfl dX5_init_5 6 rfl ?_
  refine x_pzF C hin 4 (RX5, TX5, 2) rfl 0 (Nat.le_of_ble_eq_true rfl) rfl q588 rfl rfl (Or.inl rfl) 5 rfl dX5_init_6 9 rfl (fun m1 => ?_)
  refine s_aload_n C rfl 0 rfl dX5_init_9 10 rfl ?_
  refine s_iload_n C rfl 2 rfl dX5_init_10 11 rfl ?_
  refine x_pzF C hin 4 (RX5, TX5, 2) rfl 1 (Nat.le_of_ble_eq_true rfl) rfl q591 rfl rfl (Or.inl rfl) 5 rfl dX5_init_11 14 rfl (fun m2 => ?_)
  exact x_vret C hret rfl dX5_init_14
theorem hdX5_init : ((⟨"MasterTree$Attribute", "<init>", "(ZZ)V"⟩ : MethodName)).cls ≠ "java/lang/invoke/MethodHandle" ∧ ((⟨"MasterTree$Attribute", "<init>", "(ZZ)V"⟩ : MethodName)).cls ≠ "java/lang/invoke/VarHandle" ∧ (parseMethodDescriptor ((⟨"MasterTree$Attribute", "<init>", "(ZZ)V"⟩ : MethodName)).desc).map (fun d => d.parameters.length) = some 2 := ⟨by decide +kernel, by decide +kernel, by decide +kernel⟩
theorem ctX5_init {l : Launch} {g : GG} (hst : l.stackTraces = false) (N : Nat) (m : Mm) (v0 : Option Nat) (v1 : Int32) (v2 : Int32) : ∀ v m' k n, fX5_init (gE_ g) N m v0 v1 v2 = some (v, m', k, n) → Ct_ l g (⟨"MasterTree$Attribute", "<init>", "(ZZ)V"⟩ : MethodName) (ws_ (⟨"MasterTree$Attribute", "<init>", "(ZZ)V"⟩ : MethodName) cX5_init 3 (Option.none : Option Jvm.ClassFile.FieldType)) 10 [vr_ v0, vi_ v1, vi_ v2] m (en_v v) m' k n :=
  Ct_of (by decide +kernel) rfl hst (Nat.le_of_ble_eq_true rfl) rfl (fun E C hret h0 hin => wX5_init C hret h0 hin N m v0 v1 v2 0 0)
theorem wJ5_newLength_b21 {l : Launch} {g : GG} {E : Me_} (C : Cx_ l g E "jdk/internal/util/ArraysSupport" cJ5_newLength 4 10) (hret : (eT_ E).sig.returnType = (Option.some Jvm.ClassFile.FieldType.int)) (h0 : ∀ x ∈ (eC_ E).exceptionTable.toList, False) (hin : (eT_ E).name = "newLength") (N : Nat) : ∀ (m : Mm) (v0 : Int32) (v1 : Int32) (k n : Nat), Sm_ l g E 4 en_i (fJ5_newLength_b21 (gE_ g) N m v0 v1) k n 21 [(0, vi_ v0), (1, vi_ v1)] [] m := by
  intro m v0 v1 k n
  unfold fJ5_newLength_b21
  refine s_iload_n C rfl 0 rfl dJ5_newLength_21 22 rfl ?_
  refine s_iload_n C rfl 1 rfl dJ5_newLength_22 23 rfl ?_
  exact Sm_none
theorem wJ5_newLength {l : Launch} {g : GG} {E : Me_} (C : Cx_ l g E "jdk/internal/util/ArraysSupport" cJ5_newLength 4 10) (hret : (eT_ E).sig.returnType = (Option.some Jvm.ClassFile.FieldType.int)) (h0 : ∀ x ∈ (eC_ E).exceptionTable.toList, False) (hin : (eT_ E).name = "newLength") (N : Nat) : ∀ (m : Mm) (v0 : Int32) (v1 : Int32) (v2 : Int32) (k n : Nat), Sm_ l g E 4 en_i (fJ5_newLength (gE_ g) N m v0 v1 v2) k n 0 [(0, vi_ v0), (1, vi_ v1), (2, vi_ v2)] [] m := by
  intro m v0 v1 v2 k n
  unfold fJ5_newLength
  refine s_iload_n C rfl 0 rfl dJ5_newLength_0 1 rfl ?_
  refine s_iload_n C rfl 1 rfl dJ5_newLength_1 2 rfl ?_
  refine s_iload_n C rfl 2 rfl dJ5_newLength_2 3 rfl ?_
  refine x_mmax C q370 q371 q90 q372 (Nat.le_of_ble_eq_true rfl) (Nat.le_of_ble_eq_true rfl) dJ5_newLength_3 6 rfl ?_
  refine s_iadd C dJ5_newLength_6 7 rfl ?_
  refine s_istore_n C rfl (Nat.le_of_ble_eq_true rfl) [0, 1] rfl rfl dJ5_newLength_7 8 rfl ?_
  refine s_iconst C 0 rfl dJ5_newLength_8 9 rfl ?_
  refine s_iload_n C rfl 0 rfl dJ5_newLength_9 10 rfl ?_
  refine s_icmp_ge C dJ5_newLength_10 21 rfl 13 rfl (fun c_ => ?_) (fun c_ => ?_)
  · refine s_iload_n C rfl 0 rfl dJ5_newLength_13 14 rfl ?_
    refine s_ldc C 2147483639 q373 dJ5_newLength_14 16 rfl ?_
    refine s_icmp_gt C dJ5_newLength_16 21 rfl 19 rfl (fun c_ => ?_) (fun c_ => ?_)
    · refine Sm_sub [1, 2] rfl ?_
      exact wJ5_newLength_b21 C hret h0 hin N _ _ _ _ _
    · refine s_iload_n C rfl 0 rfl dJ5_newLength_19 20 rfl ?_
      exact x_iret C hret rfl dJ5_newLength_20
  · refine Sm_sub [1, 2] rfl ?_
    exact wJ5_newLength_b21 C hret h0 hin N _ _ _ _ _
theorem hdJ5_newLength : ((⟨"jdk/internal/util/ArraysSupport", "newLength", "(III)I"⟩ : MethodName)).cls ≠ "java/lang/invoke/MethodHandle" ∧ ((⟨"jdk/internal/util/ArraysSupport", "newLength", "(III)I"⟩ : MethodName)).cls ≠ "java/lang/invoke/VarHandle" ∧ (parseMethodDescriptor ((⟨"jdk/internal/util/ArraysSupport", "newLength", "(III)I"⟩ : MethodName)).desc).map (fun d => d.parameters.length) = some 3 := ⟨by decide +kernel, by decide +kernel, by decide +kernel⟩
theorem ctJ5_newLength {l : Launch} {g : GG} (hst : l.stackTraces = false) (N : Nat) (m : Mm) (v0 : Int32) (v1 : Int32) (v2 : Int32) : ∀ v m' k n, fJ5_newLength (gE_ g) N m v0 v1 v2 = some (v, m', k, n) → Ct_ l g (⟨"jdk/internal/util/ArraysSupport", "newLength", "(III)I"⟩ : MethodName) (ws_ (⟨"jdk/internal/util/ArraysSupport", "newLength", "(III)I"⟩ : MethodName) cJ5_newLength 4 (Option.some Jvm.ClassFile.FieldType.int)) 10 [vi_ v0, vi_ v1, vi_ v2] m (en_i v) m' k n :=
  Ct_of (by decide +kernel) rfl hst (Nat.le_of_ble_eq_true rfl) rfl (fun E C hret h0 hin => wJ5_newLength C hret h0 hin N m v0 v1 v2 0 0)
theorem wJ7_copyOf_2 {l : Launch} {g : GG} {E : Me_} (C : Cx_ l g E "java/util/Arrays" cJ7_copyOf_2 4 10) (hret : (eT_ E).sig.returnType = (Option.some (Jvm.ClassFile.FieldType.array (Jvm.ClassFile.FieldType.object "java/lang/Object")))) (h0 : ∀ x ∈ (eC_ E).exceptionTable.toList, False) (hin : (eT_ E).name = "copyOf") (N : Nat) : ∀ (m : Mm) (v0 : Option Nat) (v1 : Int32) (v2 : Option Nat) (k n : Nat), Sm_ l g E 4 en_r (fJ7_copyOf_2 (gE_ g) N m v0 v1 v2) k n 0 [(0, vr_ v0), (1, vi_ v1), (2, vr_ v2)] [] m := by
  intro m v0 v1 v2 k n
  unfold fJ7_copyOf_2
  refine s_aload_n C rfl 2 rfl dJ7_copyOf_2_0 1 rfl ?_
  refine x_lm C q434 dJ7_copyOf_2_1 3 rfl ?_
  refine s_acmp_ne C dJ7_copyOf_2_3 13 rfl 6 rfl (fun c_ => ?_) (fun c_ => ?_)
  · refine s_iload_n C rfl 1 rfl dJ7_copyOf_2_6 7 rfl ?_
    refine x_nq C 4 "java/lang/Object" rfl q436 C.2.2.2.2.2.2.1.2.2.2.1.1 204 rfl dJ7_copyOf_2_7 10 rfl (fun x1 m1 => ?_)
    refine s_goto C (off := 14) 24 dJ7_copyOf_2_10 rfl ?_
    refine s_astore_n C rfl (Nat.le_of_ble_eq_true rfl) [0, 1] rfl rfl dJ7_copyOf_2_24 25 rfl ?_
    refine s_aload_n C rfl 1 rfl dJ7_copyOf_2_25 26 rfl ?_
    refine s_iconst C 0 rfl dJ7_copyOf_2_26 27 rfl ?_
    refine s_aload_n C rfl 0 rfl dJ7_copyOf_2_27 28 rfl ?_
    refine s_iconst C 0 rfl dJ7_copyOf_2_28 29 rfl ?_
    refine s_aload_n C rfl 1 rfl dJ7_copyOf_2_29 30 rfl ?_
    refine x_ln C 4 (.object "java/lang/Object") rfl 204 rfl dJ7_copyOf_2_30 31 rfl (fun x2 => ?_)
    refine s_iload_n C rfl 2 rfl dJ7_copyOf_2_31 32 rfl ?_
    refine x_mmin C q437 q438 q90 q439 (Nat.le_of_ble_eq_true rfl) (Nat.le_of_ble_eq_true rfl) dJ7_copyOf_2_32 35 rfl ?_
    refine x_ac C q440 q442 q441 q92 (Nat.le_of_ble_eq_true rfl) (Nat.le_of_ble_eq_true rfl) dJ7_copyOf_2_35 38 rfl (fun m2 => ?_)
    refine s_aload_n C rfl 0 rfl dJ7_copyOf_2_38 39 rfl ?_
    exact x_aret C hret (Or.inr ⟨_, rfl⟩) rfl dJ7_copyOf_2_39
  · refine s_aload_n C rfl 2 rfl dJ7_copyOf_2_13 14 rfl ?_
    exact Sm_none
theorem hdJ7_copyOf_2 : ((⟨"java/util/Arrays", "copyOf", "([Ljava/lang/Object;ILjava/lang/Class;)[Ljava/lang/Object;"⟩ : MethodName)).cls ≠ "java/lang/invoke/MethodHandle" ∧ ((⟨"java/util/Arrays", "copyOf", "([Ljava/lang/Object;ILjava/lang/Class;)[Ljava/lang/Object;"⟩ : MethodName)).cls ≠ "java/lang/invoke/VarHandle" ∧ (parseMethodDescriptor ((⟨"java/util/Arrays", "copyOf", "([Ljava/lang/Object;ILjava/lang/Class;)[Ljava/lang/Object;"⟩ : MethodName)).desc).map (fun d => d.parameters.length) = some 3 := ⟨by decide +kernel, by decide +kernel, by decide +kernel⟩
theorem ctJ7_copyOf_2 {l : Launch} {g : GG} (hst : l.stackTraces = false) (N : Nat) (m : Mm) (v0 : Option Nat) (v1 : Int32) (v2 : Option Nat) : ∀ v m' k n, fJ7_copyOf_2 (gE_ g) N m v0 v1 v2 = some (v, m', k, n) → Ct_ l g (⟨"java/util/Arrays", "copyOf", "([Ljava/lang/Object;ILjava/lang/Class;)[Ljava/lang/Object;"⟩ : MethodName) (ws_ (⟨"java/util/Arrays", "copyOf", "([Ljava/lang/Object;ILjava/lang/Class;)[Ljava/lang/Object;"⟩ : MethodName) cJ7_copyOf_2 4 (Option.some (Jvm.ClassFile.FieldType.array (Jvm.ClassFile.FieldType.object "java/lang/Object")))) 10 [vr_ v0, vi_ v1, vr_ v2] m (en_r v) m' k n :=
  Ct_of (by decide +kernel) rfl hst (Nat.le_of_ble_eq_true rfl) rfl (fun E C hret h0 hin => wJ7_copyOf_2 C hret h0 hin N m v0 v1 v2 0 0)
theorem wJ7_copyOf {l : Launch} {g : GG} {E : Me_} (C : Cx_ l g E "java/util/Arrays" cJ7_copyOf 2 11) (hret : (eT_ E).sig.returnType = (Option.some (Jvm.ClassFile.FieldType.array (Jvm.ClassFile.FieldType.object "java/lang/Object")))) (h0 : ∀ x ∈ (eC_ E).exceptionTable.toList, False) (hin : (eT_ E).name = "copyOf") (N : Nat) : ∀ (m : Mm) (v0 : Option Nat) (v1 : Int32) (k n : Nat), Sm_ l g E 2 en_r (fJ7_copyOf (gE_ g) N m v0 v1) k n 0 [(0, vr_ v0), (1, vi_ v1)] [] m := by
  intro m v0 v1 k n
  unfold fJ7_copyOf
  refine s_aload_n C rfl 0 rfl dJ7_copyOf_0 1 rfl ?_
  refine s_iload_n C rfl 1 rfl dJ7_copyOf_1 2 rfl ?_
  refine s_aload_n C rfl 0 rfl dJ7_copyOf_2 3 rfl ?_
  refine x_gc C q380 (Nat.le_of_ble_eq_true rfl) (Nat.le_of_ble_eq_true rfl) dJ7_copyOf_3 6 rfl ?_
  refine x_callS (enc := en_r) C 10 3 [vr_ v0, vi_ v1, vr_ (some (gE_ g 99))] (ctJ7_copyOf_2 C.2.2.2.2.2.2.2.2.1 N m v0 v1 (some (gE_ g 99))) q431 q432 q91 q433 hdJ7_copyOf_2 (Nat.le_of_ble_eq_true rfl) (Nat.le_of_ble_eq_true rfl) rfl (Nat.le_of_ble_eq_true rfl) dJ7_copyOf_6 9 rfl rfl hen_r (kk_r (fun x1 m1 k1 n1 => ?_)) (kx_n he_r)
  exact x_aret C hret (Or.inr ⟨_, rfl⟩) rfl dJ7_copyOf_9
theorem hdJ7_copyOf : ((⟨"java/util/Arrays", "copyOf", "([Ljava/lang/Object;I)[Ljava/lang/Object;"⟩ : MethodName)).cls ≠ "java/lang/invoke/MethodHandle" ∧ ((⟨"java/util/Arrays", "copyOf", "([Ljava/lang/Object;I)[Ljava/lang/Object;"⟩ : MethodName)).cls ≠ "java/lang/invoke/VarHandle" ∧ (parseMethodDescriptor ((⟨"java/util/Arrays", "copyOf", "([Ljava/lang/Object;I)[Ljava/lang/Object;"⟩ : MethodName)).desc).map (fun d => d.parameters.length) = some 2 := ⟨by decide +kernel, by decide +kernel, by decide +kernel⟩
theorem ctJ7_copyOf {l : Launch} {g : GG} (hst : l.stackTraces = false) (N : Nat) (m : Mm) (v0 : Option Nat) (v1 : Int32) : ∀ v m' k n, fJ7_copyOf (gE_ g) N m v0 v1 = some (v, m', k, n) → Ct_ l g (⟨"java/util/Arrays", "copyOf", "([Ljava/lang/Object;I)[Ljava/lang/Object;"⟩ : MethodName) (ws_ (⟨"java/util/Arrays", "copyOf", "([Ljava/lang/Object;I)[Ljava/lang/Object;"⟩ : MethodName) cJ7_copyOf 2 (Option.some (Jvm.ClassFile.FieldType.array (Jvm.ClassFile.FieldType.object "java/lang/Object")))) 11 [vr_ v0, vi_ v1] m (en_r v) m' k n :=
  Ct_of (by decide +kernel) rfl hst (Nat.le_of_ble_eq_true rfl) rfl (fun E C hret h0 hin => wJ7_copyOf C hret h0 hin N m v0 v1 0 0)
theorem wJ2_grow_2_b20 {l : Launch} {g : GG} {E : Me_} (C : Cx_ l g E "java/util/ArrayList" cJ2_grow_2 4 12) (hret : (eT_ E).sig.returnType = (Option.some (Jvm.ClassFile.FieldType.array (Jvm.ClassFile.FieldType.object "java/lang/Object")))) (h0 : ∀ x ∈ (eC_ E).exceptionTable.toList, False) (hin : (eT_ E).name = "grow") (N : Nat) : ∀ (m : Mm) (v0 : Option Nat) (v1 : Int32) (v2 : Int32) (k n : Nat), Sm_ l g E 4 en_r (fJ2_grow_2_b20 (gE_ g) N m v0 v1 v2) k n 20 [(0, vr_ v0), (1, vi_ v1), (2, vi_ v2)] [] m := by
  intro m v0 v1 v2 k n
  unfold fJ2_grow_2_b20
  refine s_iload_n C rfl 2 rfl dJ2_grow_2_20 21 rfl ?_
  refine s_iload_n C rfl 1 rfl dJ2_grow_2_21 22 rfl ?_
  refine s_iload_n C rfl 2 rfl dJ2_grow_2_22 23 rfl ?_
  refine s_isub C dJ2_grow_2_23 24 rfl ?_
  refine s_iload_n C rfl 2 rfl dJ2_grow_2_24 25 rfl ?_
  refine s_iconst C 1 rfl dJ2_grow_2_25 26 rfl ?_
  refine s_ishr C dJ2_grow_2_26 27 rfl ?_
  refine x_callS (enc := en_i) C 10 3 [vi_ v2, vi_ (v1 - v2), vi_ (v2 >>> (1 &&& 31))] (ctJ5_newLength C.2.2.2.2.2.2.2.2.1 N m v2 (v1 - v2) (v2 >>> (1 &&& 31))) q367 q368 q89 q369 hdJ5_newLength (Nat.le_of_ble_eq_true rfl) (Nat.le_of_ble_eq_true rfl) rfl (Nat.le_of_ble_eq_true rfl) dJ2_grow_2_27 30 rfl rfl hen_i (kk_i (fun x1 m1 k1 n1 => ?_)) (kx_n he_i)
  refine s_istore_n C rfl (Nat.le_of_ble_eq_true rfl) [0] rfl rfl dJ2_grow_2_30 31 rfl ?_
  refine s_aload_n C rfl 1 rfl dJ2_grow_2_31 32 rfl ?_
  refine s_aload_n C rfl 1 rfl dJ2_grow_2_32 33 rfl ?_
  refine x_gr C 12 (RJ2, TJ2, 3) rfl 1 (Nat.le_of_ble_eq_true rfl) q168 (Or.inl rfl) rfl 13 rfl dJ2_grow_2_33 36 rfl (fun x2 => ?_)
  refine s_iload_n C rfl 0 rfl dJ2_grow_2_36 37 rfl ?_
  refine x_callS (enc := en_r) C 11 2 [vr_ x2, vi_ x1] (ctJ7_copyOf C.2.2.2.2.2.2.2.2.1 N m1 x2 x1) q377 q378 q91 q379 hdJ7_copyOf (Nat.le_of_ble_eq_true rfl) (Nat.le_of_ble_eq_true rfl) rfl (Nat.le_of_ble_eq_true rfl) dJ2_grow_2_37 40 rfl rfl hen_r (kk_r (fun x3 m2 k1 n1 => ?_)) (kx_n he_r)
  refine s_dup_x1 C rfl rfl dJ2_grow_2_40 41 rfl ?_
  refine x_pr C 12 (RJ2, TJ2, 3) rfl 1 (Nat.le_of_ble_eq_true rfl) rfl q168 (Or.inl rfl) rfl trivial 13 rfl dJ2_grow_2_41 44 rfl (fun m3 => ?_)
  exact x_aret C hret (Or.inr ⟨_, rfl⟩) rfl dJ2_grow_2_44
theorem wJ2_grow_2 {l : Launch} {g : GG} {E : Me_} (C : Cx_ l g E "java/util/ArrayList" cJ2_grow_2 4 12) (hret : (eT_ E).sig.returnType = (Option.some (Jvm.ClassFile.FieldType.array (Jvm.ClassFile.FieldType.object "java/lang/Object")))) (h0 : ∀ x ∈ (eC_ E).exceptionTable.toList, False) (hin : (eT_ E).name = "grow") (N : Nat) : ∀ (m : Mm) (v0 : Option Nat) (v1 : Int32) (k n : Nat), Sm_ l g E 4 en_r (fJ2_grow_2 (gE_ g) N m v0 v1) k n 0 [(0, vr_ v0), (1, vi_ v1)] [] m := by
  intro m v0 v1 k n
  unfold fJ2_grow_2
  refine s_aload_n C rfl 0 rfl dJ2_grow_2_0 1 rfl ?_
  refine x_gr C 12 (RJ2, TJ2, 3) rfl 1 (Nat.le_of_ble_eq_true rfl) q168 (Or.inl rfl) rfl 13 rfl dJ2_grow_2_1 4 rfl (fun x1 => ?_)
  refine x_ln C 4 (.object "java/lang/Object") rfl 204 rfl dJ2_grow_2_4 5 rfl (fun x2 => ?_)
  refine s_istore_n C rfl (Nat.le_of_ble_eq_true rfl) [0, 1] rfl rfl dJ2_grow_2_5 6 rfl ?_
  refine s_iload_n C rfl 0 rfl dJ2_grow_2_6 7 rfl ?_
  refine s_if_gt C dJ2_grow_2_7 20 rfl 10 rfl (fun c_ => ?_) (fun c_ => ?_)
  · refine Sm_sub [1, 2, 0] rfl ?_
    exact wJ2_grow_2_b20 C hret h0 hin N _ _ _ _ _ _
  · refine s_aload_n C rfl 1 rfl dJ2_grow_2_10 11 rfl ?_
    refine x_gr C 12 (RJ2, TJ2, 3) rfl 1 (Nat.le_of_ble_eq_true rfl) q168 (Or.inl rfl) rfl 13 rfl dJ2_grow_2_11 14 rfl (fun x3 => ?_)
    refine x_gs C 0 (vr_ (some (gE_ g 0))) rfl q166 rfl dJ2_grow_2_14 17 rfl ?_
    refine s_acmp_eq C dJ2_grow_2_17 45 rfl 20 rfl (fun c_ => ?_) (fun c_ => ?_)
    · refine s_aload_n C rfl 1 rfl dJ2_grow_2_45 46 rfl ?_
      refine s_bipush C 10 rfl dJ2_grow_2_46 48 rfl ?_
      refine s_iload_n C rfl 2 rfl dJ2_grow_2_48 49 rfl ?_
      refine x_mmax C q443 q371 q90 q372 (Nat.le_of_ble_eq_true rfl) (Nat.le_of_ble_eq_true rfl) dJ2_grow_2_49 52 rfl ?_
      refine x_nq C 4 "java/lang/Object" rfl q444 C.2.2.2.2.2.2.1.2.2.2.1.1 204 rfl dJ2_grow_2_52 55 rfl (fun x4 m1 => ?_)
      refine s_dup_x1 C rfl rfl dJ2_grow_2_55 56 rfl ?_
      refine x_pr C 12 (RJ2, TJ2, 3) rfl 1 (Nat.le_of_ble_eq_true rfl) rfl q168 (Or.inl rfl) rfl trivial 13 rfl dJ2_grow_2_56 59 rfl (fun m2 => ?_)
      exact x_aret C hret (Or.inr ⟨_, rfl⟩) rfl dJ2_grow_2_59
    · refine Sm_sub [1, 2, 0] rfl ?_
      exact wJ2_grow_2_b20 C hret h0 hin N _ _ _ _ _ _
theorem hdJ2_grow_2 : ((⟨"java/util/ArrayList", "grow", "(I)[Ljava/lang/Object;"⟩ : MethodName)).cls ≠ "java/lang/invoke/MethodHandle" ∧ ((⟨"java/util/ArrayList", "grow", "(I)[Ljava/lang/Object;"⟩ : MethodName)).cls ≠ "java/lang/invoke/VarHandle" ∧ (parseMethodDescriptor ((⟨"java/util/ArrayList", "grow", "(I)[Ljava/lang/Object;"⟩ : MethodName)).desc).map (fun d => d.parameters.length) = some 1 := ⟨by decide +kernel, by decide +kernel, by decide +kernel⟩
theorem ctJ2_grow_2 {l : Launch} {g : GG} (hst : l.stackTraces = false) (N : Nat) (m : Mm) (v0 : Option Nat) (v1 : Int32) : ∀ v m' k n, fJ2_grow_2 (gE_ g) N m v0 v1 = some (v, m', k, n) → Ct_ l g (⟨"java/util/ArrayList", "grow", "(I)[Ljava/lang/Object;"⟩ : MethodName) (ws_ (⟨"java/util/ArrayList", "grow", "(I)[Ljava/lang/Object;"⟩ : MethodName) cJ2_grow_2 4 (Option.some (Jvm.ClassFile.FieldType.array (Jvm.ClassFile.FieldType.object "java/lang/Object")))) 12 [vr_ v0, vi_ v1] m (en_r v) m' k n :=
  Ct_of (by decide +kernel) rfl hst (Nat.le_of_ble_eq_true rfl) rfl (fun E C hret h0 hin => wJ2_grow_2 C hret h0 hin N m v0 v1 0 0)
theorem wJ2_grow {l : Launch} {g : GG} {E : Me_} (C : Cx_ l g E "java/util/ArrayList" cJ2_grow 1 13) (hret : (eT_ E).sig.returnType = (Option.some (Jvm.ClassFile.FieldType.array (Jvm.ClassFile.FieldType.object "java/lang/Object")))) (h0 : ∀ x ∈ (eC_ E).exceptionTable.toList, False) (hin : (eT_ E).name = "grow") (N : Nat) : ∀ (m : Mm) (v0 : Option Nat) (k n : Nat), Sm_ l g E 1 en_r (fJ2_grow (gE_ g) N m v0) k n 0 [(0, vr_ v0)] [] m := by
  intro m v0 k n
  unfold fJ2_grow
  refine s_aload_n C rfl 0 rfl dJ2_grow_0 1 rfl ?_
  refine s_aload_n C rfl 0 rfl dJ2_grow_1 2 rfl ?_
  refine x_gi C 12 (RJ2, TJ2, 3) rfl 2 (Nat.le_of_ble_eq_true rfl) q171 (Or.inl rfl) rfl 13 rfl dJ2_grow_2 5 rfl (fun x1 => ?_)
  refine s_iconst C 1 rfl dJ2_grow_5 6 rfl ?_
  refine s_iadd C dJ2_grow_6 7 rfl ?_
  refine x_ck (fun hb_ hb0_ => ?_)
  refine x_callV (enc := en_r) C 12 1 [vi_ (x1 + 1)] 13 (ctJ2_grow_2 C.2.2.2.2.2.2.2.2.1 N m v0 (x1 + 1)) hb_ hb0_ rfl rfl q363 q365 qs2 q84 q366 hdJ2_grow_2 (Nat.le_of_ble_eq_true rfl) (Nat.le_of_ble_eq_true rfl) rfl (Nat.le_of_ble_eq_true rfl) dJ2_grow_7 10 rfl rfl hen_r (kk_r (fun x2 m1 k1 n1 => ?_)) (kx_n he_r)
  exact x_aret C hret (Or.inr ⟨_, rfl⟩) rfl dJ2_grow_10
theorem hdJ2_grow : ((⟨"java/util/ArrayList", "grow", "()[Ljava/lang/Object;"⟩ : MethodName)).cls ≠ "java/lang/invoke/MethodHandle" ∧ ((⟨"java/util/ArrayList", "grow", "()[Ljava/lang/Object;"⟩ : MethodName)).cls ≠ "java/lang/invoke/VarHandle" ∧ (parseMethodDescriptor ((⟨"java/util/ArrayList", "grow", "()[Ljava/lang/Object;"⟩ : MethodName)).desc).map (fun d => d.parameters.length) = some 0 := ⟨by decide +kernel, by decide +kernel, by decide +kernel⟩
theorem ctJ2_grow {l : Launch} {g : GG} (hst : l.stackTraces = false) (N : Nat) (m : Mm) (v0 : Option Nat) : ∀ v m' k n, fJ2_grow (gE_ g) N m v0 = some (v, m', k, n) → Ct_ l g (⟨"java/util/ArrayList", "grow", "()[Ljava/lang/Object;"⟩ : MethodName) (ws_ (⟨"java/util/ArrayList", "grow", "()[Ljava/lang/Object;"⟩ : MethodName) cJ2_grow 1 (Option.some (Jvm.ClassFile.FieldType.array (Jvm.ClassFile.FieldType.object "java/lang/Object")))) 13 [vr_ v0] m (en_r v) m' k n :=
  Ct_of (by decide +kernel) rfl hst (Nat.le_of_ble_eq_true rfl) rfl (fun E C hret h0 hin => wJ2_grow C hret h0 hin N m v0 0 0)
theorem wJ2_add_2_b11 {l : Launch} {g : GG} {E : Me_} (C : Cx_ l g E "java/util/ArrayList" cJ2_add_2 4 14) (hret : (eT_ E).sig.returnType = (Option.none : Option Jvm.ClassFile.FieldType)) (h0 : ∀ x ∈ (eC_ E).exceptionTable.toList, False) (hin : (eT_ E).name = "add") (N : Nat) : ∀ (m : Mm) (v0 : Option Nat) (v1 : Option Nat) (v2 : Option Nat) (v3 : Int32) (k n : Nat), Sm_ l g E 4 en_v (fJ2_add_2_b11 (gE_ g) N m v0 v1 v2 v3) k n 11 [(0, vr_ v0), (1, vr_ v1), (2, vr_ v2), (3, vi_ v3)] [] m := by
  intro m v0 v1 v2 v3 k n
  unfold fJ2_add_2_b11
  refine s_aload_n C rfl 2 rfl dJ2_add_2_11 12 rfl ?_
  refine s_iload_n C rfl 3 rfl dJ2_add_2_12 13 rfl ?_
  refine s_aload_n C rfl 1 rfl dJ2_add_2_13 14 rfl ?_
  refine x_br C 4 "java/lang/Object" rfl _ caO 204 rfl dJ2_add_2_14 15 rfl (fun m1 => ?_)
  refine s_aload_n C rfl 0 rfl dJ2_add_2_15 16 rfl ?_
  refine s_iload_n C rfl 3 rfl dJ2_add_2_16 17 rfl ?_
  refine s_iconst C 1 rfl dJ2_add_2_17 18 rfl ?_
  refine s_iadd C dJ2_add_2_18 19 rfl ?_
  refine x_pi C 12 (RJ2, TJ2, 3) rfl 2 (Nat.le_of_ble_eq_true rfl) rfl q171 (Or.inl rfl) rfl trivial 13 rfl dJ2_add_2_19 22 rfl (fun m2 => ?_)
  exact x_vret C hret rfl dJ2_add_2_22
theorem wJ2_add_2 {l : Launch} {g : GG} {E : Me_} (C : Cx_ l g E "java/util/ArrayList" cJ2_add_2 4 14) (hret : (eT_ E).sig.returnType = (Option.none : Option Jvm.ClassFile.FieldType)) (h0 : ∀ x ∈ (eC_ E).exceptionTable.toList, False) (hin : (eT_ E).name = "add") (N : Nat) : ∀ (m : Mm) (v0 : Option Nat) (v1 : Option Nat) (v2 : Option Nat) (v3 : Int32) (k n : Nat), Sm_ l g E 4 en_v (fJ2_add_2 (gE_ g) N m v0 v1 v2 v3) k n 0 [(0, vr_ v0), (1, vr_ v1), (2, vr_ v2), (3, vi_ v3)] [] m := by
  intro m v0 v1 v2 v3 k n
  unfold fJ2_add_2
  refine s_iload_n C rfl 3 rfl dJ2_add_2_0 1 rfl ?_
  refine s_aload_n C rfl 2 rfl dJ2_add_2_1 2 rfl ?_
  refine x_ln C 4 (.object "java/lang/Object") rfl 204 rfl dJ2_add_2_2 3 rfl (fun x1 => ?_)
  refine s_icmp_ne C dJ2_add_2_3 11 rfl 6 rfl (fun c_ => ?_) (fun c_ => ?_)
  · refine s_aload_n C rfl 0 rfl dJ2_add_2_6 7 rfl ?_
    refine x_ck (fun hb_ hb0_ => ?_)
    refine x_callV (enc := en_r) C 13 0 [] 13 (ctJ2_grow C.2.2.2.2.2.2.2.2.1 N m v0) hb_ hb0_ rfl rfl q359 q361 qs1 q84 q362 hdJ2_grow (Nat.le_of_ble_eq_true rfl) (Nat.le_of_ble_eq_true rfl) rfl (Nat.le_of_ble_eq_true rfl) dJ2_add_2_7 10 rfl rfl hen_r (kk_r (fun x2 m1 k1 n1 => ?_)) (kx_n he_r)
    refine s_astore_n C rfl (Nat.le_of_ble_eq_true rfl) [0, 1, 3] rfl rfl dJ2_add_2_10 11 rfl ?_
    refine Sm_sub [1, 2, 0, 3] rfl ?_
    exact wJ2_add_2_b11 C hret h0 hin N _ _ _ _ _ _ _
  · exact wJ2_add_2_b11 C hret h0 hin N _ _ _ _ _ _ _
theorem hdJ2_add_2 : ((⟨"java/util/ArrayList", "add", "(Ljava/lang/Object;[Ljava/lang/Object;I)V"⟩ : MethodName)).cls ≠ "java/lang/invoke/MethodHandle" ∧ ((⟨"java/util/ArrayList", "add", "(Ljava/lang/Object;[Ljava/lang/Object;I)V"⟩ : MethodName)).cls ≠ "java/lang/invoke/VarHandle" ∧ (parseMethodDescriptor ((⟨"java/util/ArrayList", "add", "(Ljava/lang/Object;[Ljava/lang/Object;I)V"⟩ : MethodName)).desc).map (fun d => d.parameters.length) = some 3 := ⟨by decide +kernel, by decide +kernel, by decide +kernel⟩
theorem ctJ2_add_2 {l : Launch} {g : GG} (hst : l.stackTraces = false) (N : Nat) (m : Mm) (v0 : Option Nat) (v1 : Option Nat) (v2 : Option Nat) (v3 : Int32) : ∀ v m' k n, fJ2_add_2 (gE_ g) N m v0 v1 v2 v3 = some (v, m', k, n) → Ct_ l g (⟨"java/util/ArrayList", "add", "(Ljava/lang/Object;[Ljava/lang/Object;I)V"⟩ : MethodName) (ws_ (⟨"java/util/ArrayList", "add", "(Ljava/lang/Object;[Ljava/lang/Object;I)V"⟩ : MethodName) cJ2_add_2 4 (Option.none : Option Jvm.ClassFile.FieldType)) 14 [vr_ v0, vr_ v1, vr_ v2, vi_ v3] m (en_v v) m' k n :=
  Ct_of (by decide +kernel) rfl hst (Nat.le_of_ble_eq_true rfl) rfl (fun E C hret h0 hin => wJ2_add_2 C hret h0 hin N m v0 v1 v2 v3 0 0)
theorem wJ2_add {l : Launch} {g : GG} {E : Me_} (C : Cx_ l g E "java/util/ArrayList" cJ2_add 2 15) (hret : (eT_ E).sig.returnType = (Option.some Jvm.ClassFile.FieldType.boolean)) (h0 : ∀ x ∈ (eC_ E).exceptionTable.toList, False) (hin : (eT_ E).name = "add") (N : Nat) : ∀ (m : Mm) (v0 : Option Nat) (v1 : Option Nat) (k n : Nat), Sm_ l g E 2 en_i (fJ2_add (gE_ g) N m v0 v1) k n 0 [(0, vr_ v0), (1, vr_ v1)] [] m := by
  intro m v0 v1 k n
  unfold fJ2_add
  refine s_aload_n C rfl 0 rfl dJ2_add_0 1 rfl ?_
  refine s_dup C rfl dJ2_add_1 2 rfl ?_
  refine x_gi C 12 (RJ2, TJ2, 3) rfl 0 (Nat.le_of_ble_eq_true rfl) q175 (Or.inr q174) rfl 13 rfl dJ2_add_2 5 rfl (fun x1 => ?_)
  refine s_iconst C 1 rfl dJ2_add_5 6 rfl ?_
  refine s_iadd C dJ2_add_6 7 rfl ?_
  refine x_pi C 12 (RJ2, TJ2, 3) rfl 0 (Nat.le_of_ble_eq_true rfl) rfl q175 (Or.inr q174) rfl trivial 13 rfl dJ2_add_7 10 rfl (fun m1 => ?_)
  refine s_aload_n C rfl 0 rfl dJ2_add_10 11 rfl ?_
  refine s_aload_n C rfl 1 rfl dJ2_add_11 12 rfl ?_
  refine s_aload_n C rfl 0 rfl dJ2_add_12 13 rfl ?_
  refine x_gr C 12 (RJ2, TJ2, 3) rfl 1 (Nat.le_of_ble_eq_true rfl) q168 (Or.inl rfl) rfl 13 rfl dJ2_add_13 16 rfl (fun x2 => ?_)
  refine s_aload_n C rfl 0 rfl dJ2_add_16 17 rfl ?_
  refine x_gi C 12 (RJ2, TJ2, 3) rfl 2 (Nat.le_of_ble_eq_true rfl) q171 (Or.inl rfl) rfl 13 rfl dJ2_add_17 20 rfl (fun x3 => ?_)
  refine x_ck (fun hb_ hb0_ => ?_)
  refine x_callV (enc := en_v) C 14 3 [vr_ v1, vr_ x2, vi_ x3] 13 (ctJ2_add_2 C.2.2.2.2.2.2.2.2.1 N m1 v0 v1 x2 x3) hb_ hb0_ rfl rfl q355 q357 qs0 q84 q358 hdJ2_add_2 (Nat.le_of_ble_eq_true rfl) (Nat.le_of_ble_eq_true rfl) rfl (Nat.le_of_ble_eq_true rfl) dJ2_add_20 23 rfl rfl hen_v (kk_v (fun m2 k1 n1 => ?_)) (kx_n he_v)
  refine s_iconst C 1 rfl dJ2_add_23 24 rfl ?_
  exact x_zret0 C hret (by decide) rfl dJ2_add_24
theorem hdJ2_add : ((⟨"java/util/ArrayList", "add", "(Ljava/lang/Object;)Z"⟩ : MethodName)).cls ≠ "java/lang/invoke/MethodHandle" ∧ ((⟨"java/util/ArrayList", "add", "(Ljava/lang/Object;)Z"⟩ : MethodName)).cls ≠ "java/lang/invoke/VarHandle" ∧ (parseMethodDescriptor ((⟨"java/util/ArrayList", "add", "(Ljava/lang/Object;)Z"⟩ : MethodName)).desc).map (fun d => d.parameters.length) = some 1 := ⟨by decide +kernel, by decide +kernel, by decide +kernel⟩
theorem ctJ2_add {l : Launch} {g : GG} (hst : l.stackTraces = false) (N : Nat) (m : Mm) (v0 : Option Nat) (v1 : Option Nat) : ∀ v m' k n, fJ2_add (gE_ g) N m v0 v1 = some (v, m', k, n) → Ct_ l g (⟨"java/util/ArrayList", "add", "(Ljava/lang/Object;)Z"⟩ : MethodName) (ws_ (⟨"java/util/ArrayList", "add", "(Ljava/lang/Object;)Z"⟩ : MethodName) cJ2_add 2 (Option.some Jvm.ClassFile.FieldType.boolean)) 15 [vr_ v0, vr_ v1] m (en_i v) m' k n :=
  Ct_of (by decide +kernel) rfl hst (Nat.le_of_ble_eq_true rfl) rfl (fun E C hret h0 hin => wJ2_add C hret h0 hin N m v0 v1 0 0)
theorem wJ2_size {l : Launch} {g : GG} {E : Me_} (C : Cx_ l g E "java/util/ArrayList" cJ2_size 1 10) (hret : (eT_ E).sig.returnType = (Option.some Jvm.ClassFile.FieldType.int)) (h0 : ∀ x ∈ (eC_ E).exceptionTable.toList, False) (hin : (eT_ E).name = "size") (N : Nat) : ∀ (m : Mm) (v0 : Option Nat) (k n : Nat), Sm_ l g E 1 en_i (fJ2_size (gE_ g) N m v0) k n 0 [(0, vr_ v0)] [] m := by
  intro m v0 k n
  unfold fJ2_size
  refine s_aload_n C rfl 0 rfl dJ2_size_0 1 rfl ?_
  refine x_gi C 12 (RJ2, TJ2, 3) rfl 2 (Nat.le_of_ble_eq_true rfl) q171 (Or.inl rfl) rfl 13 rfl dJ2_size_1 4 rfl (fun x1 => ?_)
  exact x_iret C hret rfl dJ2_size_4
theorem hdJ2_size : ((⟨"java/util/ArrayList", "size", "()I"⟩ : MethodName)).cls ≠ "java/lang/invoke/MethodHandle" ∧ ((⟨"java/util/ArrayList", "size", "()I"⟩ : MethodName)).cls ≠ "java/lang/invoke/VarHandle" ∧ (parseMethodDescriptor ((⟨"java/util/ArrayList", "size", "()I"⟩ : MethodName)).desc).map (fun d => d.parameters.length) = some 0 := ⟨by decide +kernel, by decide +kernel, by decide +kernel⟩
theorem ctJ2_size {l : Launch} {g : GG} (hst : l.stackTraces = false) (N : Nat) (m : Mm) (v0 : Option Nat) : ∀ v m' k n, fJ2_size (gE_ g) N m v0 = some (v, m', k, n) → Ct_ l g (⟨"java/util/ArrayList", "size", "()I"⟩ : MethodName) (ws_ (⟨"java/util/ArrayList", "size", "()I"⟩ : MethodName) cJ2_size 1 (Option.some Jvm.ClassFile.FieldType.int)) 10 [vr_ v0] m (en_i v) m' k n :=
  Ct_of (by decide +kernel) rfl hst (Nat.le_of_ble_eq_true rfl) rfl (fun E C hret h0 hin => wJ2_size C hret h0 hin N m v0 0 0)
theorem wX1_attribute_b19 {l : Launch} {g : GG} {E : Me_} (C : Cx_ l g E "MasterTree" cX1_attribute 3 16) (hret : (eT_ E).sig.returnType = (Option.some Jvm.ClassFile.FieldType.int)) (h0 : ∀ x ∈ (eC_ E).exceptionTable.toList, False) (hin : (eT_ E).name = "attribute") (N : Nat) : ∀ (m : Mm) (v0 : Option Nat) (v1 : Int32) (v2 : Int32) (s0 : Int32) (k n : Nat), Sm_ l g E 3 (xe_ en_i) (fX1_attribute_b19 (gE_ g) N m v0 v1 v2 s0) k n 19 [(0, vr_ v0), (1, vi_ v1), (2, vi_ v2)] [vi_ s0] m := by
  intro m v0 v1 v2 s0 k n
  unfold fX1_attribute_b19
  refine x_ls C 0 0 rfl dX1_attribute_19 21 rfl ?_
  refine x_callS (enc := (xe_ en_v)) C 10 2 [vi_ s0, vr_ (some (gE_ g (100 + 0)))] (ctX1_must C.2.2.2.2.2.2.2.2.1 N m s0 (some (gE_ g (100 + 0)))) q510 q511 q81 q512 hdX1_must (Nat.le_of_ble_eq_true rfl) (Nat.le_of_ble_eq_true rfl) rfl (Nat.le_of_ble_eq_true rfl) dX1_attribute_21 24 rfl rfl (hen_x hen_v) (kk_x (kk_v (fun m1 k1 n1 => ?_))) (kx_x C h0 he_v)
  refine s_aload_n C rfl 0 rfl dX1_attribute_24 25 rfl ?_
  refine x_gr C 0 (RX1, TX1, 9) rfl 0 (Nat.le_of_ble_eq_true rfl) q445 (Or.inl rfl) rfl 1 rfl dX1_attribute_25 28 rfl (fun x1 => ?_)
  refine x_nw C 4 (RX5, TX5, 2) rfl q582 q583 q98 5 2 rfl rfl dX1_attribute_28 31 rfl (fun x2 m2 => ?_)
  refine s_dup C rfl dX1_attribute_31 32 rfl ?_
  refine s_iload_n C rfl 1 rfl dX1_attribute_32 33 rfl ?_
  refine s_iload_n C rfl 2 rfl dX1_attribute_33 34 rfl ?_
  refine x_callI (enc := en_v) C 10 2 [vi_ v1, vi_ v2] (ctX5_init C.2.2.2.2.2.2.2.2.1 N m2 (some x2) v1 v2) (fun h => by cases h) rfl q584 q585 q98 q586 rfl hdX5_init (Nat.le_of_ble_eq_true rfl) (Nat.le_of_ble_eq_true rfl) rfl (Nat.le_of_ble_eq_true rfl) dX1_attribute_34 37 rfl rfl hen_v (kk_v (fun m3 k1 n1 => ?_)) (kx_n he_v)
  refine x_ck (fun hb_ hb0_ => ?_)
  refine x_callF (enc := en_i) C 15 1 [vr_ (some x2)] 13 (ctJ2_add C.2.2.2.2.2.2.2.2.1 N m3 x1 (some x2)) hb_ hb0_ rfl rfl rfl fw_0 q346 q350 q352 q84 q354 hx0 (Nat.le_of_ble_eq_true rfl) (Nat.le_of_ble_eq_true rfl) rfl (Nat.le_of_ble_eq_true rfl) dX1_attribute_37 42 rfl rfl hen_i (kk_i (fun x3 m4 k1 n1 => ?_)) (kx_n he_i)
  refine s_pop C rfl dX1_attribute_42 43 rfl ?_
  refine s_aload_n C rfl 0 rfl dX1_attribute_43 44 rfl ?_
  refine x_gr C 0 (RX1, TX1, 9) rfl 0 (Nat.le_of_ble_eq_true rfl) q445 (Or.inl rfl) rfl 1 rfl dX1_attribute_44 47 rfl (fun x4 => ?_)
  refine x_ck (fun hb_ hb0_ => ?_)
  refine x_callF (enc := en_i) C 10 0 [] 13 (ctJ2_size C.2.2.2.2.2.2.2.2.1 N m4 x4) hb_ hb0_ rfl rfl rfl fw_1 q480 q483 q485 q84 q487 hx1 (Nat.le_of_ble_eq_true rfl) (Nat.le_of_ble_eq_true rfl) rfl (Nat.le_of_ble_eq_true rfl) dX1_attribute_47 52 rfl rfl hen_i (kk_i (fun x5 m5 k1 n1 => ?_)) (kx_n he_i)
  refine s_iconst C 1 rfl dX1_attribute_52 53 rfl ?_
  refine s_isub C dX1_attribute_53 54 rfl ?_
  exact x_iret C hret rfl dX1_attribute_54
theorem wX1_attribute {l : Launch} {g : GG} {E : Me_} (C : Cx_ l g E "MasterTree" cX1_attribute 3 16) (hret : (eT_ E).sig.returnType = (Option.some Jvm.ClassFile.FieldType.int)) (h0 : ∀ x ∈ (eC_ E).exceptionTable.toList, False) (hin : (eT_ E).name = "attribute") (N : Nat) : ∀ (m : Mm) (v0 : Option Nat) (v1 : Int32) (v2 : Int32) (k n : Nat), Sm_ l g E 3 (xe_ en_i) (fX1_attribute (gE_ g) N m v0 v1 v2) k n 0 [(0, vr_ v0), (1, vi_ v1), (2, vi_ v2)] [] m := by
  intro m v0 v1 v2 k n
  unfold fX1_attribute
  refine s_aload_n C rfl 0 rfl dX1_attribute_0 1 rfl ?_
  refine x_gr C 0 (RX1, TX1, 9) rfl 0 (Nat.le_of_ble_eq_true rfl) q445 (Or.inl rfl) rfl 1 rfl dX1_attribute_1 4 rfl (fun x1 => ?_)
  refine x_ck (fun hb_ hb0_ => ?_)
  refine x_callF (enc := en_i) C 10 0 [] 13 (ctJ2_size C.2.2.2.2.2.2.2.2.1 N m x1) hb_ hb0_ rfl rfl rfl fw_1 q480 q483 q485 q84 q487 hx1 (Nat.le_of_ble_eq_true rfl) (Nat.le_of_ble_eq_true rfl) rfl (Nat.le_of_ble_eq_true rfl) dX1_attribute_4 9 rfl rfl hen_i (kk_i (fun x2 m1 k1 n1 => ?_)) (kx_n he_i)
  refine s_bipush C 10 rfl dX1_attribute_9 11 rfl ?_
  refine s_icmp_ge C dX1_attribute_11 18 rfl 14 rfl (fun c_ => ?_) (fun c_ => ?_)
  · refine s_iconst C 1 rfl dX1_attribute_14 15 rfl ?_
    refine s_goto C (off := 4) 19 dX1_attribute_15 rfl ?_
    exact wX1_attribute_b19 C hret h0 hin N _ _ _ _ _ _ _
  · refine s_iconst C 0 rfl dX1_attribute_18 19 rfl ?_
    exact wX1_attribute_b19 C hret h0 hin N _ _ _ _ _ _ _
theorem hdX1_attribute : ((⟨"MasterTree", "attribute", "(ZZ)I"⟩ : MethodName)).cls ≠ "java/lang/invoke/MethodHandle" ∧ ((⟨"MasterTree", "attribute", "(ZZ)I"⟩ : MethodName)).cls ≠ "java/lang/invoke/VarHandle" ∧ (parseMethodDescriptor ((⟨"MasterTree", "attribute", "(ZZ)I"⟩ : MethodName)).desc).map (fun d => d.parameters.length) = some 2 := ⟨by decide +kernel, by decide +kernel, by decide +kernel⟩
theorem ctX1_attribute {l : Launch} {g : GG} (hst : l.stackTraces = false) (N : Nat) (m : Mm) (v0 : Option Nat) (v1 : Int32) (v2 : Int32) : ∀ v m' k n, fX1_attribute (gE_ g) N m v0 v1 v2 = some (v, m', k, n) → Ct_ l g (⟨"MasterTree", "attribute", "(ZZ)I"⟩ : MethodName) (ws_ (⟨"MasterTree", "attribute", "(ZZ)I"⟩ : MethodName) cX1_attribute 3 (Option.some Jvm.ClassFile.FieldType.int)) 16 [vr_ v0, vi_ v1, vi_ v2] m ((xe_ en_i) v) m' k n :=
  Ct_of (by decide +kernel) rfl hst (Nat.le_of_ble_eq_true rfl) rfl (fun E C hret h0 hin => wX1_attribute C hret h0 hin N m v0 v1 v2 0 0)
theorem wX0_attribute {l : Launch} {g : GG} {E : Me_} (C : Cx_ l g E "MasterTreeLaw" cX0_attribute 5 17) (hret : (eT_ E).sig.returnType = (Option.some Jvm.ClassFile.FieldType.int)) (h0 : (eC_ E).exceptionTable.toList = tableOf [(0, 10, 13, 13)]) (hin : (eT_ E).name = "attribute") (N : Nat) : ∀ (m : Mm) (v0 : Option Nat) (v1 : Int32) (v2 : Int32) (v3 : Option Nat) (k n : Nat), Sm_ l g E 5 en_i (fX0_attribute (gE_ g) N m v0 v1 v2 v3) k n 0 [(0, vr_ v0), (1, vi_ v1), (2, vi_ v2), (3, vr_ v3)] [] m := by
  intro m v0 v1 v2 v3 k n
  unfold fX0_attribute
  refine s_aload_n C rfl 3 rfl dX0_attribute_0 1 rfl ?_
  refine s_iconst C 0 rfl dX0_attribute_1 2 rfl ?_
  refine s_aload_n C rfl 0 rfl dX0_attribute_2 3 rfl ?_
  refine s_iload_n C rfl 1 rfl dX0_attribute_3 4 rfl ?_
  refine s_iload_n C rfl 2 rfl dX0_attribute_4 5 rfl ?_
  refine x_ck (fun hb_ hb0_ => ?_)
  refine x_callV (enc := (xe_ en_i)) C 16 2 [vi_ v1, vi_ v2] 1 (ctX1_attribute C.2.2.2.2.2.2.2.2.1 N m v0 v1 v2) hb_ hb0_ rfl rfl q505 q506 q507 q81 q508 hdX1_attribute (Nat.le_of_ble_eq_true rfl) (Nat.le_of_ble_eq_true rfl) rfl (Nat.le_of_ble_eq_true rfl) dX0_attribute_5 8 rfl rfl (hen_x hen_i) (kk_c (kk_i (fun x1 m1 k1 n1 => ?_))) (kx_c he_i (fun i_ m0 k0 n0 => ?_))
  · refine s_i2l C dX0_attribute_8 9 rfl ?_
    refine x_bj3 C 203 rfl dX0_attribute_9 10 rfl (fun m2 => ?_)
    refine s_goto C (off := 7) 17 dX0_attribute_10 rfl ?_
    refine s_iconst C 0 rfl dX0_attribute_17 18 rfl ?_
    exact x_iret C hret rfl dX0_attribute_18
  · refine Sx_if ?_ ?_
    · refine Sx_ctch C h0 2 [] ({ startPc := 0, endPc := 10, handlerPc := 13, catchType := 13 } : ExceptionTableEntry) [] rfl (fun z hz => by cases hz) (by decide) (by decide) q504 q515 13 rfl (fun q_ => ?_)
      refine s_astore C (Nat.le_of_ble_eq_true rfl) [] rfl rfl dX0_attribute_13 15 rfl ?_
      refine s_iconst C 1 rfl dX0_attribute_15 16 rfl ?_
      exact x_iret C hret rfl dX0_attribute_16
    exact Sx_none
theorem hdX0_attribute : ((⟨"MasterTreeLaw", "attribute", "(LMasterTree;ZZ[J)I"⟩ : MethodName)).cls ≠ "java/lang/invoke/MethodHandle" ∧ ((⟨"MasterTreeLaw", "attribute", "(LMasterTree;ZZ[J)I"⟩ : MethodName)).cls ≠ "java/lang/invoke/VarHandle" ∧ (parseMethodDescriptor ((⟨"MasterTreeLaw", "attribute", "(LMasterTree;ZZ[J)I"⟩ : MethodName)).desc).map (fun d => d.parameters.length) = some 4 := ⟨by decide +kernel, by decide +kernel, by decide +kernel⟩
theorem ctX0_attribute {l : Launch} {g : GG} (hst : l.stackTraces = false) (N : Nat) (m : Mm) (v0 : Option Nat) (v1 : Int32) (v2 : Int32) (v3 : Option Nat) : ∀ v m' k n, fX0_attribute (gE_ g) N m v0 v1 v2 v3 = some (v, m', k, n) → Ct_ l g (⟨"MasterTreeLaw", "attribute", "(LMasterTree;ZZ[J)I"⟩ : MethodName) (wsW_ (⟨"MasterTreeLaw", "attribute", "(LMasterTree;ZZ[J)I"⟩ : MethodName) cX0_attribute 5 (Option.some Jvm.ClassFile.FieldType.int) [(0, 10, 13, 13)]) 17 [vr_ v0, vi_ v1, vi_ v2, vr_ v3] m (en_i v) m' k n :=
  Ct_ofW (by decide +kernel) rfl hst (Nat.le_of_ble_eq_true rfl) rfl (fun E C hret h0 hin => wX0_attribute C hret h0 hin N m v0 v1 v2 v3 0 0)
theorem wX6_init_b43 {l : Launch} {g : GG} {E : Me_} (C : Cx_ l g E "MasterTree$Klass" cX6_init 4 10) (hret : (eT_ E).sig.returnType = (Option.none : Option Jvm.ClassFile.FieldType)) (h0 : ∀ x ∈ (eC_ E).exceptionTable.toList, False) (hin : (eT_ E).name = "<init>") (N : Nat) : ∀ (m : Mm) (s0 : Option Nat) (s1 : Int32) (s2 : Int32) (k n : Nat), Sm_ l g E 4 en_v (fX6_init_b43 (gE_ g) N m s0 s1 s2) k n 43 [] [vi_ s2, vi_ s1, vr_ s0] m := by
  intro m s0 s1 s2 k n
  unfold fX6_init_b43
  refine s_ior C dX6_init_43 44 rfl ?_
  refine x_piF C hin 5 (RX6, TX6, 3) rfl 2 (Nat.le_of_ble_eq_true rfl) rfl q918 rfl rfl trivial 6 rfl dX6_init_44 47 rfl (fun m1 => ?_)
  exact x_vret C hret rfl dX6_init_47
theorem wX6_init_b23 {l : Launch} {g : GG} {E : Me_} (C : Cx_ l g E "MasterTree$Klass" cX6_init 4 10) (hret : (eT_ E).sig.returnType = (Option.none : Option Jvm.ClassFile.FieldType)) (h0 : ∀ x ∈ (eC_ E).exceptionTable.toList, False) (hin : (eT_ E).name = "<init>") (N : Nat) : ∀ (m : Mm) (v0 : Option Nat) (v1 : Option Nat) (v2 : Int32) (v3 : Int32) (s0 : Option Nat) (s1 : Int32) (s2 : Int32) (k n : Nat), Sm_ l g E 4 en_v (fX6_init_b23 (gE_ g) N m v0 v1 v2 v3 s0 s1 s2) k n 23 [(0, vr_ v0), (1, vr_ v1), (2, vi_ v2), (3, vi_ v3)] [vi_ s2, vi_ s1, vr_ s0] m := by
  intro m v0 v1 v2 v3 s0 s1 s2 k n
  unfold fX6_init_b23
  refine s_ior C dX6_init_23 24 rfl ?_
  refine x_piF C hin 5 (RX6, TX6, 3) rfl 1 (Nat.le_of_ble_eq_true rfl) rfl q915 rfl rfl trivial 6 rfl dX6_init_24 27 rfl (fun m1 => ?_)
  refine s_aload_n C rfl 0 rfl dX6_init_27 28 rfl ?_
  refine s_iload_n C rfl 2 rfl dX6_init_28 29 rfl ?_
  refine s_iload_n C rfl 3 rfl dX6_init_29 30 rfl ?_
  refine s_ior C dX6_init_30 31 rfl ?_
  refine s_aload_n C rfl 1 rfl dX6_init_31 32 rfl ?_
  refine s_ifnonnull C dX6_init_32 39 rfl 35 rfl (fun c_ => ?_) (fun c_ => ?_)
  · refine s_iconst C 0 rfl dX6_init_35 36 rfl ?_
    refine s_goto C (off := 7) 43 dX6_init_36 rfl ?_
    refine Sm_sub [] rfl ?_
    exact wX6_init_b43 C hret h0 hin N _ _ _ _ _ _
  · refine s_aload_n C rfl 1 rfl dX6_init_39 40 rfl ?_
    refine x_gi C 5 (RX6, TX6, 3) rfl 2 (Nat.le_of_ble_eq_true rfl) q918 (Or.inl rfl) rfl 6 rfl dX6_init_40 43 rfl (fun x1 => ?_)
    refine Sm_sub [] rfl ?_
    exact wX6_init_b43 C hret h0 hin N _ _ _ _ _ _
theorem wX6_init {l : Launch} {g : GG} {E : Me_} (C : Cx_ l g E "MasterTree$Klass" cX6_init 4 10) (hret : (eT_ E).sig.returnType = (Option.none : Option Jvm.ClassFile.FieldType)) (h0 : ∀ x ∈ (eC_ E).exceptionTable.toList, False) (hin : (eT_ E).name = "<init>") (N : Nat) : ∀ (m : Mm) (v0 : Option Nat) (v1 : Option Nat) (v2 : Int32) (v3 : Int32) (k n : Nat), Sm_ l g E 4 en_v (fX6_init (gE_ g) N m v0 v1 v2 v3) k n 0 [(0, vr_ v0), (1, vr_ v1), (2, vi_ v2), (3, vi_ v3)] [] m := by
  intro m v0 v1 v2 v3 k n
  unfold fX6_init
  refine s_aload_n C rfl 0 rfl dX6_init_0 1 rfl ?_
  refine x_ok (fun hb_ => ?_)
  refine x_obj C hb_ q913 q152 q153 (by decide) (Nat.le_of_ble_eq_true rfl) dX6_init_1 4 rfl ?_
  refine s_aload_n C rfl 0 rfl dX6_init_4 5 rfl ?_
  refine s_aload_n C rfl 1 rfl dX6_init_5 6 rfl ?_
  refine x_prF C hin 5 (RX6, TX6, 3) rfl 0 (Nat.le_of_ble_eq_true rfl) rfl q914 rfl rfl trivial 6 rfl dX6_init_6 9 rfl (fun m1 => ?_)
  refine s_aload_n C rfl 0 rfl dX6_init_9 10 rfl ?_
  refine s_iload_n C rfl 2 rfl dX6_init_10 11 rfl ?_
  refine s_aload_n C rfl 1 rfl dX6_init_11 12 rfl ?_
  refine s_ifnonnull C dX6_init_12 19 rfl 15 rfl (fun c_ => ?_) (fun c_ => ?_)
  · refine s_iconst C 0 rfl dX6_init_15 16 rfl ?_
    refine s_goto C (off := 7) 23 dX6_init_16 rfl ?_
    exact wX6_init_b23 C hret h0 hin N _ _ _ _ _ _ _ _ _ _
  · refine s_aload_n C rfl 1 rfl dX6_init_19 20 rfl ?_
    refine x_gi C 5 (RX6, TX6, 3) rfl 1 (Nat.le_of_ble_eq_true rfl) q915 (Or.inl rfl) rfl 6 rfl dX6_init_20 23 rfl (fun x1 => ?_)
    exact wX6_init_b23 C hret h0 hin N _ _ _ _ _ _ _ _ _ _
theorem hdX6_init : ((⟨"MasterTree$Klass", "<init>", "(LMasterTree$Klass;II)V"⟩ : MethodName)).cls ≠ "java/lang/invoke/MethodHandle" ∧ ((⟨"MasterTree$Klass", "<init>", "(LMasterTree$Klass;II)V"⟩ : MethodName)).cls ≠ "java/lang/invoke/VarHandle" ∧ (parseMethodDescriptor ((⟨"MasterTree$Klass", "<init>", "(LMasterTree$Klass;II)V"⟩ : MethodName)).desc).map (fun d => d.parameters.length) = some 3 := ⟨by decide +kernel, by decide +kernel, by decide +kernel⟩
theorem ctX6_init {l : Launch} {g : GG} (hst : l.stackTraces = false) (N : Nat) (m : Mm) (v0 : Option Nat) (v1 : Option Nat) (v2 : Int32) (v3 : Int32) : ∀ v m' k n, fX6_init (gE_ g) N m v0 v1 v2 v3 = some (v, m', k, n) → Ct_ l g (⟨"MasterTree$Klass", "<init>", "(LMasterTree$Klass;II)V"⟩ : MethodName) (ws_ (⟨"MasterTree$Klass", "<init>", "(LMasterTree$Klass;II)V"⟩ : MethodName) cX6_init 4 (Option.none : Option Jvm.ClassFile.FieldType)) 10 [vr_ v0, vr_ v1, vi_ v2, vi_ v3] m (en_v v) m' k n :=
  Ct_of (by decide +kernel) rfl hst (Nat.le_of_ble_eq_true rfl) rfl (fun E C hret h0 hin => wX6_init C hret h0 hin N m v0 v1 v2 v3 0 0)
theorem wJ15_init_t30 {l : Launch} {g : GG} {E : Me_} (C : Cx_ l g E "java/lang/AbstractStringBuilder" cJ15_init 2 10) (hret : (eT_ E).sig.returnType = (Option.none : Option Jvm.ClassFile.FieldType)) (h0 : ∀ x ∈ (eC_ E).exceptionTable.toList, False) (hin : (eT_ E).name = "<init>") (N : Nat) : ∀ (m : Mm) (v0 : Option Nat) (v1 : Int32) (k n : Nat), Sm_ l g E 2 en_v (fJ15_init_t30 (gE_ g) N m v0 v1) k n 0 [(0, vr_ v0), (1, vi_ v1)] [] m := by
  intro m v0 v1 k n
  unfold fJ15_init_t30
  refine s_aload_n C rfl 0 rfl dJ15_init_0 1 rfl ?_
  refine x_ok (fun hb_ => ?_)
  refine x_obj C hb_ q653 q152 q153 (by decide) (Nat.le_of_ble_eq_true rfl) dJ15_init_1 4 rfl ?_
  refine x_gs C 1 (vi_ 1) rfl q654 rfl dJ15_init_4 7 rfl ?_
  refine s_if_eq C dJ15_init_7 25 rfl 10 rfl (fun c_ => ?_) (fun c_ => ?_)
  · refine s_aload_n C rfl 0 rfl dJ15_init_25 26 rfl ?_
    refine s_iload_n C rfl 1 rfl dJ15_init_26 27 rfl ?_
    exact Sm_none
  · refine s_aload_n C rfl 0 rfl dJ15_init_10 11 rfl ?_
    refine s_iload_n C rfl 1 rfl dJ15_init_11 12 rfl ?_
    refine x_naB C dJ15_init_12 14 rfl (fun x1 m1 => ?_)
    refine x_pr C 29 (RJ16, TJ16, 4) rfl 0 (Nat.le_of_ble_eq_true rfl) rfl q663 (Or.inl rfl) rfl trivial 30 rfl dJ15_init_14 17 rfl (fun m2 => ?_)
    refine s_aload_n C rfl 0 rfl dJ15_init_17 18 rfl ?_
    refine s_iconst C 0 rfl dJ15_init_18 19 rfl ?_
    refine x_pz C 29 (RJ16, TJ16, 4) rfl 1 (Nat.le_of_ble_eq_true rfl) rfl q664 (Or.inl rfl) rfl (Or.inr rfl) 30 rfl dJ15_init_19 22 rfl (fun m3 => ?_)
    refine s_goto C (off := 16) 38 dJ15_init_22 rfl ?_
    exact x_vret C hret rfl dJ15_init_38
theorem hdJ15_init_t30 : ((⟨"java/lang/AbstractStringBuilder", "<init>", "(I)V"⟩ : MethodName)).cls ≠ "java/lang/invoke/MethodHandle" ∧ ((⟨"java/lang/AbstractStringBuilder", "<init>", "(I)V"⟩ : MethodName)).cls ≠ "java/lang/invoke/VarHandle" ∧ (parseMethodDescriptor ((⟨"java/lang/AbstractStringBuilder", "<init>", "(I)V"⟩ : MethodName)).desc).map (fun d => d.parameters.length) = some 1 := ⟨by decide +kernel, by decide +kernel, by decide +kernel⟩
theorem ctJ15_init_t30 {l : Launch} {g : GG} (hst : l.stackTraces = false) (N : Nat) (m : Mm) (v0 : Option Nat) (v1 : Int32) : ∀ v m' k n, fJ15_init_t30 (gE_ g) N m v0 v1 = some (v, m', k, n) → Ct_ l g (⟨"java/lang/AbstractStringBuilder", "<init>", "(I)V"⟩ : MethodName) (ws_ (⟨"java/lang/AbstractStringBuilder", "<init>", "(I)V"⟩ : MethodName) cJ15_init 2 (Option.none : Option Jvm.ClassFile.FieldType)) 10 [vr_ v0, vi_ v1] m (en_v v) m' k n :=
  Ct_of (by decide +kernel) rfl hst (Nat.le_of_ble_eq_true rfl) rfl (fun E C hret h0 hin => wJ15_init_t30 C hret h0 hin N m v0 v1 0 0)
theorem wJ16_init {l : Launch} {g : GG} {E : Me_} (C : Cx_ l g E "java/lang/StringBuilder" cJ16_init 1 11) (hret : (eT_ E).sig.returnType = (Option.none : Option Jvm.ClassFile.FieldType)) (h0 : ∀ x ∈ (eC_ E).exceptionTable.toList, False) (hin : (eT_ E).name = "<init>") (N : Nat) : ∀ (m : Mm) (v0 : Option Nat) (k n : Nat), Sm_ l g E 1 en_v (fJ16_init (gE_ g) N m v0) k n 0 [(0, vr_ v0)] [] m := by
  intro m v0 k n
  unfold fJ16_init
  refine s_aload_n C rfl 0 rfl dJ16_init_0 1 rfl ?_
  refine s_bipush C 16 rfl dJ16_init_1 3 rfl ?_
  refine x_ok (fun hb0_ => ?_)
  refine x_callI (enc := en_v) C 10 1 [vi_ 16] (ctJ15_init_t30 C.2.2.2.2.2.2.2.2.1 N m v0 16) hb0_ rfl q650 q651 q102 q652 rfl hdJ15_init_t30 (Nat.le_of_ble_eq_true rfl) (Nat.le_of_ble_eq_true rfl) rfl (Nat.le_of_ble_eq_true rfl) dJ16_init_3 6 rfl rfl hen_v (kk_v (fun m1 k1 n1 => ?_)) (kx_n he_v)
  exact x_vret C hret rfl dJ16_init_6
theorem hdJ16_init : ((⟨"java/lang/StringBuilder", "<init>", "()V"⟩ : MethodName)).cls ≠ "java/lang/invoke/MethodHandle" ∧ ((⟨"java/lang/StringBuilder", "<init>", "()V"⟩ : MethodName)).cls ≠ "java/lang/invoke/VarHandle" ∧ (parseMethodDescriptor ((⟨"java/lang/StringBuilder", "<init>", "()V"⟩ : MethodName)).desc).map (fun d => d.parameters.length) = some 0 := ⟨by decide +kernel, by decide +kernel, by decide +kernel⟩
theorem ctJ16_init {l : Launch} {g : GG} (hst : l.stackTraces = false) (N : Nat) (m : Mm) (v0 : Option Nat) : ∀ v m' k n, fJ16_init (gE_ g) N m v0 = some (v, m', k, n) → Ct_ l g (⟨"java/lang/StringBuilder", "<init>", "()V"⟩ : MethodName) (ws_ (⟨"java/lang/StringBuilder", "<init>", "()V"⟩ : MethodName) cJ16_init 1 (Option.none : Option Jvm.ClassFile.FieldType)) 11 [vr_ v0] m (en_v v) m' k n :=
  Ct_of (by decide +kernel) rfl hst (Nat.le_of_ble_eq_true rfl) rfl (fun E C hret h0 hin => wJ16_init C hret h0 hin N m v0 0 0)
theorem wJ14_coder_b14 {l : Launch} {g : GG} {E : Me_} (C : Cx_ l g E "java/lang/String" cJ14_coder 1 10) (hret : (eT_ E).sig.returnType = (Option.some Jvm.ClassFile.FieldType.byte)) (h0 : ∀ x ∈ (eC_ E).exceptionTable.toList, False) (hin : (eT_ E).name = "coder") (N : Nat) : ∀ (m : Mm) (s0 : Int32) (k n : Nat), Sm_ l g E 1 en_i (fJ14_coder_b14 (gE_ g) N m s0) k n 14 [] [vi_ s0] m := by
  intro m s0 k n
  unfold fJ14_coder_b14
  exact x_bret C hret rfl dJ14_coder_14
theorem wJ14_coder {l : Launch} {g : GG} {E : Me_} (C : Cx_ l g E "java/lang/String" cJ14_coder 1 10) (hret : (eT_ E).sig.returnType = (Option.some Jvm.ClassFile.FieldType.byte)) (h0 : ∀ x ∈ (eC_ E).exceptionTable.toList, False) (hin : (eT_ E).name = "coder") (N : Nat) : ∀ (m : Mm) (v0 : Option Nat) (k n : Nat), Sm_ l g E 1 en_i (fJ14_coder (gE_ g) N m v0) k n 0 [(0, vr_ v0)] [] m := by
  intro m v0 k n
  unfold fJ14_coder
  refine x_gs C 1 (vi_ 1) rfl q747 rfl dJ14_coder_0 3 rfl ?_
  refine s_if_eq C dJ14_coder_3 13 rfl 6 rfl (fun c_ => ?_) (fun c_ => ?_)
  · refine s_iconst C 1 rfl dJ14_coder_13 14 rfl ?_
    refine Sm_sub [] rfl ?_
    exact wJ14_coder_b14 C hret h0 hin N _ _ _ _
  · refine s_aload_n C rfl 0 rfl dJ14_coder_6 7 rfl ?_
    refine x_gi C 28 (RJ14, TJ14, 4) rfl 1 (Nat.le_of_ble_eq_true rfl) q878 (Or.inl rfl) rfl 29 rfl dJ14_coder_7 10 rfl (fun x1 => ?_)
    refine s_goto C (off := 4) 14 dJ14_coder_10 rfl ?_
    refine Sm_sub [] rfl ?_
    exact wJ14_coder_b14 C hret h0 hin N _ _ _ _
theorem hdJ14_coder : ((⟨"java/lang/String", "coder", "()B"⟩ : MethodName)).cls ≠ "java/lang/invoke/MethodHandle" ∧ ((⟨"java/lang/String", "coder", "()B"⟩ : MethodName)).cls ≠ "java/lang/invoke/VarHandle" ∧ (parseMethodDescriptor ((⟨"java/lang/String", "coder", "()B"⟩ : MethodName)).desc).map (fun d => d.parameters.length) = some 0 := ⟨by decide +kernel, by decide +kernel, by decide +kernel⟩
theorem ctJ14_coder {l : Launch} {g : GG} (hst : l.stackTraces = false) (N : Nat) (m : Mm) (v0 : Option Nat) : ∀ v m' k n, fJ14_coder (gE_ g) N m v0 = some (v, m', k, n) → Ct_ l g (⟨"java/lang/String", "coder", "()B"⟩ : MethodName) (ws_ (⟨"java/lang/String", "coder", "()B"⟩ : MethodName) cJ14_coder 1 (Option.some Jvm.ClassFile.FieldType.byte)) 10 [vr_ v0] m (en_i v) m' k n :=
  Ct_of (by decide +kernel) rfl hst (Nat.le_of_ble_eq_true rfl) rfl (fun E C hret h0 hin => wJ14_coder C hret h0 hin N m v0 0 0)
theorem wJ14_length {l : Launch} {g : GG} {E : Me_} (C : Cx_ l g E "java/lang/String" cJ14_length 1 11) (hret : (eT_ E).sig.returnType = (Option.some Jvm.ClassFile.FieldType.int)) (h0 : ∀ x ∈ (eC_ E).exceptionTable.toList, False) (hin : (eT_ E).name = "length") (N : Nat) : ∀ (m : Mm) (v0 : Option Nat) (k n : Nat), Sm_ l g E 1 en_i (fJ14_length (gE_ g) N m v0) k n 0 [(0, vr_ v0)] [] m := by
  intro m v0 k n
  unfold fJ14_length
  refine s_aload_n C rfl 0 rfl dJ14_length_0 1 rfl ?_
  refine x_gr C 28 (RJ14, TJ14, 4) rfl 0 (Nat.le_of_ble_eq_true rfl) q877 (Or.inl rfl) rfl 29 rfl dJ14_length_1 4 rfl (fun x1 => ?_)
  refine x_ln C 2 (.byte) rfl 202 rfl dJ14_length_4 5 rfl (fun x2 => ?_)
  refine s_aload_n C rfl 0 rfl dJ14_length_5 6 rfl ?_
  refine x_ck (fun hb_ hb0_ => ?_)
  refine x_callV (enc := en_i) C 10 0 [] 29 (ctJ14_coder C.2.2.2.2.2.2.2.2.1 N m v0) hb_ hb0_ rfl rfl q743 q744 q745 q101 q746 hdJ14_coder (Nat.le_of_ble_eq_true rfl) (Nat.le_of_ble_eq_true rfl) rfl (Nat.le_of_ble_eq_true rfl) dJ14_length_6 9 rfl rfl hen_i (kk_i (fun x3 m1 k1 n1 => ?_)) (kx_n he_i)
  refine s_ishr C dJ14_length_9 10 rfl ?_
  exact x_iret C hret rfl dJ14_length_10
theorem hdJ14_length : ((⟨"java/lang/String", "length", "()I"⟩ : MethodName)).cls ≠ "java/lang/invoke/MethodHandle" ∧ ((⟨"java/lang/String", "length", "()I"⟩ : MethodName)).cls ≠ "java/lang/invoke/VarHandle" ∧ (parseMethodDescriptor ((⟨"java/lang/String", "length", "()I"⟩ : MethodName)).desc).map (fun d => d.parameters.length) = some 0 := ⟨by decide +kernel, by decide +kernel, by decide +kernel⟩
theorem ctJ14_length {l : Launch} {g : GG} (hst : l.stackTraces = false) (N : Nat) (m : Mm) (v0 : Option Nat) : ∀ v m' k n, fJ14_length (gE_ g) N m v0 = some (v, m', k, n) → Ct_ l g (⟨"java/lang/String", "length", "()I"⟩ : MethodName) (ws_ (⟨"java/lang/String", "length", "()I"⟩ : MethodName) cJ14_length 1 (Option.some Jvm.ClassFile.FieldType.int)) 11 [vr_ v0] m (en_i v) m' k n :=
  Ct_of (by decide +kernel) rfl hst (Nat.le_of_ble_eq_true rfl) rfl (fun E C hret h0 hin => wJ14_length C hret h0 hin N m v0 0 0)
theorem wJ15_newCapacity_t30 {l : Launch} {g : GG} {E : Me_} (C : Cx_ l g E "java/lang/AbstractStringBuilder" cJ15_newCapacity 6 11) (hret : (eT_ E).sig.returnType = (Option.some Jvm.ClassFile.FieldType.int)) (h0 : ∀ x ∈ (eC_ E).exceptionTable.toList, False) (hin : (eT_ E).name = "newCapacity") (N : Nat) : ∀ (m : Mm) (v0 : Option Nat) (v1 : Int32) (k n : Nat), Sm_ l g E 6 en_i (fJ15_newCapacity_t30 (gE_ g) N m v0 v1) k n 0 [(0, vr_ v0), (1, vi_ v1)] [] m := by
  intro m v0 v1 k n
  unfold fJ15_newCapacity_t30
  refine s_aload_n C rfl 0 rfl dJ15_newCapacity_0 1 rfl ?_
  refine x_gr C 29 (RJ16, TJ16, 4) rfl 0 (Nat.le_of_ble_eq_true rfl) q663 (Or.inl rfl) rfl 30 rfl dJ15_newCapacity_1 4 rfl (fun x1 => ?_)
  refine x_ln C 2 (.byte) rfl 202 rfl dJ15_newCapacity_4 5 rfl (fun x2 => ?_)
  refine s_istore_n C rfl (Nat.le_of_ble_eq_true rfl) [0, 1] rfl rfl dJ15_newCapacity_5 6 rfl ?_
  refine s_iload_n C rfl 2 rfl dJ15_newCapacity_6 7 rfl ?_
  refine s_aload_n C rfl 1 rfl dJ15_newCapacity_7 8 rfl ?_
  refine x_gi C 29 (RJ16, TJ16, 4) rfl 1 (Nat.le_of_ble_eq_true rfl) q664 (Or.inl rfl) rfl 30 rfl dJ15_newCapacity_8 11 rfl (fun x3 => ?_)
  refine s_ishl C dJ15_newCapacity_11 12 rfl ?_
  refine s_istore_n C rfl (Nat.le_of_ble_eq_true rfl) [0, 1] rfl rfl dJ15_newCapacity_12 13 rfl ?_
  refine s_iload_n C rfl 0 rfl dJ15_newCapacity_13 14 rfl ?_
  refine s_iload_n C rfl 1 rfl dJ15_newCapacity_14 15 rfl ?_
  refine s_isub C dJ15_newCapacity_15 16 rfl ?_
  refine s_istore C (Nat.le_of_ble_eq_true rfl) [1, 2] rfl rfl dJ15_newCapacity_16 18 rfl ?_
  refine s_iload_n C rfl 1 rfl dJ15_newCapacity_18 19 rfl ?_
  refine s_iload C 0 rfl dJ15_newCapacity_19 21 rfl ?_
  refine s_iload_n C rfl 1 rfl dJ15_newCapacity_21 22 rfl ?_
  refine s_iconst C 2 rfl dJ15_newCapacity_22 23 rfl ?_
  refine s_aload_n C rfl 2 rfl dJ15_newCapacity_23 24 rfl ?_
  refine x_gi C 29 (RJ16, TJ16, 4) rfl 1 (Nat.le_of_ble_eq_true rfl) q664 (Or.inl rfl) rfl 30 rfl dJ15_newCapacity_24 27 rfl (fun x4 => ?_)
  refine s_ishl C dJ15_newCapacity_27 28 rfl ?_
  refine s_iadd C dJ15_newCapacity_28 29 rfl ?_
  refine x_callS (enc := en_i) C 10 3 [vi_ x2, vi_ ((v1 <<< (x3 &&& 31)) - x2), vi_ (x2 + (2 <<< (x4 &&& 31)))] (ctJ5_newLength C.2.2.2.2.2.2.2.2.1 N m x2 ((v1 <<< (x3 &&& 31)) - x2) (x2 + (2 <<< (x4 &&& 31)))) q696 q368 q89 q369 hdJ5_newLength (Nat.le_of_ble_eq_true rfl) (Nat.le_of_ble_eq_true rfl) rfl (Nat.le_of_ble_eq_true rfl) dJ15_newCapacity_29 32 rfl rfl hen_i (kk_i (fun x5 m1 k1 n1 => ?_)) (kx_n he_i)
  refine s_istore C (Nat.le_of_ble_eq_true rfl) [2] rfl rfl dJ15_newCapacity_32 34 rfl ?_
  refine s_iload C 0 rfl dJ15_newCapacity_34 36 rfl ?_
  refine s_ldc C 2147483647 q697 dJ15_newCapacity_36 38 rfl ?_
  refine s_icmp_ne C dJ15_newCapacity_38 51 rfl 41 rfl (fun c_ => ?_) (fun c_ => ?_)
  · exact Sm_none
  · refine s_iload C 0 rfl dJ15_newCapacity_51 53 rfl ?_
    refine s_aload_n C rfl 1 rfl dJ15_newCapacity_53 54 rfl ?_
    refine x_gi C 29 (RJ16, TJ16, 4) rfl 1 (Nat.le_of_ble_eq_true rfl) q664 (Or.inl rfl) rfl 30 rfl dJ15_newCapacity_54 57 rfl (fun x6 => ?_)
    refine s_ishr C dJ15_newCapacity_57 58 rfl ?_
    exact x_iret C hret rfl dJ15_newCapacity_58
theorem hdJ15_newCapacity_t30 : ((⟨"java/lang/AbstractStringBuilder", "newCapacity", "(I)I"⟩ : MethodName)).cls ≠ "java/lang/invoke/MethodHandle" ∧ ((⟨"java/lang/AbstractStringBuilder", "newCapacity", "(I)I"⟩ : MethodName)).cls ≠ "java/lang/invoke/VarHandle" ∧ (parseMethodDescriptor ((⟨"java/lang/AbstractStringBuilder", "newCapacity", "(I)I"⟩ : MethodName)).desc).map (fun d => d.parameters.length) = some 1 := ⟨by decide +kernel, by decide +kernel, by decide +kernel⟩
theorem ctJ15_newCapacity_t30 {l : Launch} {g : GG} (hst : l.stackTraces = false) (N : Nat) (m : Mm) (v0 : Option Nat) (v1 : Int32) : ∀ v m' k n, fJ15_newCapacity_t30 (gE_ g) N m v0 v1 = some (v, m', k, n) → Ct_ l g (⟨"java/lang/AbstractStringBuilder", "newCapacity", "(I)I"⟩ : MethodName) (ws_ (⟨"java/lang/AbstractStringBuilder", "newCapacity", "(I)I"⟩ : MethodName) cJ15_newCapacity 6 (Option.some Jvm.ClassFile.FieldType.int)) 11 [vr_ v0, vi_ v1] m (en_i v) m' k n :=
  Ct_of (by decide +kernel) rfl hst (Nat.le_of_ble_eq_true rfl) rfl (fun E C hret h0 hin => wJ15_newCapacity_t30 C hret h0 hin N m v0 v1 0 0)
theorem wJ7_copyOf_3 {l : Launch} {g : GG} {E : Me_} (C : Cx_ l g E "java/util/Arrays" cJ7_copyOf_3 3 10) (hret : (eT_ E).sig.returnType = (Option.some (Jvm.ClassFile.FieldType.array Jvm.ClassFile.FieldType.byte))) (h0 : ∀ x ∈ (eC_ E).exceptionTable.toList, False) (hin : (eT_ E).name = "copyOf") (N : Nat) : ∀ (m : Mm) (v0 : Option Nat) (v1 : Int32) (k n : Nat), Sm_ l g E 3 en_r (fJ7_copyOf_3 (gE_ g) N m v0 v1) k n 0 [(0, vr_ v0), (1, vi_ v1)] [] m := by
  intro m v0 v1 k n
  unfold fJ7_copyOf_3
  refine s_iload_n C rfl 1 rfl dJ7_copyOf_3_0 1 rfl ?_
  refine s_aload_n C rfl 0 rfl dJ7_copyOf_3_1 2 rfl ?_
  refine x_ln C 2 (.byte) rfl 202 rfl dJ7_copyOf_3_2 3 rfl (fun x1 => ?_)
  refine s_icmp_ne C dJ7_copyOf_3_3 14 rfl 6 rfl (fun c_ => ?_) (fun c_ => ?_)
  · refine s_aload_n C rfl 0 rfl dJ7_copyOf_3_6 7 rfl ?_
    refine x_cl C q701 q706 (Nat.le_of_ble_eq_true rfl) (Nat.le_of_ble_eq_true rfl) dJ7_copyOf_3_7 10 rfl (fun x2 m1 z_ => ?_)
    refine x_cc C "[B" [202] (fun k hk => by rw [List.mem_singleton.mp hk]; exact ⟨rfl, Or.inr rfl⟩) q707 dJ7_copyOf_3_10 13 rfl ?_
    exact x_aret C hret (Or.inr ⟨_, rfl⟩) rfl dJ7_copyOf_3_13
  · refine s_iload_n C rfl 1 rfl dJ7_copyOf_3_14 15 rfl ?_
    refine x_naB C dJ7_copyOf_3_15 17 rfl (fun x3 m2 => ?_)
    refine s_astore_n C rfl (Nat.le_of_ble_eq_true rfl) [0, 1] rfl rfl dJ7_copyOf_3_17 18 rfl ?_
    refine s_aload_n C rfl 1 rfl dJ7_copyOf_3_18 19 rfl ?_
    refine s_iconst C 0 rfl dJ7_copyOf_3_19 20 rfl ?_
    refine s_aload_n C rfl 0 rfl dJ7_copyOf_3_20 21 rfl ?_
    refine s_iconst C 0 rfl dJ7_copyOf_3_21 22 rfl ?_
    refine s_aload_n C rfl 1 rfl dJ7_copyOf_3_22 23 rfl ?_
    refine x_ln C 2 (.byte) rfl 202 rfl dJ7_copyOf_3_23 24 rfl (fun x4 => ?_)
    refine s_iload_n C rfl 2 rfl dJ7_copyOf_3_24 25 rfl ?_
    refine x_mmin C q437 q438 q90 q439 (Nat.le_of_ble_eq_true rfl) (Nat.le_of_ble_eq_true rfl) dJ7_copyOf_3_25 28 rfl ?_
    refine x_ab C q440 q442 q441 q92 (Nat.le_of_ble_eq_true rfl) (Nat.le_of_ble_eq_true rfl) dJ7_copyOf_3_28 31 rfl (fun m3 => ?_)
    refine s_aload_n C rfl 0 rfl dJ7_copyOf_3_31 32 rfl ?_
    exact x_aret C hret (Or.inr ⟨_, rfl⟩) rfl dJ7_copyOf_3_32
theorem hdJ7_copyOf_3 : ((⟨"java/util/Arrays", "copyOf", "([BI)[B"⟩ : MethodName)).cls ≠ "java/lang/invoke/MethodHandle" ∧ ((⟨"java/util/Arrays", "copyOf", "([BI)[B"⟩ : MethodName)).cls ≠ "java/lang/invoke/VarHandle" ∧ (parseMethodDescriptor ((⟨"java/util/Arrays", "copyOf", "([BI)[B"⟩ : MethodName)).desc).map (fun d => d.parameters.length) = some 2 := ⟨by decide +kernel, by decide +kernel, by decide +kernel⟩
theorem ctJ7_copyOf_3 {l : Launch} {g : GG} (hst : l.stackTraces = false) (N : Nat) (m : Mm) (v0 : Option Nat) (v1 : Int32) : ∀ v m' k n, fJ7_copyOf_3 (gE_ g) N m v0 v1 = some (v, m', k, n) → Ct_ l g (⟨"java/util/Arrays", "copyOf", "([BI)[B"⟩ : MethodName) (ws_ (⟨"java/util/Arrays", "copyOf", "([BI)[B"⟩ : MethodName) cJ7_copyOf_3 3 (Option.some (Jvm.ClassFile.FieldType.array Jvm.ClassFile.FieldType.byte))) 10 [vr_ v0, vi_ v1] m (en_r v) m' k n :=
  Ct_of (by decide +kernel) rfl hst (Nat.le_of_ble_eq_true rfl) rfl (fun E C hret h0 hin => wJ7_copyOf_3 C hret h0 hin N m v0 v1 0 0)
theorem wJ15_ensureCapacityInternal_t30_b38 {l : Launch} {g : GG} {E : Me_} (C : Cx_ l g E "java/lang/AbstractStringBuilder" cJ15_ensureCapacityInternal 3 12) (hret : (eT_ E).sig.returnType = (Option.none : Option Jvm.ClassFile.FieldType)) (h0 : ∀ x ∈ (eC_ E).exceptionTable.toList, False) (hin : (eT_ E).name = "ensureCapacityInternal") (N : Nat) : ∀ (m : Mm) (k n : Nat), Sm_ l g E 3 en_v (fJ15_ensureCapacityInternal_t30_b38 (gE_ g) N m) k n 38 [] [] m := by
  intro m k n
  unfold fJ15_ensureCapacityInternal_t30_b38
  exact x_vret C hret rfl dJ15_ensureCapacityInternal_38
theorem wJ15_ensureCapacityInternal_t30 {l : Launch} {g : GG} {E : Me_} (C : Cx_ l g E "java/lang/AbstractStringBuilder" cJ15_ensureCapacityInternal 3 12) (hret : (eT_ E).sig.returnType = (Option.none : Option Jvm.ClassFile.FieldType)) (h0 : ∀ x ∈ (eC_ E).exceptionTable.toList, False) (hin : (eT_ E).name = "ensureCapacityInternal") (N : Nat) : ∀ (m : Mm) (v0 : Option Nat) (v1 : Int32) (k n : Nat), Sm_ l g E 3 en_v (fJ15_ensureCapacityInternal_t30 (gE_ g) N m v0 v1) k n 0 [(0, vr_ v0), (1, vi_ v1)] [] m := by
  intro m v0 v1 k n
  unfold fJ15_ensureCapacityInternal_t30
  refine s_aload_n C rfl 0 rfl dJ15_ensureCapacityInternal_0 1 rfl ?_
  refine x_gr C 29 (RJ16, TJ16, 4) rfl 0 (Nat.le_of_ble_eq_true rfl) q663 (Or.inl rfl) rfl 30 rfl dJ15_ensureCapacityInternal_1 4 rfl (fun x1 => ?_)
  refine x_ln C 2 (.byte) rfl 202 rfl dJ15_ensureCapacityInternal_4 5 rfl (fun x2 => ?_)
  refine s_aload_n C rfl 0 rfl dJ15_ensureCapacityInternal_5 6 rfl ?_
  refine x_gi C 29 (RJ16, TJ16, 4) rfl 1 (Nat.le_of_ble_eq_true rfl) q664 (Or.inl rfl) rfl 30 rfl dJ15_ensureCapacityInternal_6 9 rfl (fun x3 => ?_)
  refine s_ishr C dJ15_ensureCapacityInternal_9 10 rfl ?_
  refine s_istore_n C rfl (Nat.le_of_ble_eq_true rfl) [0, 1] rfl rfl dJ15_ensureCapacityInternal_10 11 rfl ?_
  refine s_iload_n C rfl 2 rfl dJ15_ensureCapacityInternal_11 12 rfl ?_
  refine s_iload_n C rfl 0 rfl dJ15_ensureCapacityInternal_12 13 rfl ?_
  refine s_isub C dJ15_ensureCapacityInternal_13 14 rfl ?_
  refine s_if_le C dJ15_ensureCapacityInternal_14 38 rfl 17 rfl (fun c_ => ?_) (fun c_ => ?_)
  · refine s_aload_n C rfl 1 rfl dJ15_ensureCapacityInternal_17 18 rfl ?_
    refine s_aload_n C rfl 1 rfl dJ15_ensureCapacityInternal_18 19 rfl ?_
    refine x_gr C 29 (RJ16, TJ16, 4) rfl 0 (Nat.le_of_ble_eq_true rfl) q663 (Or.inl rfl) rfl 30 rfl dJ15_ensureCapacityInternal_19 22 rfl (fun x4 => ?_)
    refine s_aload_n C rfl 1 rfl dJ15_ensureCapacityInternal_22 23 rfl ?_
    refine s_iload_n C rfl 2 rfl dJ15_ensureCapacityInternal_23 24 rfl ?_
    refine x_ck (fun hb_ hb0_ => ?_)
    refine x_callUP (enc := en_i) (owner := "java/lang/AbstractStringBuilder") C 11 1 [vi_ v1] 30 (ctJ15_newCapacity_t30 C.2.2.2.2.2.2.2.2.1 N m v0 v1) hb_ hb0_ rfl rfl (List.mem_of_getElem? (i := 1) rfl) q692 q3723 q694 q102 q695 rfl ⟨by decide +kernel, by decide +kernel, by decide +kernel⟩ (Nat.le_of_ble_eq_true rfl) (Nat.le_of_ble_eq_true rfl) rfl (Nat.le_of_ble_eq_true rfl) dJ15_ensureCapacityInternal_24 27 rfl rfl hen_i (kk_i (fun x5 m1 k1 n1 => ?_)) (kx_n he_i)
    refine s_aload_n C rfl 1 rfl dJ15_ensureCapacityInternal_27 28 rfl ?_
    refine x_gi C 29 (RJ16, TJ16, 4) rfl 1 (Nat.le_of_ble_eq_true rfl) q664 (Or.inl rfl) rfl 30 rfl dJ15_ensureCapacityInternal_28 31 rfl (fun x6 => ?_)
    refine s_ishl C dJ15_ensureCapacityInternal_31 32 rfl ?_
    refine x_callS (enc := en_r) C 10 2 [vr_ x4, vi_ (x5 <<< (x6 &&& 31))] (ctJ7_copyOf_3 C.2.2.2.2.2.2.2.2.1 N m1 x4 (x5 <<< (x6 &&& 31))) q698 q699 q91 q700 hdJ7_copyOf_3 (Nat.le_of_ble_eq_true rfl) (Nat.le_of_ble_eq_true rfl) rfl (Nat.le_of_ble_eq_true rfl) dJ15_ensureCapacityInternal_32 35 rfl rfl hen_r (kk_r (fun x7 m2 k1 n1 => ?_)) (kx_n he_r)
    refine x_pr C 29 (RJ16, TJ16, 4) rfl 0 (Nat.le_of_ble_eq_true rfl) rfl q663 (Or.inl rfl) rfl trivial 30 rfl dJ15_ensureCapacityInternal_35 38 rfl (fun m3 => ?_)
    refine Sm_sub [] rfl ?_
    exact wJ15_ensureCapacityInternal_t30_b38 C hret h0 hin N _ _ _
  · refine Sm_sub [] rfl ?_
    exact wJ15_ensureCapacityInternal_t30_b38 C hret h0 hin N _ _ _
theorem hdJ15_ensureCapacityInternal_t30 : ((⟨"java/lang/AbstractStringBuilder", "ensureCapacityInternal", "(I)V"⟩ : MethodName)).cls ≠ "java/lang/invoke/MethodHandle" ∧ ((⟨"java/lang/AbstractStringBuilder", "ensureCapacityInternal", "(I)V"⟩ : MethodName)).cls ≠ "java/lang/invoke/VarHandle" ∧ (parseMethodDescriptor ((⟨"java/lang/AbstractStringBuilder", "ensureCapacityInternal", "(I)V"⟩ : MethodName)).desc).map (fun d => d.parameters.length) = some 1 := ⟨by decide +kernel, by decide +kernel, by decide +kernel⟩
theorem ctJ15_ensureCapacityInternal_t30 {l : Launch} {g : GG} (hst : l.stackTraces = false) (N : Nat) (m : Mm) (v0 : Option Nat) (v1 : Int32) : ∀ v m' k n, fJ15_ensureCapacityInternal_t30 (gE_ g) N m v0 v1 = some (v, m', k, n) → Ct_ l g (⟨"java/lang/AbstractStringBuilder", "ensureCapacityInternal", "(I)V"⟩ : MethodName) (ws_ (⟨"java/lang/AbstractStringBuilder", "ensureCapacityInternal", "(I)V"⟩ : MethodName) cJ15_ensureCapacityInternal 3 (Option.none : Option Jvm.ClassFile.FieldType)) 12 [vr_ v0, vi_ v1] m (en_v v) m' k n :=
  Ct_of (by decide +kernel) rfl hst (Nat.le_of_ble_eq_true rfl) rfl (fun E C hret h0 hin => wJ15_ensureCapacityInternal_t30 C hret h0 hin N m v0 v1 0 0)
theorem wJ15_inflateIfNeededFor_t30_b21 {l : Launch} {g : GG} {E : Me_} (C : Cx_ l g E "java/lang/AbstractStringBuilder" cJ15_inflateIfNeededFor 2 11) (hret : (eT_ E).sig.returnType = (Option.none : Option Jvm.ClassFile.FieldType)) (h0 : ∀ x ∈ (eC_ E).exceptionTable.toList, False) (hin : (eT_ E).name = "inflateIfNeededFor") (N : Nat) : ∀ (m : Mm) (k n : Nat), Sm_ l g E 2 en_v (fJ15_inflateIfNeededFor_t30_b21 (gE_ g) N m) k n 21 [] [] m := by
  intro m k n
  unfold fJ15_inflateIfNeededFor_t30_b21
  exact x_vret C hret rfl dJ15_inflateIfNeededFor_21
theorem wJ15_inflateIfNeededFor_t30 {l : Launch} {g : GG} {E : Me_} (C : Cx_ l g E "java/lang/AbstractStringBuilder" cJ15_inflateIfNeededFor 2 11) (hret : (eT_ E).sig.returnType = (Option.none : Option Jvm.ClassFile.FieldType)) (h0 : ∀ x ∈ (eC_ E).exceptionTable.toList, False) (hin : (eT_ E).name = "inflateIfNeededFor") (N : Nat) : ∀ (m : Mm) (v0 : Option Nat) (v1 : Option Nat) (k n : Nat), Sm_ l g E 2 en_v (fJ15_inflateIfNeededFor_t30 (gE_ g) N m v0 v1) k n 0 [(0, vr_ v0), (1, vr_ v1)] [] m := by
  intro m v0 v1 k n
  unfold fJ15_inflateIfNeededFor_t30
  refine x_gs C 1 (vi_ 1) rfl q654 rfl dJ15_inflateIfNeededFor_0 3 rfl ?_
  refine s_if_eq C dJ15_inflateIfNeededFor_3 21 rfl 6 rfl (fun c_ => ?_) (fun c_ => ?_)
  · refine Sm_sub [] rfl ?_
    exact wJ15_inflateIfNeededFor_t30_b21 C hret h0 hin N _ _ _
  · refine s_aload_n C rfl 0 rfl dJ15_inflateIfNeededFor_6 7 rfl ?_
    refine x_gi C 29 (RJ16, TJ16, 4) rfl 1 (Nat.le_of_ble_eq_true rfl) q664 (Or.inl rfl) rfl 30 rfl dJ15_inflateIfNeededFor_7 10 rfl (fun x1 => ?_)
    refine s_aload_n C rfl 1 rfl dJ15_inflateIfNeededFor_10 11 rfl ?_
    refine x_ck (fun hb_ hb0_ => ?_)
    refine x_callV (enc := en_i) C 10 0 [] 29 (ctJ14_coder C.2.2.2.2.2.2.2.2.1 N m v1) hb_ hb0_ rfl rfl q756 q744 q745 q101 q746 hdJ14_coder (Nat.le_of_ble_eq_true rfl) (Nat.le_of_ble_eq_true rfl) rfl (Nat.le_of_ble_eq_true rfl) dJ15_inflateIfNeededFor_11 14 rfl rfl hen_i (kk_i (fun x2 m1 k1 n1 => ?_)) (kx_n he_i)
    refine s_icmp_eq C dJ15_inflateIfNeededFor_14 21 rfl 17 rfl (fun c_ => ?_) (fun c_ => ?_)
    · refine Sm_sub [] rfl ?_
      exact wJ15_inflateIfNeededFor_t30_b21 C hret h0 hin N _ _ _
    · refine s_aload_n C rfl 0 rfl dJ15_inflateIfNeededFor_17 18 rfl ?_
      exact Sm_none
theorem hdJ15_inflateIfNeededFor_t30 : ((⟨"java/lang/AbstractStringBuilder", "inflateIfNeededFor", "(Ljava/lang/String;)V"⟩ : MethodName)).cls ≠ "java/lang/invoke/MethodHandle" ∧ ((⟨"java/lang/AbstractStringBuilder", "inflateIfNeededFor", "(Ljava/lang/String;)V"⟩ : MethodName)).cls ≠ "java/lang/invoke/VarHandle" ∧ (parseMethodDescriptor ((⟨"java/lang/AbstractStringBuilder", "inflateIfNeededFor", "(Ljava/lang/String;)V"⟩ : MethodName)).desc).map (fun d => d.parameters.length) = some 1 := ⟨by decide +kernel, by decide +kernel, by decide +kernel⟩
theorem ctJ15_inflateIfNeededFor_t30 {l : Launch} {g : GG} (hst : l.stackTraces = false) (N : Nat) (m : Mm) (v0 : Option Nat) (v1 : Option Nat) : ∀ v m' k n, fJ15_inflateIfNeededFor_t30 (gE_ g) N m v0 v1 = some (v, m', k, n) → Ct_ l g (⟨"java/lang/AbstractStringBuilder", "inflateIfNeededFor", "(Ljava/lang/String;)V"⟩ : MethodName) (ws_ (⟨"java/lang/AbstractStringBuilder", "inflateIfNeededFor", "(Ljava/lang/String;)V"⟩ : MethodName) cJ15_inflateIfNeededFor 2 (Option.none : Option Jvm.ClassFile.FieldType)) 11 [vr_ v0, vr_ v1] m (en_v v) m' k n :=
  Ct_of (by decide +kernel) rfl hst (Nat.le_of_ble_eq_true rfl) rfl (fun E C hret h0 hin => wJ15_inflateIfNeededFor_t30 C hret h0 hin N m v0 v1 0 0)
theorem wJ14_getBytes {l : Launch} {g : GG} {E : Me_} (C : Cx_ l g E "java/lang/String" cJ14_getBytes 4 11) (hret : (eT_ E).sig.returnType = (Option.none : Option Jvm.ClassFile.FieldType)) (h0 : ∀ x ∈ (eC_ E).exceptionTable.toList, False) (hin : (eT_ E).name = "getBytes") (N : Nat) : ∀ (m : Mm) (v0 : Option Nat) (v1 : Option Nat) (v2 : Int32) (v3 : Int32) (k n : Nat), Sm_ l g E 4 en_v (fJ14_getBytes (gE_ g) N m v0 v1 v2 v3) k n 0 [(0, vr_ v0), (1, vr_ v1), (2, vi_ v2), (3, vi_ v3)] [] m := by
  intro m v0 v1 v2 v3 k n
  unfold fJ14_getBytes
  refine s_aload_n C rfl 0 rfl dJ14_getBytes_0 1 rfl ?_
  refine x_ck (fun hb_ hb0_ => ?_)
  refine x_callV (enc := en_i) C 10 0 [] 29 (ctJ14_coder C.2.2.2.2.2.2.2.2.1 N m v0) hb_ hb0_ rfl rfl q743 q744 q745 q101 q746 hdJ14_coder (Nat.le_of_ble_eq_true rfl) (Nat.le_of_ble_eq_true rfl) rfl (Nat.le_of_ble_eq_true rfl) dJ14_getBytes_1 4 rfl rfl hen_i (kk_i (fun x1 m1 k1 n1 => ?_)) (kx_n he_i)
  refine s_iload_n C rfl 3 rfl dJ14_getBytes_4 5 rfl ?_
  refine s_icmp_ne C dJ14_getBytes_5 28 rfl 8 rfl (fun c_ => ?_) (fun c_ => ?_)
  · refine s_aload_n C rfl 0 rfl dJ14_getBytes_8 9 rfl ?_
    refine x_gr C 28 (RJ14, TJ14, 4) rfl 0 (Nat.le_of_ble_eq_true rfl) q877 (Or.inl rfl) rfl 29 rfl dJ14_getBytes_9 12 rfl (fun x2 => ?_)
    refine s_iconst C 0 rfl dJ14_getBytes_12 13 rfl ?_
    refine s_aload_n C rfl 1 rfl dJ14_getBytes_13 14 rfl ?_
    refine s_iload_n C rfl 2 rfl dJ14_getBytes_14 15 rfl ?_
    refine s_iload_n C rfl 3 rfl dJ14_getBytes_15 16 rfl ?_
    refine s_ishl C dJ14_getBytes_16 17 rfl ?_
    refine s_aload_n C rfl 0 rfl dJ14_getBytes_17 18 rfl ?_
    refine x_gr C 28 (RJ14, TJ14, 4) rfl 0 (Nat.le_of_ble_eq_true rfl) q877 (Or.inl rfl) rfl 29 rfl dJ14_getBytes_18 21 rfl (fun x3 => ?_)
    refine x_ln C 2 (.byte) rfl 202 rfl dJ14_getBytes_21 22 rfl (fun x4 => ?_)
    refine x_ab C q780 q442 q441 q92 (Nat.le_of_ble_eq_true rfl) (Nat.le_of_ble_eq_true rfl) dJ14_getBytes_22 25 rfl (fun m2 => ?_)
    refine s_goto C (off := 18) 43 dJ14_getBytes_25 rfl ?_
    exact x_vret C hret rfl dJ14_getBytes_43
  · refine s_aload_n C rfl 0 rfl dJ14_getBytes_28 29 rfl ?_
    refine x_gr C 28 (RJ14, TJ14, 4) rfl 0 (Nat.le_of_ble_eq_true rfl) q877 (Or.inl rfl) rfl 29 rfl dJ14_getBytes_29 32 rfl (fun x5 => ?_)
    refine s_iconst C 0 rfl dJ14_getBytes_32 33 rfl ?_
    refine s_aload_n C rfl 1 rfl dJ14_getBytes_33 34 rfl ?_
    refine s_iload_n C rfl 2 rfl dJ14_getBytes_34 35 rfl ?_
    refine s_aload_n C rfl 0 rfl dJ14_getBytes_35 36 rfl ?_
    refine x_gr C 28 (RJ14, TJ14, 4) rfl 0 (Nat.le_of_ble_eq_true rfl) q877 (Or.inl rfl) rfl 29 rfl dJ14_getBytes_36 39 rfl (fun x6 => ?_)
    refine x_ln C 2 (.byte) rfl 202 rfl dJ14_getBytes_39 40 rfl (fun x7 => ?_)
    exact Sm_none
theorem hdJ14_getBytes : ((⟨"java/lang/String", "getBytes", "([BIB)V"⟩ : MethodName)).cls ≠ "java/lang/invoke/MethodHandle" ∧ ((⟨"java/lang/String", "getBytes", "([BIB)V"⟩ : MethodName)).cls ≠ "java/lang/invoke/VarHandle" ∧ (parseMethodDescriptor ((⟨"java/lang/String", "getBytes", "([BIB)V"⟩ : MethodName)).desc).map (fun d => d.parameters.length) = some 3 := ⟨by decide +kernel, by decide +kernel, by decide +kernel⟩
theorem ctJ14_getBytes {l : Launch} {g : GG} (hst : l.stackTraces = false) (N : Nat) (m : Mm) (v0 : Option Nat) (v1 : Option Nat) (v2 : Int32) (v3 : Int32) : ∀ v m' k n, fJ14_getBytes (gE_ g) N m v0 v1 v2 v3 = some (v, m', k, n) → Ct_ l g (⟨"java/lang/String", "getBytes", "([BIB)V"⟩ : MethodName) (ws_ (⟨"java/lang/String", "getBytes", "([BIB)V"⟩ : MethodName) cJ14_getBytes 4 (Option.none : Option Jvm.ClassFile.FieldType)) 11 [vr_ v0, vr_ v1, vi_ v2, vi_ v3] m (en_v v) m' k n :=
  Ct_of (by decide +kernel) rfl hst (Nat.le_of_ble_eq_true rfl) rfl (fun E C hret h0 hin => wJ14_getBytes C hret h0 hin N m v0 v1 v2 v3 0 0)
theorem wJ15_putStringAt_t30 {l : Launch} {g : GG} {E : Me_} (C : Cx_ l g E "java/lang/AbstractStringBuilder" cJ15_putStringAt 3 12) (hret : (eT_ E).sig.returnType = (Option.none : Option Jvm.ClassFile.FieldType)) (h0 : ∀ x ∈ (eC_ E).exceptionTable.toList, False) (hin : (eT_ E).name = "putStringAt") (N : Nat) : ∀ (m : Mm) (v0 : Option Nat) (v1 : Int32) (v2 : Option Nat) (k n : Nat), Sm_ l g E 3 en_v (fJ15_putStringAt_t30 (gE_ g) N m v0 v1 v2) k n 0 [(0, vr_ v0), (1, vi_ v1), (2, vr_ v2)] [] m := by
  intro m v0 v1 v2 k n
  unfold fJ15_putStringAt_t30
  refine s_aload_n C rfl 0 rfl dJ15_putStringAt_0 1 rfl ?_
  refine s_aload_n C rfl 2 rfl dJ15_putStringAt_1 2 rfl ?_
  refine x_ck (fun hb_ hb0_ => ?_)
  refine x_callUP (enc := en_v) (owner := "java/lang/AbstractStringBuilder") C 11 1 [vr_ v2] 30 (ctJ15_inflateIfNeededFor_t30 C.2.2.2.2.2.2.2.2.1 N m v0 v2) hb_ hb0_ rfl rfl (List.mem_of_getElem? (i := 3) rfl) q752 q3725 q754 q102 q755 rfl ⟨by decide +kernel, by decide +kernel, by decide +kernel⟩ (Nat.le_of_ble_eq_true rfl) (Nat.le_of_ble_eq_true rfl) rfl (Nat.le_of_ble_eq_true rfl) dJ15_putStringAt_2 5 rfl rfl hen_v (kk_v (fun m1 k1 n1 => ?_)) (kx_n he_v)
  refine s_aload_n C rfl 2 rfl dJ15_putStringAt_5 6 rfl ?_
  refine s_aload_n C rfl 0 rfl dJ15_putStringAt_6 7 rfl ?_
  refine x_gr C 29 (RJ16, TJ16, 4) rfl 0 (Nat.le_of_ble_eq_true rfl) q663 (Or.inl rfl) rfl 30 rfl dJ15_putStringAt_7 10 rfl (fun x1 => ?_)
  refine s_iload_n C rfl 1 rfl dJ15_putStringAt_10 11 rfl ?_
  refine s_aload_n C rfl 0 rfl dJ15_putStringAt_11 12 rfl ?_
  refine x_gi C 29 (RJ16, TJ16, 4) rfl 1 (Nat.le_of_ble_eq_true rfl) q664 (Or.inl rfl) rfl 30 rfl dJ15_putStringAt_12 15 rfl (fun x2 => ?_)
  refine x_ck (fun hb_ hb0_ => ?_)
  refine x_callV (enc := en_v) C 11 3 [vr_ x1, vi_ v1, vi_ x2] 29 (ctJ14_getBytes C.2.2.2.2.2.2.2.2.1 N m1 v2 x1 v1 x2) hb_ hb0_ rfl rfl q776 q777 q778 q101 q779 hdJ14_getBytes (Nat.le_of_ble_eq_true rfl) (Nat.le_of_ble_eq_true rfl) rfl (Nat.le_of_ble_eq_true rfl) dJ15_putStringAt_15 18 rfl rfl hen_v (kk_v (fun m2 k1 n1 => ?_)) (kx_n he_v)
  exact x_vret C hret rfl dJ15_putStringAt_18
theorem hdJ15_putStringAt_t30 : ((⟨"java/lang/AbstractStringBuilder", "putStringAt", "(ILjava/lang/String;)V"⟩ : MethodName)).cls ≠ "java/lang/invoke/MethodHandle" ∧ ((⟨"java/lang/AbstractStringBuilder", "putStringAt", "(ILjava/lang/String;)V"⟩ : MethodName)).cls ≠ "java/lang/invoke/VarHandle" ∧ (parseMethodDescriptor ((⟨"java/lang/AbstractStringBuilder", "putStringAt", "(ILjava/lang/String;)V"⟩ : MethodName)).desc).map (fun d => d.parameters.length) = some 2 := ⟨by decide +kernel, by decide +kernel, by decide +kernel⟩
theorem ctJ15_putStringAt_t30 {l : Launch} {g : GG} (hst : l.stackTraces = false) (N : Nat) (m : Mm) (v0 : Option Nat) (v1 : Int32) (v2 : Option Nat) : ∀ v m' k n, fJ15_putStringAt_t30 (gE_ g) N m v0 v1 v2 = some (v, m', k, n) → Ct_ l g (⟨"java/lang/AbstractStringBuilder", "putStringAt", "(ILjava/lang/String;)V"⟩ : MethodName) (ws_ (⟨"java/lang/AbstractStringBuilder", "putStringAt", "(ILjava/lang/String;)V"⟩ : MethodName) cJ15_putStringAt 3 (Option.none : Option Jvm.ClassFile.FieldType)) 12 [vr_ v0, vi_ v1, vr_ v2] m (en_v v) m' k n :=
  Ct_of (by decide +kernel) rfl hst (Nat.le_of_ble_eq_true rfl) rfl (fun E C hret h0 hin => wJ15_putStringAt_t30 C hret h0 hin N m v0 v1 v2 0 0)
theorem wJ15_append_t30 {l : Launch} {g : GG} {E : Me_} (C : Cx_ l g E "java/lang/AbstractStringBuilder" cJ15_append 3 13) (hret : (eT_ E).sig.returnType = (Option.some (Jvm.ClassFile.FieldType.object "java/lang/AbstractStringBuilder"))) (h0 : ∀ x ∈ (eC_ E).exceptionTable.toList, False) (hin : (eT_ E).name = "append") (N : Nat) : ∀ (m : Mm) (v0 : Option Nat) (v1 : Option Nat) (k n : Nat), Sm_ l g E 3 en_r (fJ15_append_t30 (gE_ g) N m v0 v1) k n 0 [(0, vr_ v0), (1, vr_ v1)] [] m := by
  intro m v0 v1 k n
  unfold fJ15_append_t30
  refine s_aload_n C rfl 1 rfl dJ15_append_0 1 rfl ?_
  refine s_ifnonnull C dJ15_append_1 9 rfl 4 rfl (fun c_ => ?_) (fun c_ => ?_)
  · refine s_aload_n C rfl 0 rfl dJ15_append_4 5 rfl ?_
    exact Sm_none
  · refine s_aload_n C rfl 1 rfl dJ15_append_9 10 rfl ?_
    refine x_ck (fun hb_ hb0_ => ?_)
    refine x_callV (enc := en_i) C 11 0 [] 29 (ctJ14_length C.2.2.2.2.2.2.2.2.1 N m v1) hb_ hb0_ rfl rfl q739 q740 q741 q101 q742 hdJ14_length (Nat.le_of_ble_eq_true rfl) (Nat.le_of_ble_eq_true rfl) rfl (Nat.le_of_ble_eq_true rfl) dJ15_append_10 13 rfl rfl hen_i (kk_i (fun x1 m1 k1 n1 => ?_)) (kx_n he_i)
    refine s_istore_n C rfl (Nat.le_of_ble_eq_true rfl) [0, 1] rfl rfl dJ15_append_13 14 rfl ?_
    refine s_aload_n C rfl 1 rfl dJ15_append_14 15 rfl ?_
    refine s_aload_n C rfl 1 rfl dJ15_append_15 16 rfl ?_
    refine x_gi C 29 (RJ16, TJ16, 4) rfl 3 (Nat.le_of_ble_eq_true rfl) q666 (Or.inl rfl) rfl 30 rfl dJ15_append_16 19 rfl (fun x2 => ?_)
    refine s_iload_n C rfl 0 rfl dJ15_append_19 20 rfl ?_
    refine s_iadd C dJ15_append_20 21 rfl ?_
    refine x_ck (fun hb_ hb0_ => ?_)
    refine x_callUP (enc := en_v) (owner := "java/lang/AbstractStringBuilder") C 12 1 [vi_ (x2 + x1)] 30 (ctJ15_ensureCapacityInternal_t30 C.2.2.2.2.2.2.2.2.1 N m1 v0 (x2 + x1)) hb_ hb0_ rfl rfl (List.mem_of_getElem? (i := 0) rfl) q688 q3722 q690 q102 q691 rfl ⟨by decide +kernel, by decide +kernel, by decide +kernel⟩ (Nat.le_of_ble_eq_true rfl) (Nat.le_of_ble_eq_true rfl) rfl (Nat.le_of_ble_eq_true rfl) dJ15_append_21 24 rfl rfl hen_v (kk_v (fun m2 k1 n1 => ?_)) (kx_n he_v)
    refine s_aload_n C rfl 1 rfl dJ15_append_24 25 rfl ?_
    refine s_aload_n C rfl 1 rfl dJ15_append_25 26 rfl ?_
    refine x_gi C 29 (RJ16, TJ16, 4) rfl 3 (Nat.le_of_ble_eq_true rfl) q666 (Or.inl rfl) rfl 30 rfl dJ15_append_26 29 rfl (fun x3 => ?_)
    refine s_aload_n C rfl 2 rfl dJ15_append_29 30 rfl ?_
    refine x_ck (fun hb_ hb0_ => ?_)
    refine x_callUP (enc := en_v) (owner := "java/lang/AbstractStringBuilder") C 12 2 [vi_ x3, vr_ v1] 30 (ctJ15_putStringAt_t30 C.2.2.2.2.2.2.2.2.1 N m2 v0 x3 v1) hb_ hb0_ rfl rfl (List.mem_of_getElem? (i := 2) rfl) q748 q3724 q750 q102 q751 rfl ⟨by decide +kernel, by decide +kernel, by decide +kernel⟩ (Nat.le_of_ble_eq_true rfl) (Nat.le_of_ble_eq_true rfl) rfl (Nat.le_of_ble_eq_true rfl) dJ15_append_30 33 rfl rfl hen_v (kk_v (fun m3 k1 n1 => ?_)) (kx_n he_v)
    refine s_aload_n C rfl 1 rfl dJ15_append_33 34 rfl ?_
    refine s_dup C rfl dJ15_append_34 35 rfl ?_
    refine x_gi C 29 (RJ16, TJ16, 4) rfl 3 (Nat.le_of_ble_eq_true rfl) q666 (Or.inl rfl) rfl 30 rfl dJ15_append_35 38 rfl (fun x4 => ?_)
    refine s_iload_n C rfl 0 rfl dJ15_append_38 39 rfl ?_
    refine s_iadd C dJ15_append_39 40 rfl ?_
    refine x_pi C 29 (RJ16, TJ16, 4) rfl 3 (Nat.le_of_ble_eq_true rfl) rfl q666 (Or.inl rfl) rfl trivial 30 rfl dJ15_append_40 43 rfl (fun m4 => ?_)
    refine s_aload_n C rfl 1 rfl dJ15_append_43 44 rfl ?_
    exact x_aret C hret (Or.inl ⟨_, rfl⟩) rfl dJ15_append_44
theorem hdJ15_append_t30 : ((⟨"java/lang/AbstractStringBuilder", "append", "(Ljava/lang/String;)Ljava/lang/AbstractStringBuilder;"⟩ : MethodName)).cls ≠ "java/lang/invoke/MethodHandle" ∧ ((⟨"java/lang/AbstractStringBuilder", "append", "(Ljava/lang/String;)Ljava/lang/AbstractStringBuilder;"⟩ : MethodName)).cls ≠ "java/lang/invoke/VarHandle" ∧ (parseMethodDescriptor ((⟨"java/lang/AbstractStringBuilder", "append", "(Ljava/lang/String;)Ljava/lang/AbstractStringBuilder;"⟩ : MethodName)).desc).map (fun d => d.parameters.length) = some 1 := ⟨by decide +kernel, by decide +kernel, by decide +kernel⟩
theorem ctJ15_append_t30 {l : Launch} {g : GG} (hst : l.stackTraces = false) (N : Nat) (m : Mm) (v0 : Option Nat) (v1 : Option Nat) : ∀ v m' k n, fJ15_append_t30 (gE_ g) N m v0 v1 = some (v, m', k, n) → Ct_ l g (⟨"java/lang/AbstractStringBuilder", "append", "(Ljava/lang/String;)Ljava/lang/AbstractStringBuilder;"⟩ : MethodName) (ws_ (⟨"java/lang/AbstractStringBuilder", "append", "(Ljava/lang/String;)Ljava/lang/AbstractStringBuilder;"⟩ : MethodName) cJ15_append 3 (Option.some (Jvm.ClassFile.FieldType.object "java/lang/AbstractStringBuilder"))) 13 [vr_ v0, vr_ v1] m (en_r v) m' k n :=
  Ct_of (by decide +kernel) rfl hst (Nat.le_of_ble_eq_true rfl) rfl (fun E C hret h0 hin => wJ15_append_t30 C hret h0 hin N m v0 v1 0 0)
theorem wJ16_append {l : Launch} {g : GG} {E : Me_} (C : Cx_ l g E "java/lang/StringBuilder" cJ16_append 2 14) (hret : (eT_ E).sig.returnType = (Option.some (Jvm.ClassFile.FieldType.object "java/lang/StringBuilder"))) (h0 : ∀ x ∈ (eC_ E).exceptionTable.toList, False) (hin : (eT_ E).name = "append") (N : Nat) : ∀ (m : Mm) (v0 : Option Nat) (v1 : Option Nat) (k n : Nat), Sm_ l g E 2 en_r (fJ16_append (gE_ g) N m v0 v1) k n 0 [(0, vr_ v0), (1, vr_ v1)] [] m := by
  intro m v0 v1 k n
  unfold fJ16_append
  refine s_aload_n C rfl 0 rfl dJ16_append_0 1 rfl ?_
  refine s_aload_n C rfl 1 rfl dJ16_append_1 2 rfl ?_
  refine x_ck (fun hb_ hb0_ => ?_)
  refine x_callZ (enc := en_r) C 13 1 [vr_ v1] 30 (ctJ15_append_t30 C.2.2.2.2.2.2.2.2.1 N m v0 v1) hb_ hb0_ rfl rfl rfl q681 q3720 q675 q682 q102 q683 (by decide) (by decide +kernel) (Nat.le_of_ble_eq_true rfl) (Nat.le_of_ble_eq_true rfl) rfl (Nat.le_of_ble_eq_true rfl) dJ16_append_2 5 rfl rfl hen_r (kk_r (fun x1 m1 k1 n1 => ?_)) (kx_n he_r)
  refine s_pop C rfl dJ16_append_5 6 rfl ?_
  refine s_aload_n C rfl 0 rfl dJ16_append_6 7 rfl ?_
  exact x_aret C hret (Or.inl ⟨_, rfl⟩) rfl dJ16_append_7
theorem hdJ16_append : ((⟨"java/lang/StringBuilder", "append", "(Ljava/lang/String;)Ljava/lang/StringBuilder;"⟩ : MethodName)).cls ≠ "java/lang/invoke/MethodHandle" ∧ ((⟨"java/lang/StringBuilder", "append", "(Ljava/lang/String;)Ljava/lang/StringBuilder;"⟩ : MethodName)).cls ≠ "java/lang/invoke/VarHandle" ∧ (parseMethodDescriptor ((⟨"java/lang/StringBuilder", "append", "(Ljava/lang/String;)Ljava/lang/StringBuilder;"⟩ : MethodName)).desc).map (fun d => d.parameters.length) = some 1 := ⟨by decide +kernel, by decide +kernel, by decide +kernel⟩
theorem ctJ16_append {l : Launch} {g : GG} (hst : l.stackTraces = false) (N : Nat) (m : Mm) (v0 : Option Nat) (v1 : Option Nat) : ∀ v m' k n, fJ16_append (gE_ g) N m v0 v1 = some (v, m', k, n) → Ct_ l g (⟨"java/lang/StringBuilder", "append", "(Ljava/lang/String;)Ljava/lang/StringBuilder;"⟩ : MethodName) (ws_ (⟨"java/lang/StringBuilder", "append", "(Ljava/lang/String;)Ljava/lang/StringBuilder;"⟩ : MethodName) cJ16_append 2 (Option.some (Jvm.ClassFile.FieldType.object "java/lang/StringBuilder"))) 14 [vr_ v0, vr_ v1] m (en_r v) m' k n :=
  Ct_of (by decide +kernel) rfl hst (Nat.le_of_ble_eq_true rfl) rfl (fun E C hret h0 hin => wJ16_append C hret h0 hin N m v0 v1 0 0)
theorem wJ21_stringSize_b16 {l : Launch} {g : GG} {E : Me_} (C : Cx_ l g E "java/lang/Integer" cJ21_stringSize 4 10) (hret : (eT_ E).sig.returnType = (Option.some Jvm.ClassFile.FieldType.int)) (h0 : ∀ x ∈ (eC_ E).exceptionTable.toList, False) (hin : (eT_ E).name = "stringSize") (N : Nat) : ∀ (F : Nat) (m : Mm) (v0 : Int32) (v1 : Int32) (v2 : Int32) (v3 : Int32) (k n : Nat), Sm_ l g E 4 en_i (fJ21_stringSize_b16 (gE_ g) N F m v0 v1 v2 v3) k n 16 [(0, vi_ v0), (1, vi_ v1), (2, vi_ v2), (3, vi_ v3)] [] m := by
  intro F
  induction F with
  | zero => intros; exact Sm_none
  | succ F ih =>
    intro m v0 v1 v2 v3 k n
    unfold fJ21_stringSize_b16
    refine s_iload_n C rfl 3 rfl dJ21_stringSize_16 17 rfl ?_
    refine s_bipush C 10 rfl dJ21_stringSize_17 19 rfl ?_
    refine s_icmp_ge C dJ21_stringSize_19 42 rfl 22 rfl (fun c_ => ?_) (fun c_ => ?_)
    · refine s_iload_n C rfl 0 rfl dJ21_stringSize_22 23 rfl ?_
      refine s_iload_n C rfl 2 rfl dJ21_stringSize_23 24 rfl ?_
      refine s_icmp_le C dJ21_stringSize_24 31 rfl 27 rfl (fun c_ => ?_) (fun c_ => ?_)
      · refine s_iload_n C rfl 3 rfl dJ21_stringSize_27 28 rfl ?_
        refine s_iload_n C rfl 1 rfl dJ21_stringSize_28 29 rfl ?_
        refine s_iadd C dJ21_stringSize_29 30 rfl ?_
        exact x_iret C hret rfl dJ21_stringSize_30
      · refine s_bipush C 10 rfl dJ21_stringSize_31 33 rfl ?_
        refine s_iload_n C rfl 2 rfl dJ21_stringSize_33 34 rfl ?_
        refine s_imul C dJ21_stringSize_34 35 rfl ?_
        refine s_istore_n C rfl (Nat.le_of_ble_eq_true rfl) [0, 1, 3] rfl rfl dJ21_stringSize_35 36 rfl ?_
        refine s_iinc C 1 rfl 3 rfl (Nat.le_of_ble_eq_true rfl) [0, 1, 2] rfl rfl dJ21_stringSize_36 39 rfl ?_
        refine s_goto C (off := -23) 16 dJ21_stringSize_39 rfl ?_
        refine Sm_sub [2, 3, 1, 0] rfl ?_
        exact ih _ _ _ _ _ _ _
    · refine s_bipush C 10 rfl dJ21_stringSize_42 44 rfl ?_
      refine s_iload_n C rfl 1 rfl dJ21_stringSize_44 45 rfl ?_
      refine s_iadd C dJ21_stringSize_45 46 rfl ?_
      exact x_iret C hret rfl dJ21_stringSize_46
theorem wJ21_stringSize_b11 {l : Launch} {g : GG} {E : Me_} (C : Cx_ l g E "java/lang/Integer" cJ21_stringSize 4 10) (hret : (eT_ E).sig.returnType = (Option.some Jvm.ClassFile.FieldType.int)) (h0 : ∀ x ∈ (eC_ E).exceptionTable.toList, False) (hin : (eT_ E).name = "stringSize") (N : Nat) : ∀ (m : Mm) (v0 : Int32) (v1 : Int32) (k n : Nat), Sm_ l g E 4 en_i (fJ21_stringSize_b11 (gE_ g) N m v0 v1) k n 11 [(0, vi_ v0), (1, vi_ v1)] [] m := by
  intro m v0 v1 k n
  unfold fJ21_stringSize_b11
  refine s_bipush C (-10) rfl dJ21_stringSize_11 13 rfl ?_
  refine s_istore_n C rfl (Nat.le_of_ble_eq_true rfl) [0, 1] rfl rfl dJ21_stringSize_13 14 rfl ?_
  refine s_iconst C 1 rfl dJ21_stringSize_14 15 rfl ?_
  refine s_istore_n C rfl (Nat.le_of_ble_eq_true rfl) [0, 1, 2] rfl rfl dJ21_stringSize_15 16 rfl ?_
  refine Sm_sub [2, 3, 1, 0] rfl ?_
  exact wJ21_stringSize_b16 C hret h0 hin N N _ _ _ _ _ _ _
theorem wJ21_stringSize {l : Launch} {g : GG} {E : Me_} (C : Cx_ l g E "java/lang/Integer" cJ21_stringSize 4 10) (hret : (eT_ E).sig.returnType = (Option.some Jvm.ClassFile.FieldType.int)) (h0 : ∀ x ∈ (eC_ E).exceptionTable.toList, False) (hin : (eT_ E).name = "stringSize") (N : Nat) : ∀ (m : Mm) (v0 : Int32) (k n : Nat), Sm_ l g E 4 en_i (fJ21_stringSize (gE_ g) N m v0) k n 0 [(0, vi_ v0)] [] m := by
  intro m v0 k n
  unfold fJ21_stringSize
  refine s_iconst C 1 rfl dJ21_stringSize_0 1 rfl ?_
  refine s_istore_n C rfl (Nat.le_of_ble_eq_true rfl) [0] rfl rfl dJ21_stringSize_1 2 rfl ?_
  refine s_iload_n C rfl 1 rfl dJ21_stringSize_2 3 rfl ?_
  refine s_if_lt C dJ21_stringSize_3 11 rfl 6 rfl (fun c_ => ?_) (fun c_ => ?_)
  · refine Sm_sub [1, 0] rfl ?_
    exact wJ21_stringSize_b11 C hret h0 hin N _ _ _ _ _
  · refine s_iconst C 0 rfl dJ21_stringSize_6 7 rfl ?_
    refine s_istore_n C rfl (Nat.le_of_ble_eq_true rfl) [1] rfl rfl dJ21_stringSize_7 8 rfl ?_
    refine s_iload_n C rfl 1 rfl dJ21_stringSize_8 9 rfl ?_
    refine s_ineg C dJ21_stringSize_9 10 rfl ?_
    refine s_istore_n C rfl (Nat.le_of_ble_eq_true rfl) [0] rfl rfl dJ21_stringSize_10 11 rfl ?_
    exact wJ21_stringSize_b11 C hret h0 hin N _ _ _ _ _
theorem hdJ21_stringSize : ((⟨"java/lang/Integer", "stringSize", "(I)I"⟩ : MethodName)).cls ≠ "java/lang/invoke/MethodHandle" ∧ ((⟨"java/lang/Integer", "stringSize", "(I)I"⟩ : MethodName)).cls ≠ "java/lang/invoke/VarHandle" ∧ (parseMethodDescriptor ((⟨"java/lang/Integer", "stringSize", "(I)I"⟩ : MethodName)).desc).map (fun d => d.parameters.length) = some 1 := ⟨by decide +kernel, by decide +kernel, by decide +kernel⟩
theorem ctJ21_stringSize {l : Launch} {g : GG} (hst : l.stackTraces = false) (N : Nat) (m : Mm) (v0 : Int32) : ∀ v m' k n, fJ21_stringSize (gE_ g) N m v0 = some (v, m', k, n) → Ct_ l g (⟨"java/lang/Integer", "stringSize", "(I)I"⟩ : MethodName) (ws_ (⟨"java/lang/Integer", "stringSize", "(I)I"⟩ : MethodName) cJ21_stringSize 4 (Option.some Jvm.ClassFile.FieldType.int)) 10 [vi_ v0] m (en_i v) m' k n :=
  Ct_of (by decide +kernel) rfl hst (Nat.le_of_ble_eq_true rfl) rfl (fun E C hret h0 hin => wJ21_stringSize C hret h0 hin N m v0 0 0)
theorem wJ15_isLatin1_t30_b18 {l : Launch} {g : GG} {E : Me_} (C : Cx_ l g E "java/lang/AbstractStringBuilder" cJ15_isLatin1 1 10) (hret : (eT_ E).sig.returnType = (Option.some Jvm.ClassFile.FieldType.boolean)) (h0 : ∀ x ∈ (eC_ E).exceptionTable.toList, False) (hin : (eT_ E).name = "isLatin1") (N : Nat) : ∀ (m : Mm) (s0 : Int32) (k n : Nat), Sm_ l g E 1 en_i (fJ15_isLatin1_t30_b18 (gE_ g) N m s0) k n 18 [] [vi_ s0] m := by
  intro m s0 k n
  unfold fJ15_isLatin1_t30_b18
  exact x_zret C hret rfl dJ15_isLatin1_18
theorem wJ15_isLatin1_t30_b17 {l : Launch} {g : GG} {E : Me_} (C : Cx_ l g E "java/lang/AbstractStringBuilder" cJ15_isLatin1 1 10) (hret : (eT_ E).sig.returnType = (Option.some Jvm.ClassFile.FieldType.boolean)) (h0 : ∀ x ∈ (eC_ E).exceptionTable.toList, False) (hin : (eT_ E).name = "isLatin1") (N : Nat) : ∀ (m : Mm) (k n : Nat), Sm_ l g E 1 en_i (fJ15_isLatin1_t30_b17 (gE_ g) N m) k n 17 [] [] m := by
  intro m k n
  unfold fJ15_isLatin1_t30_b17
  refine s_iconst C 0 rfl dJ15_isLatin1_17 18 rfl ?_
  exact wJ15_isLatin1_t30_b18 C hret h0 hin N _ _ _ _
theorem wJ15_isLatin1_t30 {l : Launch} {g : GG} {E : Me_} (C : Cx_ l g E "java/lang/AbstractStringBuilder" cJ15_isLatin1 1 10) (hret : (eT_ E).sig.returnType = (Option.some Jvm.ClassFile.FieldType.boolean)) (h0 : ∀ x ∈ (eC_ E).exceptionTable.toList, False) (hin : (eT_ E).name = "isLatin1") (N : Nat) : ∀ (m : Mm) (v0 : Option Nat) (k n : Nat), Sm_ l g E 1 en_i (fJ15_isLatin1_t30 (gE_ g) N m v0) k n 0 [(0, vr_ v0)] [] m := by
  intro m v0 k n
  unfold fJ15_isLatin1_t30
  refine x_gs C 1 (vi_ 1) rfl q654 rfl dJ15_isLatin1_0 3 rfl ?_
  refine s_if_eq C dJ15_isLatin1_3 17 rfl 6 rfl (fun c_ => ?_) (fun c_ => ?_)
  · refine Sm_sub [] rfl ?_
    exact wJ15_isLatin1_t30_b17 C hret h0 hin N _ _ _
  · refine s_aload_n C rfl 0 rfl dJ15_isLatin1_6 7 rfl ?_
    refine x_gi C 29 (RJ16, TJ16, 4) rfl 1 (Nat.le_of_ble_eq_true rfl) q664 (Or.inl rfl) rfl 30 rfl dJ15_isLatin1_7 10 rfl (fun x1 => ?_)
    refine s_if_ne C dJ15_isLatin1_10 17 rfl 13 rfl (fun c_ => ?_) (fun c_ => ?_)
    · refine s_iconst C 1 rfl dJ15_isLatin1_13 14 rfl ?_
      refine s_goto C (off := 4) 18 dJ15_isLatin1_14 rfl ?_
      refine Sm_sub [] rfl ?_
      exact wJ15_isLatin1_t30_b18 C hret h0 hin N _ _ _ _
    · refine Sm_sub [] rfl ?_
      exact wJ15_isLatin1_t30_b17 C hret h0 hin N _ _ _
theorem hdJ15_isLatin1_t30 : ((⟨"java/lang/AbstractStringBuilder", "isLatin1", "()Z"⟩ : MethodName)).cls ≠ "java/lang/invoke/MethodHandle" ∧ ((⟨"java/lang/AbstractStringBuilder", "isLatin1", "()Z"⟩ : MethodName)).cls ≠ "java/lang/invoke/VarHandle" ∧ (parseMethodDescriptor ((⟨"java/lang/AbstractStringBuilder", "isLatin1", "()Z"⟩ : MethodName)).desc).map (fun d => d.parameters.length) = some 0 := ⟨by decide +kernel, by decide +kernel, by decide +kernel⟩
theorem ctJ15_isLatin1_t30 {l : Launch} {g : GG} (hst : l.stackTraces = false) (N : Nat) (m : Mm) (v0 : Option Nat) : ∀ v m' k n, fJ15_isLatin1_t30 (gE_ g) N m v0 = some (v, m', k, n) → Ct_ l g (⟨"java/lang/AbstractStringBuilder", "isLatin1", "()Z"⟩ : MethodName) (ws_ (⟨"java/lang/AbstractStringBuilder", "isLatin1", "()Z"⟩ : MethodName) cJ15_isLatin1 1 (Option.some Jvm.ClassFile.FieldType.boolean)) 10 [vr_ v0] m (en_i v) m' k n :=
  Ct_of (by decide +kernel) rfl hst (Nat.le_of_ble_eq_true rfl) rfl (fun E C hret h0 hin => wJ15_isLatin1_t30 C hret h0 hin N m v0 0 0)
theorem wJ21_getChars_b118 {l : Launch} {g : GG} {E : Me_} (C : Cx_ l g E "java/lang/Integer" cJ21_getChars 7 10) (hret : (eT_ E).sig.returnType = (Option.some Jvm.ClassFile.FieldType.int)) (h0 : ∀ x ∈ (eC_ E).exceptionTable.toList, False) (hin : (eT_ E).name = "getChars") (N : Nat) : ∀ (m : Mm) (v5 : Int32) (k n : Nat), Sm_ l g E 7 en_i (fJ21_getChars_b118 (gE_ g) N m v5) k n 118 [(5, vi_ v5)] [] m := by
  intro m v5 k n
  unfold fJ21_getChars_b118
  refine s_iload C 0 rfl dJ21_getChars_118 120 rfl ?_
  exact x_iret C hret rfl dJ21_getChars_120
theorem wJ21_getChars_b104 {l : Launch} {g : GG} {E : Me_} (C : Cx_ l g E "java/lang/Integer" cJ21_getChars 7 10) (hret : (eT_ E).sig.returnType = (Option.some Jvm.ClassFile.FieldType.int)) (h0 : ∀ x ∈ (eC_ E).exceptionTable.toList, False) (hin : (eT_ E).name = "getChars") (N : Nat) : ∀ (m : Mm) (v2 : Option Nat) (v5 : Int32) (v6 : Int32) (k n : Nat), Sm_ l g E 7 en_i (fJ21_getChars_b104 (gE_ g) N m v2 v5 v6) k n 104 [(2, vr_ v2), (5, vi_ v5), (6, vi_ v6)] [] m := by
  intro m v2 v5 v6 k n
  unfold fJ21_getChars_b104
  refine s_iload C 2 rfl dJ21_getChars_104 106 rfl ?_
  refine s_if_eq C dJ21_getChars_106 118 rfl 109 rfl (fun c_ => ?_) (fun c_ => ?_)
  · refine Sm_sub [1] rfl ?_
    exact wJ21_getChars_b118 C hret h0 hin N _ _ _ _
  · refine s_aload_n C rfl 0 rfl dJ21_getChars_109 110 rfl ?_
    refine s_iinc C (-1) rfl 1 rfl (Nat.le_of_ble_eq_true rfl) [0, 2] rfl rfl dJ21_getChars_110 113 rfl ?_
    refine s_iload C 0 rfl dJ21_getChars_113 115 rfl ?_
    refine s_bipush C 45 rfl dJ21_getChars_115 117 rfl ?_
    refine x_bi2 C 202 rfl dJ21_getChars_117 118 rfl (fun m1 => ?_)
    refine Sm_sub [0] rfl ?_
    exact wJ21_getChars_b118 C hret h0 hin N _ _ _ _
theorem wJ21_getChars_b22 {l : Launch} {g : GG} {E : Me_} (C : Cx_ l g E "java/lang/Integer" cJ21_getChars 7 10) (hret : (eT_ E).sig.returnType = (Option.some Jvm.ClassFile.FieldType.int)) (h0 : ∀ x ∈ (eC_ E).exceptionTable.toList, False) (hin : (eT_ E).name = "getChars") (N : Nat) : ∀ (F : Nat) (m : Mm) (v0 : Int32) (v2 : Option Nat) (v5 : Int32) (v6 : Int32) (k n : Nat), Sm_ l g E 7 en_i (fJ21_getChars_b22 (gE_ g) N F m v0 v2 v5 v6) k n 22 [(0, vi_ v0), (2, vr_ v2), (5, vi_ v5), (6, vi_ v6)] [] m := by
  intro F
  induction F with
  | zero => intros; exact Sm_none
  | succ F ih =>
    intro m v0 v2 v5 v6 k n
    unfold fJ21_getChars_b22
    refine s_iload_n C rfl 0 rfl dJ21_getChars_22 23 rfl ?_
    refine s_bipush C (-100) rfl dJ21_getChars_23 25 rfl ?_
    refine s_icmp_gt C dJ21_getChars_25 72 rfl 28 rfl (fun c_ => ?_) (fun c_ => ?_)
    · refine s_aload_n C rfl 1 rfl dJ21_getChars_72 73 rfl ?_
      refine s_iinc C (-1) rfl 2 rfl (Nat.le_of_ble_eq_true rfl) [0, 1, 3] rfl rfl dJ21_getChars_73 76 rfl ?_
      refine s_iload C 0 rfl dJ21_getChars_76 78 rfl ?_
      refine x_gs C 2 (vr_ (some (gE_ g 1))) rfl q796 rfl dJ21_getChars_78 81 rfl ?_
      refine s_iload_n C rfl 1 rfl dJ21_getChars_81 82 rfl ?_
      refine s_ineg C dJ21_getChars_82 83 rfl ?_
      refine x_ai2 C 202 rfl dJ21_getChars_83 84 rfl (fun x1 => ?_)
      refine x_bi2 C 202 rfl dJ21_getChars_84 85 rfl (fun m1 => ?_)
      refine s_iload_n C rfl 1 rfl dJ21_getChars_85 86 rfl ?_
      refine s_bipush C (-9) rfl dJ21_getChars_86 88 rfl ?_
      refine s_icmp_ge C dJ21_getChars_88 104 rfl 91 rfl (fun c_ => ?_) (fun c_ => ?_)
      · refine s_aload_n C rfl 2 rfl dJ21_getChars_91 92 rfl ?_
        refine s_iinc C (-1) rfl 0 rfl (Nat.le_of_ble_eq_true rfl) [1, 2, 3] rfl rfl dJ21_getChars_92 95 rfl ?_
        refine s_iload C 0 rfl dJ21_getChars_95 97 rfl ?_
        refine x_gs C 3 (vr_ (some (gE_ g 2))) rfl q798 rfl dJ21_getChars_97 100 rfl ?_
        refine s_iload_n C rfl 1 rfl dJ21_getChars_100 101 rfl ?_
        refine s_ineg C dJ21_getChars_101 102 rfl ?_
        refine x_ai2 C 202 rfl dJ21_getChars_102 103 rfl (fun x2 => ?_)
        refine x_bi2 C 202 rfl dJ21_getChars_103 104 rfl (fun m2 => ?_)
        refine Sm_sub [2, 0, 3] rfl ?_
        exact wJ21_getChars_b104 C hret h0 hin N _ _ _ _ _ _
      · refine Sm_sub [2, 0, 3] rfl ?_
        exact wJ21_getChars_b104 C hret h0 hin N _ _ _ _ _ _
    · refine s_iload_n C rfl 0 rfl dJ21_getChars_28 29 rfl ?_
      refine s_bipush C 100 rfl dJ21_getChars_29 31 rfl ?_
      refine s_idiv C (by decide) dJ21_getChars_31 32 rfl ?_
      refine s_istore_n C rfl (Nat.le_of_ble_eq_true rfl) [0, 1, 2, 3] rfl rfl dJ21_getChars_32 33 rfl ?_
      refine s_iload_n C rfl 0 rfl dJ21_getChars_33 34 rfl ?_
      refine s_bipush C 100 rfl dJ21_getChars_34 36 rfl ?_
      refine s_imul C dJ21_getChars_36 37 rfl ?_
      refine s_iload_n C rfl 1 rfl dJ21_getChars_37 38 rfl ?_
      refine s_isub C dJ21_getChars_38 39 rfl ?_
      refine s_istore C (Nat.le_of_ble_eq_true rfl) [0, 2, 3, 4] rfl rfl dJ21_getChars_39 41 rfl ?_
      refine s_iload_n C rfl 1 rfl dJ21_getChars_41 42 rfl ?_
      refine s_istore_n C rfl (Nat.le_of_ble_eq_true rfl) [0, 2, 3, 4] rfl rfl dJ21_getChars_42 43 rfl ?_
      refine s_aload_n C rfl 2 rfl dJ21_getChars_43 44 rfl ?_
      refine s_iinc C (-1) rfl 3 rfl (Nat.le_of_ble_eq_true rfl) [0, 1, 2, 4] rfl rfl dJ21_getChars_44 47 rfl ?_
      refine s_iload C 0 rfl dJ21_getChars_47 49 rfl ?_
      refine x_gs C 2 (vr_ (some (gE_ g 1))) rfl q796 rfl dJ21_getChars_49 52 rfl ?_
      refine s_iload C 2 rfl dJ21_getChars_52 54 rfl ?_
      refine x_ai2 C 202 rfl dJ21_getChars_54 55 rfl (fun x3 => ?_)
      refine x_bi2 C 202 rfl dJ21_getChars_55 56 rfl (fun m3 => ?_)
      refine s_aload_n C rfl 3 rfl dJ21_getChars_56 57 rfl ?_
      refine s_iinc C (-1) rfl 0 rfl (Nat.le_of_ble_eq_true rfl) [1, 2, 3, 4] rfl rfl dJ21_getChars_57 60 rfl ?_
      refine s_iload C 0 rfl dJ21_getChars_60 62 rfl ?_
      refine x_gs C 3 (vr_ (some (gE_ g 2))) rfl q798 rfl dJ21_getChars_62 65 rfl ?_
      refine s_iload C 2 rfl dJ21_getChars_65 67 rfl ?_
      refine x_ai2 C 202 rfl dJ21_getChars_67 68 rfl (fun x4 => ?_)
      refine x_bi2 C 202 rfl dJ21_getChars_68 69 rfl (fun m4 => ?_)
      refine s_goto C (off := -47) 22 dJ21_getChars_69 rfl ?_
      refine Sm_sub [1, 3, 0, 4] rfl ?_
      exact ih _ _ _ _ _ _ _
theorem wJ21_getChars_b12 {l : Launch} {g : GG} {E : Me_} (C : Cx_ l g E "java/lang/Integer" cJ21_getChars 7 10) (hret : (eT_ E).sig.returnType = (Option.some Jvm.ClassFile.FieldType.int)) (h0 : ∀ x ∈ (eC_ E).exceptionTable.toList, False) (hin : (eT_ E).name = "getChars") (N : Nat) : ∀ (m : Mm) (v0 : Int32) (v2 : Option Nat) (v5 : Int32) (s0 : Int32) (k n : Nat), Sm_ l g E 7 en_i (fJ21_getChars_b12 (gE_ g) N m v0 v2 v5 s0) k n 12 [(0, vi_ v0), (2, vr_ v2), (5, vi_ v5)] [vi_ s0] m := by
  intro m v0 v2 v5 s0 k n
  unfold fJ21_getChars_b12
  refine s_istore C (Nat.le_of_ble_eq_true rfl) [0, 1, 2] rfl rfl dJ21_getChars_12 14 rfl ?_
  refine s_iload C 0 rfl dJ21_getChars_14 16 rfl ?_
  refine s_if_ne C dJ21_getChars_16 22 rfl 19 rfl (fun c_ => ?_) (fun c_ => ?_)
  · refine s_iload_n C rfl 1 rfl dJ21_getChars_19 20 rfl ?_
    refine s_ineg C dJ21_getChars_20 21 rfl ?_
    refine s_istore_n C rfl (Nat.le_of_ble_eq_true rfl) [0, 2, 3] rfl rfl dJ21_getChars_21 22 rfl ?_
    refine Sm_sub [0, 2, 3, 1] rfl ?_
    exact wJ21_getChars_b22 C hret h0 hin N N _ _ _ _ _ _ _
  · refine Sm_sub [1, 2, 3, 0] rfl ?_
    exact wJ21_getChars_b22 C hret h0 hin N N _ _ _ _ _ _ _
theorem wJ21_getChars {l : Launch} {g : GG} {E : Me_} (C : Cx_ l g E "java/lang/Integer" cJ21_getChars 7 10) (hret : (eT_ E).sig.returnType = (Option.some Jvm.ClassFile.FieldType.int)) (h0 : ∀ x ∈ (eC_ E).exceptionTable.toList, False) (hin : (eT_ E).name = "getChars") (N : Nat) : ∀ (m : Mm) (v0 : Int32) (v1 : Int32) (v2 : Option Nat) (k n : Nat), Sm_ l g E 7 en_i (fJ21_getChars (gE_ g) N m v0 v1 v2) k n 0 [(0, vi_ v0), (1, vi_ v1), (2, vr_ v2)] [] m := by
  intro m v0 v1 v2 k n
  unfold fJ21_getChars
  refine s_iload_n C rfl 1 rfl dJ21_getChars_0 1 rfl ?_
  refine s_istore C (Nat.le_of_ble_eq_true rfl) [0, 2] rfl rfl dJ21_getChars_1 3 rfl ?_
  refine s_iload_n C rfl 1 rfl dJ21_getChars_3 4 rfl ?_
  refine s_if_ge C dJ21_getChars_4 11 rfl 7 rfl (fun c_ => ?_) (fun c_ => ?_)
  · refine s_iconst C 1 rfl dJ21_getChars_7 8 rfl ?_
    refine s_goto C (off := 4) 12 dJ21_getChars_8 rfl ?_
    refine Sm_sub [1, 2, 0] rfl ?_
    exact wJ21_getChars_b12 C hret h0 hin N _ _ _ _ _ _ _
  · refine s_iconst C 0 rfl dJ21_getChars_11 12 rfl ?_
    refine Sm_sub [1, 2, 0] rfl ?_
    exact wJ21_getChars_b12 C hret h0 hin N _ _ _ _ _ _ _
theorem hdJ21_getChars : ((⟨"java/lang/Integer", "getChars", "(II[B)I"⟩ : MethodName)).cls ≠ "java/lang/invoke/MethodHandle" ∧ ((⟨"java/lang/Integer", "getChars", "(II[B)I"⟩ : MethodName)).cls ≠ "java/lang/invoke/VarHandle" ∧ (parseMethodDescriptor ((⟨"java/lang/Integer", "getChars", "(II[B)I"⟩ : MethodName)).desc).map (fun d => d.parameters.length) = some 3 := ⟨by decide +kernel, by decide +kernel, by decide +kernel⟩
theorem ctJ21_getChars {l : Launch} {g : GG} (hst : l.stackTraces = false) (N : Nat) (m : Mm) (v0 : Int32) (v1 : Int32) (v2 : Option Nat) : ∀ v m' k n, fJ21_getChars (gE_ g) N m v0 v1 v2 = some (v, m', k, n) → Ct_ l g (⟨"java/lang/Integer", "getChars", "(II[B)I"⟩ : MethodName) (ws_ (⟨"java/lang/Integer", "getChars", "(II[B)I"⟩ : MethodName) cJ21_getChars 7 (Option.some Jvm.ClassFile.FieldType.int)) 10 [vi_ v0, vi_ v1, vr_ v2] m (en_i v) m' k n :=
  Ct_of (by decide +kernel) rfl hst (Nat.le_of_ble_eq_true rfl) rfl (fun E C hret h0 hin => wJ21_getChars C hret h0 hin N m v0 v1 v2 0 0)
theorem wJ15_append_2_t30 {l : Launch} {g : GG} {E : Me_} (C : Cx_ l g E "java/lang/AbstractStringBuilder" cJ15_append_2 4 13) (hret : (eT_ E).sig.returnType = (Option.some (Jvm.ClassFile.FieldType.object "java/lang/AbstractStringBuilder"))) (h0 : ∀ x ∈ (eC_ E).exceptionTable.toList, False) (hin : (eT_ E).name = "append") (N : Nat) : ∀ (m : Mm) (v0 : Option Nat) (v1 : Int32) (k n : Nat), Sm_ l g E 4 en_r (fJ15_append_2_t30 (gE_ g) N m v0 v1) k n 0 [(0, vr_ v0), (1, vi_ v1)] [] m := by
  intro m v0 v1 k n
  unfold fJ15_append_2_t30
  refine s_aload_n C rfl 0 rfl dJ15_append_2_0 1 rfl ?_
  refine x_gi C 29 (RJ16, TJ16, 4) rfl 3 (Nat.le_of_ble_eq_true rfl) q666 (Or.inl rfl) rfl 30 rfl dJ15_append_2_1 4 rfl (fun x1 => ?_)
  refine s_istore_n C rfl (Nat.le_of_ble_eq_true rfl) [0, 1] rfl rfl dJ15_append_2_4 5 rfl ?_
  refine s_iload_n C rfl 0 rfl dJ15_append_2_5 6 rfl ?_
  refine s_iload_n C rfl 2 rfl dJ15_append_2_6 7 rfl ?_
  refine x_callS (enc := en_i) C 10 1 [vi_ v1] (ctJ21_stringSize C.2.2.2.2.2.2.2.2.1 N m v1) q790 q791 q108 q792 hdJ21_stringSize (Nat.le_of_ble_eq_true rfl) (Nat.le_of_ble_eq_true rfl) rfl (Nat.le_of_ble_eq_true rfl) dJ15_append_2_7 10 rfl rfl hen_i (kk_i (fun x2 m1 k1 n1 => ?_)) (kx_n he_i)
  refine s_iadd C dJ15_append_2_10 11 rfl ?_
  refine s_istore_n C rfl (Nat.le_of_ble_eq_true rfl) [0, 1, 2] rfl rfl dJ15_append_2_11 12 rfl ?_
  refine s_aload_n C rfl 2 rfl dJ15_append_2_12 13 rfl ?_
  refine s_iload_n C rfl 0 rfl dJ15_append_2_13 14 rfl ?_
  refine x_ck (fun hb_ hb0_ => ?_)
  refine x_callUP (enc := en_v) (owner := "java/lang/AbstractStringBuilder") C 12 1 [vi_ (x1 + x2)] 30 (ctJ15_ensureCapacityInternal_t30 C.2.2.2.2.2.2.2.2.1 N m1 v0 (x1 + x2)) hb_ hb0_ rfl rfl (List.mem_of_getElem? (i := 0) rfl) q688 q3722 q690 q102 q691 rfl ⟨by decide +kernel, by decide +kernel, by decide +kernel⟩ (Nat.le_of_ble_eq_true rfl) (Nat.le_of_ble_eq_true rfl) rfl (Nat.le_of_ble_eq_true rfl) dJ15_append_2_14 17 rfl rfl hen_v (kk_v (fun m2 k1 n1 => ?_)) (kx_n he_v)
  refine s_aload_n C rfl 2 rfl dJ15_append_2_17 18 rfl ?_
  refine x_ck (fun hb_ hb0_ => ?_)
  refine x_callU (enc := en_i) (owner := "java/lang/AbstractStringBuilder") C 10 0 [] 30 (ctJ15_isLatin1_t30 C.2.2.2.2.2.2.2.2.1 N m2 v0) hb_ hb0_ rfl rfl q708 q710 q711 q709 q102 q712 rfl ⟨by decide +kernel, by decide +kernel, by decide +kernel⟩ (Nat.le_of_ble_eq_true rfl) (Nat.le_of_ble_eq_true rfl) rfl (Nat.le_of_ble_eq_true rfl) dJ15_append_2_18 21 rfl rfl hen_i (kk_i (fun x3 m3 k1 n1 => ?_)) (kx_n he_i)
  refine s_if_eq C dJ15_append_2_21 37 rfl 24 rfl (fun c_ => ?_) (fun c_ => ?_)
  · refine s_iload_n C rfl 3 rfl dJ15_append_2_37 38 rfl ?_
    refine s_iload_n C rfl 1 rfl dJ15_append_2_38 39 rfl ?_
    refine s_iload_n C rfl 0 rfl dJ15_append_2_39 40 rfl ?_
    refine s_aload_n C rfl 2 rfl dJ15_append_2_40 41 rfl ?_
    refine x_gr C 29 (RJ16, TJ16, 4) rfl 0 (Nat.le_of_ble_eq_true rfl) q663 (Or.inl rfl) rfl 30 rfl dJ15_append_2_41 44 rfl (fun x4 => ?_)
    exact Sm_none
  · refine s_iload_n C rfl 3 rfl dJ15_append_2_24 25 rfl ?_
    refine s_iload_n C rfl 0 rfl dJ15_append_2_25 26 rfl ?_
    refine s_aload_n C rfl 2 rfl dJ15_append_2_26 27 rfl ?_
    refine x_gr C 29 (RJ16, TJ16, 4) rfl 0 (Nat.le_of_ble_eq_true rfl) q663 (Or.inl rfl) rfl 30 rfl dJ15_append_2_27 30 rfl (fun x5 => ?_)
    refine x_callS (enc := en_i) C 10 3 [vi_ v1, vi_ (x1 + x2), vr_ x5] (ctJ21_getChars C.2.2.2.2.2.2.2.2.1 N m3 v1 (x1 + x2) x5) q793 q794 q108 q795 hdJ21_getChars (Nat.le_of_ble_eq_true rfl) (Nat.le_of_ble_eq_true rfl) rfl (Nat.le_of_ble_eq_true rfl) dJ15_append_2_30 33 rfl rfl hen_i (kk_i (fun x6 m4 k1 n1 => ?_)) (kx_n he_i)
    refine s_pop C rfl dJ15_append_2_33 34 rfl ?_
    refine s_goto C (off := 14) 48 dJ15_append_2_34 rfl ?_
    refine s_aload_n C rfl 2 rfl dJ15_append_2_48 49 rfl ?_
    refine s_iload_n C rfl 0 rfl dJ15_append_2_49 50 rfl ?_
    refine x_pi C 29 (RJ16, TJ16, 4) rfl 3 (Nat.le_of_ble_eq_true rfl) rfl q666 (Or.inl rfl) rfl trivial 30 rfl dJ15_append_2_50 53 rfl (fun m5 => ?_)
    refine s_aload_n C rfl 2 rfl dJ15_append_2_53 54 rfl ?_
    exact x_aret C hret (Or.inl ⟨_, rfl⟩) rfl dJ15_append_2_54
theorem hdJ15_append_2_t30 : ((⟨"java/lang/AbstractStringBuilder", "append", "(I)Ljava/lang/AbstractStringBuilder;"⟩ : MethodName)).cls ≠ "java/lang/invoke/MethodHandle" ∧ ((⟨"java/lang/AbstractStringBuilder", "append", "(I)Ljava/lang/AbstractStringBuilder;"⟩ : MethodName)).cls ≠ "java/lang/invoke/VarHandle" ∧ (parseMethodDescriptor ((⟨"java/lang/AbstractStringBuilder", "append", "(I)Ljava/lang/AbstractStringBuilder;"⟩ : MethodName)).desc).map (fun d => d.parameters.length) = some 1 := ⟨by decide +kernel, by decide +kernel, by decide +kernel⟩
theorem ctJ15_append_2_t30 {l : Launch} {g : GG} (hst : l.stackTraces = false) (N : Nat) (m : Mm) (v0 : Option Nat) (v1 : Int32) : ∀ v m' k n, fJ15_append_2_t30 (gE_ g) N m v0 v1 = some (v, m', k, n) → Ct_ l g (⟨"java/lang/AbstractStringBuilder", "append", "(I)Ljava/lang/AbstractStringBuilder;"⟩ : MethodName) (ws_ (⟨"java/lang/AbstractStringBuilder", "append", "(I)Ljava/lang/AbstractStringBuilder;"⟩ : MethodName) cJ15_append_2 4 (Option.some (Jvm.ClassFile.FieldType.object "java/lang/AbstractStringBuilder"))) 13 [vr_ v0, vi_ v1] m (en_r v) m' k n :=
  Ct_of (by decide +kernel) rfl hst (Nat.le_of_ble_eq_true rfl) rfl (fun E C hret h0 hin => wJ15_append_2_t30 C hret h0 hin N m v0 v1 0 0)
theorem wJ16_append_2 {l : Launch} {g : GG} {E : Me_} (C : Cx_ l g E "java/lang/StringBuilder" cJ16_append_2 2 14) (hret : (eT_ E).sig.returnType = (Option.some (Jvm.ClassFile.FieldType.object "java/lang/StringBuilder"))) (h0 : ∀ x ∈ (eC_ E).exceptionTable.toList, False) (hin : (eT_ E).name = "append") (N : Nat) : ∀ (m : Mm) (v0 : Option Nat) (v1 : Int32) (k n : Nat), Sm_ l g E 2 en_r (fJ16_append_2 (gE_ g) N m v0 v1) k n 0 [(0, vr_ v0), (1, vi_ v1)] [] m := by
  intro m v0 v1 k n
  unfold fJ16_append_2
  refine s_aload_n C rfl 0 rfl dJ16_append_2_0 1 rfl ?_
  refine s_iload_n C rfl 1 rfl dJ16_append_2_1 2 rfl ?_
  refine x_ck (fun hb_ hb0_ => ?_)
  refine x_callZ (enc := en_r) C 13 1 [vi_ v1] 30 (ctJ15_append_2_t30 C.2.2.2.2.2.2.2.2.1 N m v0 v1) hb_ hb0_ rfl rfl rfl q787 q3727 q675 q788 q102 q789 (by decide) (by decide +kernel) (Nat.le_of_ble_eq_true rfl) (Nat.le_of_ble_eq_true rfl) rfl (Nat.le_of_ble_eq_true rfl) dJ16_append_2_2 5 rfl rfl hen_r (kk_r (fun x1 m1 k1 n1 => ?_)) (kx_n he_r)
  refine s_pop C rfl dJ16_append_2_5 6 rfl ?_
  refine s_aload_n C rfl 0 rfl dJ16_append_2_6 7 rfl ?_
  exact x_aret C hret (Or.inl ⟨_, rfl⟩) rfl dJ16_append_2_7
theorem hdJ16_append_2 : ((⟨"java/lang/StringBuilder", "append", "(I)Ljava/lang/StringBuilder;"⟩ : MethodName)).cls ≠ "java/lang/invoke/MethodHandle" ∧ ((⟨"java/lang/StringBuilder", "append", "(I)Ljava/lang/StringBuilder;"⟩ : MethodName)).cls ≠ "java/lang/invoke/VarHandle" ∧ (parseMethodDescriptor ((⟨"java/lang/StringBuilder", "append", "(I)Ljava/lang/StringBuilder;"⟩ : MethodName)).desc).map (fun d => d.parameters.length) = some 1 := ⟨by decide +kernel, by decide +kernel, by decide +kernel⟩
theorem ctJ16_append_2 {l : Launch} {g : GG} (hst : l.stackTraces = false) (N : Nat) (m : Mm) (v0 : Option Nat) (v1 : Int32) : ∀ v m' k n, fJ16_append_2 (gE_ g) N m v0 v1 = some (v, m', k, n) → Ct_ l g (⟨"java/lang/StringBuilder", "append", "(I)Ljava/lang/StringBuilder;"⟩ : MethodName) (ws_ (⟨"java/lang/StringBuilder", "append", "(I)Ljava/lang/StringBuilder;"⟩ : MethodName) cJ16_append_2 2 (Option.some (Jvm.ClassFile.FieldType.object "java/lang/StringBuilder"))) 14 [vr_ v0, vi_ v1] m (en_r v) m' k n :=
  Ct_of (by decide +kernel) rfl hst (Nat.le_of_ble_eq_true rfl) rfl (fun E C hret h0 hin => wJ16_append_2 C hret h0 hin N m v0 v1 0 0)
theorem wJ7_checkLength {l : Launch} {g : GG} {E : Me_} (C : Cx_ l g E "java/util/Arrays" cJ7_checkLength 2 10) (hret : (eT_ E).sig.returnType = (Option.none : Option Jvm.ClassFile.FieldType)) (h0 : ∀ x ∈ (eC_ E).exceptionTable.toList, False) (hin : (eT_ E).name = "checkLength") (N : Nat) : ∀ (m : Mm) (v0 : Int32) (v1 : Int32) (k n : Nat), Sm_ l g E 2 en_v (fJ7_checkLength (gE_ g) N m v0 v1) k n 0 [(0, vi_ v0), (1, vi_ v1)] [] m := by
  intro m v0 v1 k n
  unfold fJ7_checkLength
  refine s_iload_n C rfl 1 rfl dJ7_checkLength_0 1 rfl ?_
  refine s_iload_n C rfl 0 rfl dJ7_checkLength_1 2 rfl ?_
  refine s_icmp_ge C dJ7_checkLength_2 37 rfl 5 rfl (fun c_ => ?_) (fun c_ => ?_)
  · exact Sm_none
  · exact x_vret C hret rfl dJ7_checkLength_37
theorem hdJ7_checkLength : ((⟨"java/util/Arrays", "checkLength", "(II)V"⟩ : MethodName)).cls ≠ "java/lang/invoke/MethodHandle" ∧ ((⟨"java/util/Arrays", "checkLength", "(II)V"⟩ : MethodName)).cls ≠ "java/lang/invoke/VarHandle" ∧ (parseMethodDescriptor ((⟨"java/util/Arrays", "checkLength", "(II)V"⟩ : MethodName)).desc).map (fun d => d.parameters.length) = some 2 := ⟨by decide +kernel, by decide +kernel, by decide +kernel⟩
theorem ctJ7_checkLength {l : Launch} {g : GG} (hst : l.stackTraces = false) (N : Nat) (m : Mm) (v0 : Int32) (v1 : Int32) : ∀ v m' k n, fJ7_checkLength (gE_ g) N m v0 v1 = some (v, m', k, n) → Ct_ l g (⟨"java/util/Arrays", "checkLength", "(II)V"⟩ : MethodName) (ws_ (⟨"java/util/Arrays", "checkLength", "(II)V"⟩ : MethodName) cJ7_checkLength 2 (Option.none : Option Jvm.ClassFile.FieldType)) 10 [vi_ v0, vi_ v1] m (en_v v) m' k n :=
  Ct_of (by decide +kernel) rfl hst (Nat.le_of_ble_eq_true rfl) rfl (fun E C hret h0 hin => wJ7_checkLength C hret h0 hin N m v0 v1 0 0)
theorem wJ7_copyOfRangeByte {l : Launch} {g : GG} {E : Me_} (C : Cx_ l g E "java/util/Arrays" cJ7_copyOfRangeByte 5 11) (hret : (eT_ E).sig.returnType = (Option.some (Jvm.ClassFile.FieldType.array Jvm.ClassFile.FieldType.byte))) (h0 : ∀ x ∈ (eC_ E).exceptionTable.toList, False) (hin : (eT_ E).name = "copyOfRangeByte") (N : Nat) : ∀ (m : Mm) (v0 : Option Nat) (v1 : Int32) (v2 : Int32) (k n : Nat), Sm_ l g E 5 en_r (fJ7_copyOfRangeByte (gE_ g) N m v0 v1 v2) k n 0 [(0, vr_ v0), (1, vi_ v1), (2, vi_ v2)] [] m := by
  intro m v0 v1 v2 k n
  unfold fJ7_copyOfRangeByte
  refine s_iload_n C rfl 1 rfl dJ7_copyOfRangeByte_0 1 rfl ?_
  refine s_iload_n C rfl 2 rfl dJ7_copyOfRangeByte_1 2 rfl ?_
  refine x_callS (enc := en_v) C 10 2 [vi_ v1, vi_ v2] (ctJ7_checkLength C.2.2.2.2.2.2.2.2.1 N m v1 v2) q840 q841 q91 q842 hdJ7_checkLength (Nat.le_of_ble_eq_true rfl) (Nat.le_of_ble_eq_true rfl) rfl (Nat.le_of_ble_eq_true rfl) dJ7_copyOfRangeByte_2 5 rfl rfl hen_v (kk_v (fun m1 k1 n1 => ?_)) (kx_n he_v)
  refine s_iload_n C rfl 2 rfl dJ7_copyOfRangeByte_5 6 rfl ?_
  refine s_iload_n C rfl 1 rfl dJ7_copyOfRangeByte_6 7 rfl ?_
  refine s_isub C dJ7_copyOfRangeByte_7 8 rfl ?_
  refine s_istore_n C rfl (Nat.le_of_ble_eq_true rfl) [0, 1] rfl rfl dJ7_copyOfRangeByte_8 9 rfl ?_
  refine s_iload_n C rfl 0 rfl dJ7_copyOfRangeByte_9 10 rfl ?_
  refine x_naB C dJ7_copyOfRangeByte_10 12 rfl (fun x1 m2 => ?_)
  refine s_astore C (Nat.le_of_ble_eq_true rfl) [0, 1, 2] rfl rfl dJ7_copyOfRangeByte_12 14 rfl ?_
  refine s_aload_n C rfl 2 rfl dJ7_copyOfRangeByte_14 15 rfl ?_
  refine s_iload_n C rfl 3 rfl dJ7_copyOfRangeByte_15 16 rfl ?_
  refine s_aload C 0 rfl dJ7_copyOfRangeByte_16 18 rfl ?_
  refine s_iconst C 0 rfl dJ7_copyOfRangeByte_18 19 rfl ?_
  refine s_aload_n C rfl 2 rfl dJ7_copyOfRangeByte_19 20 rfl ?_
  refine x_ln C 2 (.byte) rfl 202 rfl dJ7_copyOfRangeByte_20 21 rfl (fun x2 => ?_)
  refine s_iload_n C rfl 3 rfl dJ7_copyOfRangeByte_21 22 rfl ?_
  refine s_isub C dJ7_copyOfRangeByte_22 23 rfl ?_
  refine s_iload_n C rfl 1 rfl dJ7_copyOfRangeByte_23 24 rfl ?_
  refine x_mmin C q437 q438 q90 q439 (Nat.le_of_ble_eq_true rfl) (Nat.le_of_ble_eq_true rfl) dJ7_copyOfRangeByte_24 27 rfl ?_
  refine x_ab C q440 q442 q441 q92 (Nat.le_of_ble_eq_true rfl) (Nat.le_of_ble_eq_true rfl) dJ7_copyOfRangeByte_27 30 rfl (fun m3 => ?_)
  refine s_aload C 0 rfl dJ7_copyOfRangeByte_30 32 rfl ?_
  exact x_aret C hret (Or.inr ⟨_, rfl⟩) rfl dJ7_copyOfRangeByte_32
theorem hdJ7_copyOfRangeByte : ((⟨"java/util/Arrays", "copyOfRangeByte", "([BII)[B"⟩ : MethodName)).cls ≠ "java/lang/invoke/MethodHandle" ∧ ((⟨"java/util/Arrays", "copyOfRangeByte", "([BII)[B"⟩ : MethodName)).cls ≠ "java/lang/invoke/VarHandle" ∧ (parseMethodDescriptor ((⟨"java/util/Arrays", "copyOfRangeByte", "([BII)[B"⟩ : MethodName)).desc).map (fun d => d.parameters.length) = some 3 := ⟨by decide +kernel, by decide +kernel, by decide +kernel⟩
theorem ctJ7_copyOfRangeByte {l : Launch} {g : GG} (hst : l.stackTraces = false) (N : Nat) (m : Mm) (v0 : Option Nat) (v1 : Int32) (v2 : Int32) : ∀ v m' k n, fJ7_copyOfRangeByte (gE_ g) N m v0 v1 v2 = some (v, m', k, n) → Ct_ l g (⟨"java/util/Arrays", "copyOfRangeByte", "([BII)[B"⟩ : MethodName) (ws_ (⟨"java/util/Arrays", "copyOfRangeByte", "([BII)[B"⟩ : MethodName) cJ7_copyOfRangeByte 5 (Option.some (Jvm.ClassFile.FieldType.array Jvm.ClassFile.FieldType.byte))) 11 [vr_ v0, vi_ v1, vi_ v2] m (en_r v) m' k n :=
  Ct_of (by decide +kernel) rfl hst (Nat.le_of_ble_eq_true rfl) rfl (fun E C hret h0 hin => wJ7_copyOfRangeByte C hret h0 hin N m v0 v1 v2 0 0)
theorem wJ7_copyOfRange_b10 {l : Launch} {g : GG} {E : Me_} (C : Cx_ l g E "java/util/Arrays" cJ7_copyOfRange 3 12) (hret : (eT_ E).sig.returnType = (Option.some (Jvm.ClassFile.FieldType.array Jvm.ClassFile.FieldType.byte))) (h0 : ∀ x ∈ (eC_ E).exceptionTable.toList, False) (hin : (eT_ E).name = "copyOfRange") (N : Nat) : ∀ (m : Mm) (v0 : Option Nat) (v1 : Int32) (v2 : Int32) (k n : Nat), Sm_ l g E 3 en_r (fJ7_copyOfRange_b10 (gE_ g) N m v0 v1 v2) k n 10 [(0, vr_ v0), (1, vi_ v1), (2, vi_ v2)] [] m := by
  intro m v0 v1 v2 k n
  unfold fJ7_copyOfRange_b10
  refine s_aload_n C rfl 0 rfl dJ7_copyOfRange_10 11 rfl ?_
  refine s_iload_n C rfl 1 rfl dJ7_copyOfRange_11 12 rfl ?_
  refine s_iload_n C rfl 2 rfl dJ7_copyOfRange_12 13 rfl ?_
  refine x_callS (enc := en_r) C 11 3 [vr_ v0, vi_ v1, vi_ v2] (ctJ7_copyOfRangeByte C.2.2.2.2.2.2.2.2.1 N m v0 v1 v2) q837 q838 q91 q839 hdJ7_copyOfRangeByte (Nat.le_of_ble_eq_true rfl) (Nat.le_of_ble_eq_true rfl) rfl (Nat.le_of_ble_eq_true rfl) dJ7_copyOfRange_13 16 rfl rfl hen_r (kk_r (fun x1 m1 k1 n1 => ?_)) (kx_n he_r)
  exact x_aret C hret (Or.inr ⟨_, rfl⟩) rfl dJ7_copyOfRange_16
theorem wJ7_copyOfRange {l : Launch} {g : GG} {E : Me_} (C : Cx_ l g E "java/util/Arrays" cJ7_copyOfRange 3 12) (hret : (eT_ E).sig.returnType = (Option.some (Jvm.ClassFile.FieldType.array Jvm.ClassFile.FieldType.byte))) (h0 : ∀ x ∈ (eC_ E).exceptionTable.toList, False) (hin : (eT_ E).name = "copyOfRange") (N : Nat) : ∀ (m : Mm) (v0 : Option Nat) (v1 : Int32) (v2 : Int32) (k n : Nat), Sm_ l g E 3 en_r (fJ7_copyOfRange (gE_ g) N m v0 v1 v2) k n 0 [(0, vr_ v0), (1, vi_ v1), (2, vi_ v2)] [] m := by
  intro m v0 v1 v2 k n
  unfold fJ7_copyOfRange
  refine s_iload_n C rfl 1 rfl dJ7_copyOfRange_0 1 rfl ?_
  refine s_if_ne C dJ7_copyOfRange_1 10 rfl 4 rfl (fun c_ => ?_) (fun c_ => ?_)
  · refine s_iload_n C rfl 2 rfl dJ7_copyOfRange_4 5 rfl ?_
    refine s_aload_n C rfl 0 rfl dJ7_copyOfRange_5 6 rfl ?_
    refine x_ln C 2 (.byte) rfl 202 rfl dJ7_copyOfRange_6 7 rfl (fun x1 => ?_)
    refine s_icmp_eq C dJ7_copyOfRange_7 17 rfl 10 rfl (fun c_ => ?_) (fun c_ => ?_)
    · refine s_aload_n C rfl 0 rfl dJ7_copyOfRange_17 18 rfl ?_
      refine x_cl C q701 q706 (Nat.le_of_ble_eq_true rfl) (Nat.le_of_ble_eq_true rfl) dJ7_copyOfRange_18 21 rfl (fun x2 m1 z_ => ?_)
      refine x_cc C "[B" [202] (fun k hk => by rw [List.mem_singleton.mp hk]; exact ⟨rfl, Or.inr rfl⟩) q707 dJ7_copyOfRange_21 24 rfl ?_
      exact x_aret C hret (Or.inr ⟨_, rfl⟩) rfl dJ7_copyOfRange_24
    · exact wJ7_copyOfRange_b10 C hret h0 hin N _ _ _ _ _ _
  · exact wJ7_copyOfRange_b10 C hret h0 hin N _ _ _ _ _ _
theorem hdJ7_copyOfRange : ((⟨"java/util/Arrays", "copyOfRange", "([BII)[B"⟩ : MethodName)).cls ≠ "java/lang/invoke/MethodHandle" ∧ ((⟨"java/util/Arrays", "copyOfRange", "([BII)[B"⟩ : MethodName)).cls ≠ "java/lang/invoke/VarHandle" ∧ (parseMethodDescriptor ((⟨"java/util/Arrays", "copyOfRange", "([BII)[B"⟩ : MethodName)).desc).map (fun d => d.parameters.length) = some 3 := ⟨by decide +kernel, by decide +kernel, by decide +kernel⟩
theorem ctJ7_copyOfRange {l : Launch} {g : GG} (hst : l.stackTraces = false) (N : Nat) (m : Mm) (v0 : Option Nat) (v1 : Int32) (v2 : Int32) : ∀ v m' k n, fJ7_copyOfRange (gE_ g) N m v0 v1 v2 = some (v, m', k, n) → Ct_ l g (⟨"java/util/Arrays", "copyOfRange", "([BII)[B"⟩ : MethodName) (ws_ (⟨"java/util/Arrays", "copyOfRange", "([BII)[B"⟩ : MethodName) cJ7_copyOfRange 3 (Option.some (Jvm.ClassFile.FieldType.array Jvm.ClassFile.FieldType.byte))) 12 [vr_ v0, vi_ v1, vi_ v2] m (en_r v) m' k n :=
  Ct_of (by decide +kernel) rfl hst (Nat.le_of_ble_eq_true rfl) rfl (fun E C hret h0 hin => wJ7_copyOfRange C hret h0 hin N m v0 v1 v2 0 0)
theorem wJ15_getValue_t30 {l : Launch} {g : GG} {E : Me_} (C : Cx_ l g E "java/lang/AbstractStringBuilder" cJ15_getValue 1 10) (hret : (eT_ E).sig.returnType = (Option.some (Jvm.ClassFile.FieldType.array Jvm.ClassFile.FieldType.byte))) (h0 : ∀ x ∈ (eC_ E).exceptionTable.toList, False) (hin : (eT_ E).name = "getValue") (N : Nat) : ∀ (m : Mm) (v0 : Option Nat) (k n : Nat), Sm_ l g E 1 en_r (fJ15_getValue_t30 (gE_ g) N m v0) k n 0 [(0, vr_ v0)] [] m := by
  intro m v0 k n
  unfold fJ15_getValue_t30
  refine s_aload_n C rfl 0 rfl dJ15_getValue_0 1 rfl ?_
  refine x_gr C 29 (RJ16, TJ16, 4) rfl 0 (Nat.le_of_ble_eq_true rfl) q663 (Or.inl rfl) rfl 30 rfl dJ15_getValue_1 4 rfl (fun x1 => ?_)
  exact x_aret C hret (Or.inr ⟨_, rfl⟩) rfl dJ15_getValue_4
theorem hdJ15_getValue_t30 : ((⟨"java/lang/AbstractStringBuilder", "getValue", "()[B"⟩ : MethodName)).cls ≠ "java/lang/invoke/MethodHandle" ∧ ((⟨"java/lang/AbstractStringBuilder", "getValue", "()[B"⟩ : MethodName)).cls ≠ "java/lang/invoke/VarHandle" ∧ (parseMethodDescriptor ((⟨"java/lang/AbstractStringBuilder", "getValue", "()[B"⟩ : MethodName)).desc).map (fun d => d.parameters.length) = some 0 := ⟨by decide +kernel, by decide +kernel, by decide +kernel⟩
theorem ctJ15_getValue_t30 {l : Launch} {g : GG} (hst : l.stackTraces = false) (N : Nat) (m : Mm) (v0 : Option Nat) : ∀ v m' k n, fJ15_getValue_t30 (gE_ g) N m v0 = some (v, m', k, n) → Ct_ l g (⟨"java/lang/AbstractStringBuilder", "getValue", "()[B"⟩ : MethodName) (ws_ (⟨"java/lang/AbstractStringBuilder", "getValue", "()[B"⟩ : MethodName) cJ15_getValue 1 (Option.some (Jvm.ClassFile.FieldType.array Jvm.ClassFile.FieldType.byte))) 10 [vr_ v0] m (en_r v) m' k n :=
  Ct_of (by decide +kernel) rfl hst (Nat.le_of_ble_eq_true rfl) rfl (fun E C hret h0 hin => wJ15_getValue_t30 C hret h0 hin N m v0 0 0)
theorem wJ15_length_t30 {l : Launch} {g : GG} {E : Me_} (C : Cx_ l g E "java/lang/AbstractStringBuilder" cJ15_length 1 10) (hret : (eT_ E).sig.returnType = (Option.some Jvm.ClassFile.FieldType.int)) (h0 : ∀ x ∈ (eC_ E).exceptionTable.toList, False) (hin : (eT_ E).name = "length") (N : Nat) : ∀ (m : Mm) (v0 : Option Nat) (k n : Nat), Sm_ l g E 1 en_i (fJ15_length_t30 (gE_ g) N m v0) k n 0 [(0, vr_ v0)] [] m := by
  intro m v0 k n
  unfold fJ15_length_t30
  refine s_aload_n C rfl 0 rfl dJ15_length_0 1 rfl ?_
  refine x_gi C 29 (RJ16, TJ16, 4) rfl 3 (Nat.le_of_ble_eq_true rfl) q666 (Or.inl rfl) rfl 30 rfl dJ15_length_1 4 rfl (fun x1 => ?_)
  exact x_iret C hret rfl dJ15_length_4
theorem hdJ15_length_t30 : ((⟨"java/lang/AbstractStringBuilder", "length", "()I"⟩ : MethodName)).cls ≠ "java/lang/invoke/MethodHandle" ∧ ((⟨"java/lang/AbstractStringBuilder", "length", "()I"⟩ : MethodName)).cls ≠ "java/lang/invoke/VarHandle" ∧ (parseMethodDescriptor ((⟨"java/lang/AbstractStringBuilder", "length", "()I"⟩ : MethodName)).desc).map (fun d => d.parameters.length) = some 0 := ⟨by decide +kernel, by decide +kernel, by decide +kernel⟩
theorem ctJ15_length_t30 {l : Launch} {g : GG} (hst : l.stackTraces = false) (N : Nat) (m : Mm) (v0 : Option Nat) : ∀ v m' k n, fJ15_length_t30 (gE_ g) N m v0 = some (v, m', k, n) → Ct_ l g (⟨"java/lang/AbstractStringBuilder", "length", "()I"⟩ : MethodName) (ws_ (⟨"java/lang/AbstractStringBuilder", "length", "()I"⟩ : MethodName) cJ15_length 1 (Option.some Jvm.ClassFile.FieldType.int)) 10 [vr_ v0] m (en_i v) m' k n :=
  Ct_of (by decide +kernel) rfl hst (Nat.le_of_ble_eq_true rfl) rfl (fun E C hret h0 hin => wJ15_length_t30 C hret h0 hin N m v0 0 0)
theorem wJ16_length {l : Launch} {g : GG} {E : Me_} (C : Cx_ l g E "java/lang/StringBuilder" cJ16_length 1 11) (hret : (eT_ E).sig.returnType = (Option.some Jvm.ClassFile.FieldType.int)) (h0 : ∀ x ∈ (eC_ E).exceptionTable.toList, False) (hin : (eT_ E).name = "length") (N : Nat) : ∀ (m : Mm) (v0 : Option Nat) (k n : Nat), Sm_ l g E 1 en_i (fJ16_length (gE_ g) N m v0) k n 0 [(0, vr_ v0)] [] m := by
  intro m v0 k n
  unfold fJ16_length
  refine s_aload_n C rfl 0 rfl dJ16_length_0 1 rfl ?_
  refine x_ck (fun hb_ hb0_ => ?_)
  refine x_callZ (enc := en_i) C 10 0 [] 30 (ctJ15_length_t30 C.2.2.2.2.2.2.2.2.1 N m v0) hb_ hb0_ rfl rfl rfl q831 q827 q675 q826 q102 q832 (by decide) (by decide +kernel) (Nat.le_of_ble_eq_true rfl) (Nat.le_of_ble_eq_true rfl) rfl (Nat.le_of_ble_eq_true rfl) dJ16_length_1 4 rfl rfl hen_i (kk_i (fun x1 m1 k1 n1 => ?_)) (kx_n he_i)
  exact x_iret C hret rfl dJ16_length_4
theorem hdJ16_length : ((⟨"java/lang/StringBuilder", "length", "()I"⟩ : MethodName)).cls ≠ "java/lang/invoke/MethodHandle" ∧ ((⟨"java/lang/StringBuilder", "length", "()I"⟩ : MethodName)).cls ≠ "java/lang/invoke/VarHandle" ∧ (parseMethodDescriptor ((⟨"java/lang/StringBuilder", "length", "()I"⟩ : MethodName)).desc).map (fun d => d.parameters.length) = some 0 := ⟨by decide +kernel, by decide +kernel, by decide +kernel⟩
theorem ctJ16_length {l : Launch} {g : GG} (hst : l.stackTraces = false) (N : Nat) (m : Mm) (v0 : Option Nat) : ∀ v m' k n, fJ16_length (gE_ g) N m v0 = some (v, m', k, n) → Ct_ l g (⟨"java/lang/StringBuilder", "length", "()I"⟩ : MethodName) (ws_ (⟨"java/lang/StringBuilder", "length", "()I"⟩ : MethodName) cJ16_length 1 (Option.some Jvm.ClassFile.FieldType.int)) 11 [vr_ v0] m (en_i v) m' k n :=
  Ct_of (by decide +kernel) rfl hst (Nat.le_of_ble_eq_true rfl) rfl (fun E C hret h0 hin => wJ16_length C hret h0 hin N m v0 0 0)
theorem wJ14_init_2_b97 {l : Launch} {g : GG} {E : Me_} (C : Cx_ l g E "java/lang/String" cJ14_init_2 5 13) (hret : (eT_ E).sig.returnType = (Option.none : Option Jvm.ClassFile.FieldType)) (h0 : ∀ x ∈ (eC_ E).exceptionTable.toList, False) (hin : (eT_ E).name = "<init>") (N : Nat) : ∀ (m : Mm) (k n : Nat), Sm_ l g E 5 en_v (fJ14_init_2_b97 (gE_ g) N m) k n 97 [] [] m := by
  intro m k n
  unfold fJ14_init_2_b97
  exact x_vret C hret rfl dJ14_init_2_97
theorem wJ14_init_2_b79 {l : Launch} {g : GG} {E : Me_} (C : Cx_ l g E "java/lang/String" cJ14_init_2 5 13) (hret : (eT_ E).sig.returnType = (Option.none : Option Jvm.ClassFile.FieldType)) (h0 : ∀ x ∈ (eC_ E).exceptionTable.toList, False) (hin : (eT_ E).name = "<init>") (N : Nat) : ∀ (m : Mm) (v0 : Option Nat) (v3 : Option Nat) (v4 : Int32) (k n : Nat), Sm_ l g E 5 en_v (fJ14_init_2_b79 (gE_ g) N m v0 v3 v4) k n 79 [(0, vr_ v0), (3, vr_ v3), (4, vi_ v4)] [] m := by
  intro m v0 v3 v4 k n
  unfold fJ14_init_2_b79
  refine s_aload_n C rfl 0 rfl dJ14_init_2_79 80 rfl ?_
  refine s_iconst C 1 rfl dJ14_init_2_80 81 rfl ?_
  refine x_pzFb C hin 28 (RJ14, TJ14, 4) rfl 1 (Nat.le_of_ble_eq_true rfl) q878 rfl rfl (Or.inr rfl) 29 rfl dJ14_init_2_81 84 rfl (fun m1 => ?_)
  refine s_aload_n C rfl 0 rfl dJ14_init_2_84 85 rfl ?_
  refine s_aload_n C rfl 1 rfl dJ14_init_2_85 86 rfl ?_
  refine s_iconst C 0 rfl dJ14_init_2_86 87 rfl ?_
  refine s_iload C 2 rfl dJ14_init_2_87 89 rfl ?_
  refine s_iconst C 1 rfl dJ14_init_2_89 90 rfl ?_
  refine s_ishl C dJ14_init_2_90 91 rfl ?_
  refine x_callS (enc := en_r) C 12 3 [vr_ v3, vi_ 0, vi_ (v4 <<< (1 &&& 31))] (ctJ7_copyOfRange C.2.2.2.2.2.2.2.2.1 N m1 v3 0 (v4 <<< (1 &&& 31))) q834 q835 q91 q836 hdJ7_copyOfRange (Nat.le_of_ble_eq_true rfl) (Nat.le_of_ble_eq_true rfl) rfl (Nat.le_of_ble_eq_true rfl) dJ14_init_2_91 94 rfl rfl hen_r (kk_r (fun x1 m2 k1 n1 => ?_)) (kx_n he_r)
  refine x_prFb C hin 28 (RJ14, TJ14, 4) rfl 0 (Nat.le_of_ble_eq_true rfl) q877 rfl rfl trivial 29 rfl dJ14_init_2_94 97 rfl (fun m3 => ?_)
  refine Sm_sub [] rfl ?_
  exact wJ14_init_2_b97 C hret h0 hin N _ _ _
theorem wJ14_init_2 {l : Launch} {g : GG} {E : Me_} (C : Cx_ l g E "java/lang/String" cJ14_init_2 5 13) (hret : (eT_ E).sig.returnType = (Option.none : Option Jvm.ClassFile.FieldType)) (h0 : ∀ x ∈ (eC_ E).exceptionTable.toList, False) (hin : (eT_ E).name = "<init>") (N : Nat) : ∀ (m : Mm) (v0 : Option Nat) (v1 : Option Nat) (v2 : Option Nat) (k n : Nat), Sm_ l g E 5 en_v (fJ14_init_2 (gE_ g) N m v0 v1 v2) k n 0 [(0, vr_ v0), (1, vr_ v1), (2, vr_ v2)] [] m := by
  intro m v0 v1 v2 k n
  unfold fJ14_init_2
  refine s_aload_n C rfl 0 rfl dJ14_init_2_0 1 rfl ?_
  refine x_ok (fun hb_ => ?_)
  refine x_obj C hb_ q819 q152 q153 (by decide) (Nat.le_of_ble_eq_true rfl) dJ14_init_2_1 4 rfl ?_
  refine s_aload_n C rfl 1 rfl dJ14_init_2_4 5 rfl ?_
  refine x_ck (fun hb_ hb0_ => ?_)
  refine x_callU (enc := en_r) (owner := "java/lang/AbstractStringBuilder") C 10 0 [] 30 (ctJ15_getValue_t30 C.2.2.2.2.2.2.2.2.1 N m v1) hb_ hb0_ rfl rfl q820 q822 q823 q821 q102 q824 rfl ⟨by decide +kernel, by decide +kernel, by decide +kernel⟩ (Nat.le_of_ble_eq_true rfl) (Nat.le_of_ble_eq_true rfl) rfl (Nat.le_of_ble_eq_true rfl) dJ14_init_2_5 8 rfl rfl hen_r (kk_r (fun x1 m1 k1 n1 => ?_)) (kx_n he_r)
  refine s_astore_n C rfl (Nat.le_of_ble_eq_true rfl) [0, 1] rfl rfl dJ14_init_2_8 9 rfl ?_
  refine s_aload_n C rfl 2 rfl dJ14_init_2_9 10 rfl ?_
  refine x_ck (fun hb_ hb0_ => ?_)
  refine x_callO (enc := en_i) (owner := "java/lang/AbstractStringBuilder") C 11 0 [] 30 (ctJ16_length C.2.2.2.2.2.2.2.2.1 N m1 v1) hb_ hb0_ rfl rfl q825 q827 q828 q829 q103 q830 q826 q832 ⟨by decide +kernel, by decide +kernel, by decide +kernel⟩ (Nat.le_of_ble_eq_true rfl) (Nat.le_of_ble_eq_true rfl) rfl (Nat.le_of_ble_eq_true rfl) dJ14_init_2_10 13 rfl rfl hen_i (kk_i (fun x2 m2 k1 n1 => ?_)) (kx_n he_i)
  refine s_istore C (Nat.le_of_ble_eq_true rfl) [0, 1, 2] rfl rfl dJ14_init_2_13 15 rfl ?_
  refine s_aload_n C rfl 3 rfl dJ14_init_2_15 16 rfl ?_
  refine x_ck (fun hb_ hb0_ => ?_)
  refine x_callU (enc := en_i) (owner := "java/lang/AbstractStringBuilder") C 10 0 [] 30 (ctJ15_isLatin1_t30 C.2.2.2.2.2.2.2.2.1 N m2 v1) hb_ hb0_ rfl rfl q833 q710 q711 q709 q102 q712 rfl ⟨by decide +kernel, by decide +kernel, by decide +kernel⟩ (Nat.le_of_ble_eq_true rfl) (Nat.le_of_ble_eq_true rfl) rfl (Nat.le_of_ble_eq_true rfl) dJ14_init_2_16 19 rfl rfl hen_i (kk_i (fun x3 m3 k1 n1 => ?_)) (kx_n he_i)
  refine s_if_eq C dJ14_init_2_19 41 rfl 22 rfl (fun c_ => ?_) (fun c_ => ?_)
  · refine x_gs C 1 (vi_ 1) rfl q747 rfl dJ14_init_2_41 44 rfl ?_
    refine s_if_eq C dJ14_init_2_44 79 rfl 47 rfl (fun c_ => ?_) (fun c_ => ?_)
    · refine Sm_sub [2, 1, 0] rfl ?_
      exact wJ14_init_2_b79 C hret h0 hin N _ _ _ _ _ _
    · refine s_aload_n C rfl 3 rfl dJ14_init_2_47 48 rfl ?_
      refine x_gi C 29 (RJ16, TJ16, 4) rfl 2 (Nat.le_of_ble_eq_true rfl) q665 (Or.inl rfl) rfl 30 rfl dJ14_init_2_48 51 rfl (fun x4 => ?_)
      refine s_if_eq C dJ14_init_2_51 79 rfl 54 rfl (fun c_ => ?_) (fun c_ => ?_)
      · refine Sm_sub [2, 1, 0] rfl ?_
        exact wJ14_init_2_b79 C hret h0 hin N _ _ _ _ _ _
      · refine s_aload_n C rfl 2 rfl dJ14_init_2_54 55 rfl ?_
        refine s_aload_n C rfl 1 rfl dJ14_init_2_55 56 rfl ?_
        refine s_iconst C 0 rfl dJ14_init_2_56 57 rfl ?_
        refine s_iload C 0 rfl dJ14_init_2_57 59 rfl ?_
        exact Sm_none
  · refine s_aload_n C rfl 2 rfl dJ14_init_2_22 23 rfl ?_
    refine s_iconst C 0 rfl dJ14_init_2_23 24 rfl ?_
    refine x_pzFb C hin 28 (RJ14, TJ14, 4) rfl 1 (Nat.le_of_ble_eq_true rfl) q878 rfl rfl (Or.inr rfl) 29 rfl dJ14_init_2_24 27 rfl (fun m4 => ?_)
    refine s_aload_n C rfl 2 rfl dJ14_init_2_27 28 rfl ?_
    refine s_aload_n C rfl 1 rfl dJ14_init_2_28 29 rfl ?_
    refine s_iconst C 0 rfl dJ14_init_2_29 30 rfl ?_
    refine s_iload C 0 rfl dJ14_init_2_30 32 rfl ?_
    refine x_callS (enc := en_r) C 12 3 [vr_ x1, vi_ 0, vi_ x2] (ctJ7_copyOfRange C.2.2.2.2.2.2.2.2.1 N m4 x1 0 x2) q834 q835 q91 q836 hdJ7_copyOfRange (Nat.le_of_ble_eq_true rfl) (Nat.le_of_ble_eq_true rfl) rfl (Nat.le_of_ble_eq_true rfl) dJ14_init_2_32 35 rfl rfl hen_r (kk_r (fun x5 m5 k1 n1 => ?_)) (kx_n he_r)
    refine x_prFb C hin 28 (RJ14, TJ14, 4) rfl 0 (Nat.le_of_ble_eq_true rfl) q877 rfl rfl trivial 29 rfl dJ14_init_2_35 38 rfl (fun m6 => ?_)
    refine s_goto C (off := 59) 97 dJ14_init_2_38 rfl ?_
    refine Sm_sub [] rfl ?_
    exact wJ14_init_2_b97 C hret h0 hin N _ _ _
theorem hdJ14_init_2 : ((⟨"java/lang/String", "<init>", "(Ljava/lang/AbstractStringBuilder;Ljava/lang/Void;)V"⟩ : MethodName)).cls ≠ "java/lang/invoke/MethodHandle" ∧ ((⟨"java/lang/String", "<init>", "(Ljava/lang/AbstractStringBuilder;Ljava/lang/Void;)V"⟩ : MethodName)).cls ≠ "java/lang/invoke/VarHandle" ∧ (parseMethodDescriptor ((⟨"java/lang/String", "<init>", "(Ljava/lang/AbstractStringBuilder;Ljava/lang/Void;)V"⟩ : MethodName)).desc).map (fun d => d.parameters.length) = some 2 := ⟨by decide +kernel, by decide +kernel, by decide +kernel⟩
theorem ctJ14_init_2 {l : Launch} {g : GG} (hst : l.stackTraces = false) (N : Nat) (m : Mm) (v0 : Option Nat) (v1 : Option Nat) (v2 : Option Nat) : ∀ v m' k n, fJ14_init_2 (gE_ g) N m v0 v1 v2 = some (v, m', k, n) → Ct_ l g (⟨"java/lang/String", "<init>", "(Ljava/lang/AbstractStringBuilder;Ljava/lang/Void;)V"⟩ : MethodName) (ws_ (⟨"java/lang/String", "<init>", "(Ljava/lang/AbstractStringBuilder;Ljava/lang/Void;)V"⟩ : MethodName) cJ14_init_2 5 (Option.none : Option Jvm.ClassFile.FieldType)) 13 [vr_ v0, vr_ v1, vr_ v2] m (en_v v) m' k n :=
  Ct_of (by decide +kernel) rfl hst (Nat.le_of_ble_eq_true rfl) rfl (fun E C hret h0 hin => wJ14_init_2 C hret h0 hin N m v0 v1 v2 0 0)
theorem wJ14_init {l : Launch} {g : GG} {E : Me_} (C : Cx_ l g E "java/lang/String" cJ14_init 2 14) (hret : (eT_ E).sig.returnType = (Option.none : Option Jvm.ClassFile.FieldType)) (h0 : ∀ x ∈ (eC_ E).exceptionTable.toList, False) (hin : (eT_ E).name = "<init>") (N : Nat) : ∀ (m : Mm) (v0 : Option Nat) (v1 : Option Nat) (k n : Nat), Sm_ l g E 2 en_v (fJ14_init (gE_ g) N m v0 v1) k n 0 [(0, vr_ v0), (1, vr_ v1)] [] m := by
  intro m v0 v1 k n
  unfold fJ14_init
  refine s_aload_n C rfl 0 rfl dJ14_init_0 1 rfl ?_
  refine s_aload_n C rfl 1 rfl dJ14_init_1 2 rfl ?_
  refine s_null C dJ14_init_2 3 rfl ?_
  refine x_ok (fun hb0_ => ?_)
  refine x_callI (enc := en_v) C 13 2 [vr_ v1, vr_ none] (ctJ14_init_2 C.2.2.2.2.2.2.2.2.1 N m v0 v1 none) hb0_ rfl q816 q817 q101 q818 rfl hdJ14_init_2 (Nat.le_of_ble_eq_true rfl) (Nat.le_of_ble_eq_true rfl) rfl (Nat.le_of_ble_eq_true rfl) dJ14_init_3 6 rfl rfl hen_v (kk_v (fun m1 k1 n1 => ?_)) (kx_n he_v)
  exact x_vret C hret rfl dJ14_init_6
theorem hdJ14_init : ((⟨"java/lang/String", "<init>", "(Ljava/lang/StringBuilder;)V"⟩ : MethodName)).cls ≠ "java/lang/invoke/MethodHandle" ∧ ((⟨"java/lang/String", "<init>", "(Ljava/lang/StringBuilder;)V"⟩ : MethodName)).cls ≠ "java/lang/invoke/VarHandle" ∧ (parseMethodDescriptor ((⟨"java/lang/String", "<init>", "(Ljava/lang/StringBuilder;)V"⟩ : MethodName)).desc).map (fun d => d.parameters.length) = some 1 := ⟨by decide +kernel, by decide +kernel, by decide +kernel⟩
theorem ctJ14_init {l : Launch} {g : GG} (hst : l.stackTraces = false) (N : Nat) (m : Mm) (v0 : Option Nat) (v1 : Option Nat) : ∀ v m' k n, fJ14_init (gE_ g) N m v0 v1 = some (v, m', k, n) → Ct_ l g (⟨"java/lang/String", "<init>", "(Ljava/lang/StringBuilder;)V"⟩ : MethodName) (ws_ (⟨"java/lang/String", "<init>", "(Ljava/lang/StringBuilder;)V"⟩ : MethodName) cJ14_init 2 (Option.none : Option Jvm.ClassFile.FieldType)) 14 [vr_ v0, vr_ v1] m (en_v v) m' k n :=
  Ct_of (by decide +kernel) rfl hst (Nat.le_of_ble_eq_true rfl) rfl (fun E C hret h0 hin => wJ14_init C hret h0 hin N m v0 v1 0 0)
theorem wJ16_toString {l : Launch} {g : GG} {E : Me_} (C : Cx_ l g E "java/lang/StringBuilder" cJ16_toString 1 15) (hret : (eT_ E).sig.returnType = (Option.some (Jvm.ClassFile.FieldType.object "java/lang/String"))) (h0 : ∀ x ∈ (eC_ E).exceptionTable.toList, False) (hin : (eT_ E).name = "toString") (N : Nat) : ∀ (m : Mm) (v0 : Option Nat) (k n : Nat), Sm_ l g E 1 en_r (fJ16_toString (gE_ g) N m v0) k n 0 [(0, vr_ v0)] [] m := by
  intro m v0 k n
  unfold fJ16_toString
  refine x_nw C 28 (RJ14, TJ14, 4) rfl q812 q619 q101 29 4 rfl rfl dJ16_toString_0 3 rfl (fun x1 m1 => ?_)
  refine s_dup C rfl dJ16_toString_3 4 rfl ?_
  refine s_aload_n C rfl 0 rfl dJ16_toString_4 5 rfl ?_
  refine x_callI (enc := en_v) C 14 1 [vr_ v0] (ctJ14_init C.2.2.2.2.2.2.2.2.1 N m1 (some x1) v0) (fun h => by cases h) rfl q813 q814 q101 q815 rfl hdJ14_init (Nat.le_of_ble_eq_true rfl) (Nat.le_of_ble_eq_true rfl) rfl (Nat.le_of_ble_eq_true rfl) dJ16_toString_5 8 rfl rfl hen_v (kk_v (fun m2 k1 n1 => ?_)) (kx_n he_v)
  exact x_aret C hret (Or.inl ⟨_, rfl⟩) rfl dJ16_toString_8
theorem hdJ16_toString : ((⟨"java/lang/StringBuilder", "toString", "()Ljava/lang/String;"⟩ : MethodName)).cls ≠ "java/lang/invoke/MethodHandle" ∧ ((⟨"java/lang/StringBuilder", "toString", "()Ljava/lang/String;"⟩ : MethodName)).cls ≠ "java/lang/invoke/VarHandle" ∧ (parseMethodDescriptor ((⟨"java/lang/StringBuilder", "toString", "()Ljava/lang/String;"⟩ : MethodName)).desc).map (fun d => d.parameters.length) = some 0 := ⟨by decide +kernel, by decide +kernel, by decide +kernel⟩
theorem ctJ16_toString {l : Launch} {g : GG} (hst : l.stackTraces = false) (N : Nat) (m : Mm) (v0 : Option Nat) : ∀ v m' k n, fJ16_toString (gE_ g) N m v0 = some (v, m', k, n) → Ct_ l g (⟨"java/lang/StringBuilder", "toString", "()Ljava/lang/String;"⟩ : MethodName) (ws_ (⟨"java/lang/StringBuilder", "toString", "()Ljava/lang/String;"⟩ : MethodName) cJ16_toString 1 (Option.some (Jvm.ClassFile.FieldType.object "java/lang/String"))) 15 [vr_ v0] m (en_r v) m' k n :=
  Ct_of (by decide +kernel) rfl hst (Nat.le_of_ble_eq_true rfl) rfl (fun E C hret h0 hin => wJ16_toString C hret h0 hin N m v0 0 0)
theorem wX1_place_b9 {l : Launch} {g : GG} {E : Me_} (C : Cx_ l g E "MasterTree" cX1_place 3 16) (hret : (eT_ E).sig.returnType = (Option.some Jvm.ClassFile.FieldType.int)) (h0 : ∀ x ∈ (eC_ E).exceptionTable.toList, False) (hin : (eT_ E).name = "place") (N : Nat) : ∀ (m : Mm) (v0 : Int32) (v2 : Option Nat) (k n : Nat), Sm_ l g E 3 (xe_ en_i) (fX1_place_b9 (gE_ g) N m v0 v2) k n 9 [(0, vi_ v0), (2, vr_ v2)] [] m := by
  intro m v0 v2 k n
  unfold fX1_place_b9
  refine x_nx C 0 (by decide) q636 q637 q99 dX1_place_9 12 rfl (fun x1 m1 hz_x1 => ?_)
  refine s_dup C rfl dX1_place_12 13 rfl ?_
  refine x_nw C 29 (RJ16, TJ16, 4) rfl q645 q646 q103 30 4 rfl rfl dX1_place_13 16 rfl (fun x2 m2 => ?_)
  refine s_dup C rfl dX1_place_16 17 rfl ?_
  refine x_callI (enc := en_v) C 11 0 [] (ctJ16_init C.2.2.2.2.2.2.2.2.1 N m2 (some x2)) (fun h => by cases h) rfl q647 q648 q103 q649 rfl hdJ16_init (Nat.le_of_ble_eq_true rfl) (Nat.le_of_ble_eq_true rfl) rfl (Nat.le_of_ble_eq_true rfl) dX1_place_17 20 rfl rfl hen_v (kk_v (fun m3 k1 n1 => ?_)) (kx_n he_v)
  refine x_ls C 2 2 rfl dX1_place_20 22 rfl ?_
  refine x_ck (fun hb_ hb0_ => ?_)
  refine x_callV (enc := en_r) C 14 1 [vr_ (some (gE_ g (100 + 2)))] 30 (ctJ16_append C.2.2.2.2.2.2.2.2.1 N m3 (some x2) (some (gE_ g (100 + 2)))) hb_ hb0_ rfl rfl q677 q678 q679 q103 q680 hdJ16_append (Nat.le_of_ble_eq_true rfl) (Nat.le_of_ble_eq_true rfl) rfl (Nat.le_of_ble_eq_true rfl) dX1_place_22 25 rfl rfl hen_r (kk_r (fun x3 m4 k1 n1 => ?_)) (kx_n he_r)
  refine s_aload_n C rfl 1 rfl dX1_place_25 26 rfl ?_
  refine x_ck (fun hb_ hb0_ => ?_)
  refine x_callV (enc := en_r) C 14 1 [vr_ v2] 30 (ctJ16_append C.2.2.2.2.2.2.2.2.1 N m4 x3 v2) hb_ hb0_ rfl rfl q677 q678 q679 q103 q680 hdJ16_append (Nat.le_of_ble_eq_true rfl) (Nat.le_of_ble_eq_true rfl) rfl (Nat.le_of_ble_eq_true rfl) dX1_place_26 29 rfl rfl hen_r (kk_r (fun x4 m5 k1 n1 => ?_)) (kx_n he_r)
  refine x_ls C 3 3 rfl dX1_place_29 31 rfl ?_
  refine x_ck (fun hb_ hb0_ => ?_)
  refine x_callV (enc := en_r) C 14 1 [vr_ (some (gE_ g (100 + 3)))] 30 (ctJ16_append C.2.2.2.2.2.2.2.2.1 N m5 x4 (some (gE_ g (100 + 3)))) hb_ hb0_ rfl rfl q677 q678 q679 q103 q680 hdJ16_append (Nat.le_of_ble_eq_true rfl) (Nat.le_of_ble_eq_true rfl) rfl (Nat.le_of_ble_eq_true rfl) dX1_place_31 34 rfl rfl hen_r (kk_r (fun x5 m6 k1 n1 => ?_)) (kx_n he_r)
  refine s_iload_n C rfl 0 rfl dX1_place_34 35 rfl ?_
  refine x_ck (fun hb_ hb0_ => ?_)
  refine x_callV (enc := en_r) C 14 1 [vi_ v0] 30 (ctJ16_append_2 C.2.2.2.2.2.2.2.2.1 N m6 x5 v0) hb_ hb0_ rfl rfl q783 q784 q785 q103 q786 hdJ16_append_2 (Nat.le_of_ble_eq_true rfl) (Nat.le_of_ble_eq_true rfl) rfl (Nat.le_of_ble_eq_true rfl) dX1_place_35 38 rfl rfl hen_r (kk_r (fun x6 m7 k1 n1 => ?_)) (kx_n he_r)
  refine x_ck (fun hb_ hb0_ => ?_)
  refine x_callV (enc := en_r) C 15 0 [] 30 (ctJ16_toString C.2.2.2.2.2.2.2.2.1 N m7 x6) hb_ hb0_ rfl rfl q808 q809 q810 q103 q811 hdJ16_toString (Nat.le_of_ble_eq_true rfl) (Nat.le_of_ble_eq_true rfl) rfl (Nat.le_of_ble_eq_true rfl) dX1_place_38 41 rfl rfl hen_r (kk_r (fun x7 m8 k1 n1 => ?_)) (kx_n he_r)
  refine x_xi0 C q884 hz_x1 (Nat.le_of_ble_eq_true rfl) (Nat.le_of_ble_eq_true rfl) dX1_place_41 44 rfl (fun m9 => ?_)
  exact x_at C h0 0 (by decide) rfl dX1_place_44
theorem wX1_place {l : Launch} {g : GG} {E : Me_} (C : Cx_ l g E "MasterTree" cX1_place 3 16) (hret : (eT_ E).sig.returnType = (Option.some Jvm.ClassFile.FieldType.int)) (h0 : ∀ x ∈ (eC_ E).exceptionTable.toList, False) (hin : (eT_ E).name = "place") (N : Nat) : ∀ (m : Mm) (v0 : Int32) (v1 : Int32) (v2 : Option Nat) (k n : Nat), Sm_ l g E 3 (xe_ en_i) (fX1_place (gE_ g) N m v0 v1 v2) k n 0 [(0, vi_ v0), (1, vi_ v1), (2, vr_ v2)] [] m := by
  intro m v0 v1 v2 k n
  unfold fX1_place
  refine s_iload_n C rfl 0 rfl dX1_place_0 1 rfl ?_
  refine s_if_lt C dX1_place_1 9 rfl 4 rfl (fun c_ => ?_) (fun c_ => ?_)
  · refine Sm_sub [0, 2] rfl ?_
    exact wX1_place_b9 C hret h0 hin N _ _ _ _ _
  · refine s_iload_n C rfl 0 rfl dX1_place_4 5 rfl ?_
    refine s_iload_n C rfl 1 rfl dX1_place_5 6 rfl ?_
    refine s_icmp_lt C dX1_place_6 45 rfl 9 rfl (fun c_ => ?_) (fun c_ => ?_)
    · refine s_iload_n C rfl 0 rfl dX1_place_45 46 rfl ?_
      exact x_iret C hret rfl dX1_place_46
    · refine Sm_sub [0, 2] rfl ?_
      exact wX1_place_b9 C hret h0 hin N _ _ _ _ _
theorem hdX1_place : ((⟨"MasterTree", "place", "(IILjava/lang/String;)I"⟩ : MethodName)).cls ≠ "java/lang/invoke/MethodHandle" ∧ ((⟨"MasterTree", "place", "(IILjava/lang/String;)I"⟩ : MethodName)).cls ≠ "java/lang/invoke/VarHandle" ∧ (parseMethodDescriptor ((⟨"MasterTree", "place", "(IILjava/lang/String;)I"⟩ : MethodName)).desc).map (fun d => d.parameters.length) = some 3 := ⟨by decide +kernel, by decide +kernel, by decide +kernel⟩
theorem ctX1_place {l : Launch} {g : GG} (hst : l.stackTraces = false) (N : Nat) (m : Mm) (v0 : Int32) (v1 : Int32) (v2 : Option Nat) : ∀ v m' k n, fX1_place (gE_ g) N m v0 v1 v2 = some (v, m', k, n) → Ct_ l g (⟨"MasterTree", "place", "(IILjava/lang/String;)I"⟩ : MethodName) (ws_ (⟨"MasterTree", "place", "(IILjava/lang/String;)I"⟩ : MethodName) cX1_place 3 (Option.some Jvm.ClassFile.FieldType.int)) 16 [vi_ v0, vi_ v1, vr_ v2] m ((xe_ en_i) v) m' k n :=
  Ct_of (by decide +kernel) rfl hst (Nat.le_of_ble_eq_true rfl) rfl (fun E C hret h0 hin => wX1_place C hret h0 hin N m v0 v1 v2 0 0)
