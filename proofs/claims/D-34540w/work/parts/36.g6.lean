set_option maxRecDepth 100000
abbrev cX1_has : ByteArray := prog_1_method_39_code
def yX1_has : MethodName := ⟨RX1, "has", "(I)I"⟩
def dkwX1_has_0 : List UInt8 := [42, 27, 182, 0, 191, 87, 42, 187, 1, 141, 89, 27, 3, 4, 183, 1, 143, 182, 1, 146, 172]
abbrev dktX1_has_0 : List UInt8 := dkwX1_has_0 ++ []
theorem dksX1_has_0 : cX1_has.data.toList.drop 0 = dktX1_has_0 := by decide +kernel
theorem dX1_has_0 : decode cX1_has 0 = .ok (.aload_n 0, 1) := dk_42 (dk_at dksX1_has_0 0 rfl rfl)
theorem dX1_has_1 : decode cX1_has 1 = .ok (.iload_n 1, 1) := dk_27 (dk_at dksX1_has_0 1 rfl rfl)
theorem dX1_has_2 : decode cX1_has 2 = .ok (.invokevirtual 191, 3) := dk_182 0 191 (dk_at dksX1_has_0 2 rfl rfl)
theorem dX1_has_5 : decode cX1_has 5 = .ok (.pop, 1) := dk_87 (dk_at dksX1_has_0 5 rfl rfl)
theorem dX1_has_6 : decode cX1_has 6 = .ok (.aload_n 0, 1) := dk_42 (dk_at dksX1_has_0 6 rfl rfl)
theorem dX1_has_7 : decode cX1_has 7 = .ok (.new 397, 3) := dk_187 1 141 (dk_at dksX1_has_0 7 rfl rfl)
theorem dX1_has_10 : decode cX1_has 10 = .ok (.dup, 1) := dk_89 (dk_at dksX1_has_0 10 rfl rfl)
theorem dX1_has_11 : decode cX1_has 11 = .ok (.iload_n 1, 1) := dk_27 (dk_at dksX1_has_0 11 rfl rfl)
theorem dX1_has_12 : decode cX1_has 12 = .ok (.iconst 0, 1) := dk_3 (dk_at dksX1_has_0 12 rfl rfl)
theorem dX1_has_13 : decode cX1_has 13 = .ok (.iconst 1, 1) := dk_4 (dk_at dksX1_has_0 13 rfl rfl)
theorem dX1_has_14 : decode cX1_has 14 = .ok (.invokespecial 399, 3) := dk_183 1 143 (dk_at dksX1_has_0 14 rfl rfl)
theorem dX1_has_17 : decode cX1_has 17 = .ok (.invokevirtual 402, 3) := dk_182 1 146 (dk_at dksX1_has_0 17 rfl rfl)
theorem dX1_has_20 : decode cX1_has 20 = .ok (.ireturn, 1) := dk_172 (dk_at dksX1_has_0 20 rfl rfl)
def fX1_has (e : Nat → Nat) (N : Nat) (m : Mm) (v0 : Option Nat) (v1 : Int32) : Rs (Int32 ⊕ Nat) := ck_ m v0 1 (bd_ (fX1_attributeAt e N m v0 v1) (xf_ (fun x1 m1 => nw_ m1 8 3 (fun x2 m2 => bd_ (fX9_init e N m2 (some x2) v1 0 1) (fun _ m3 => ck_ m3 v0 1 (bd_ (fX1_puts e N m3 v0 (some x2)) (xf_ (fun x3 m4 => rt_ (.inl x3) m4))))))))
abbrev cX0_has : ByteArray := method_20_code
def yX0_has : MethodName := ⟨RX0, "has", "(LMasterTree;I[J)I"⟩
def dkwX0_has_0 : List UInt8 := [44, 3, 42, 27, 182, 0, 72, 133, 80, 167, 0, 9, 78, 4, 172, 78, 5, 172, 3, 172]
abbrev dktX0_has_0 : List UInt8 := dkwX0_has_0 ++ []
theorem dksX0_has_0 : cX0_has.data.toList.drop 0 = dktX0_has_0 := by decide +kernel
theorem dX0_has_0 : decode cX0_has 0 = .ok (.aload_n 2, 1) := dk_44 (dk_at dksX0_has_0 0 rfl rfl)
theorem dX0_has_1 : decode cX0_has 1 = .ok (.iconst 0, 1) := dk_3 (dk_at dksX0_has_0 1 rfl rfl)
theorem dX0_has_2 : decode cX0_has 2 = .ok (.aload_n 0, 1) := dk_42 (dk_at dksX0_has_0 2 rfl rfl)
theorem dX0_has_3 : decode cX0_has 3 = .ok (.iload_n 1, 1) := dk_27 (dk_at dksX0_has_0 3 rfl rfl)
theorem dX0_has_4 : decode cX0_has 4 = .ok (.invokevirtual 72, 3) := dk_182 0 72 (dk_at dksX0_has_0 4 rfl rfl)
theorem dX0_has_7 : decode cX0_has 7 = .ok (.i2l, 1) := dk_133 (dk_at dksX0_has_0 7 rfl rfl)
theorem dX0_has_8 : decode cX0_has 8 = .ok (.lastore, 1) := dk_80 (dk_at dksX0_has_0 8 rfl rfl)
theorem dX0_has_9 : decode cX0_has 9 = .ok (.goto 9, 3) := dk_167 0 9 (dk_at dksX0_has_0 9 rfl rfl)
theorem dX0_has_12 : decode cX0_has 12 = .ok (.astore_n 3, 1) := dk_78 (dk_at dksX0_has_0 12 rfl rfl)
theorem dX0_has_13 : decode cX0_has 13 = .ok (.iconst 1, 1) := dk_4 (dk_at dksX0_has_0 13 rfl rfl)
theorem dX0_has_14 : decode cX0_has 14 = .ok (.ireturn, 1) := dk_172 (dk_at dksX0_has_0 14 rfl rfl)
theorem dX0_has_15 : decode cX0_has 15 = .ok (.astore_n 3, 1) := dk_78 (dk_at dksX0_has_0 15 rfl rfl)
theorem dX0_has_16 : decode cX0_has 16 = .ok (.iconst 2, 1) := dk_5 (dk_at dksX0_has_0 16 rfl rfl)
theorem dX0_has_17 : decode cX0_has 17 = .ok (.ireturn, 1) := dk_172 (dk_at dksX0_has_0 17 rfl rfl)
theorem dX0_has_18 : decode cX0_has 18 = .ok (.iconst 0, 1) := dk_3 (dk_at dksX0_has_0 18 rfl rfl)
theorem dX0_has_19 : decode cX0_has 19 = .ok (.ireturn, 1) := dk_172 (dk_at dksX0_has_0 19 rfl rfl)
def fX0_has (e : Nat → Nat) (N : Nat) (m : Mm) (v0 : Option Nat) (v1 : Int32) (v2 : Option Nat) : Rs (Int32) := ck_ m v0 1 (bd_ (fX1_has e N m v0 v1) (ch_ (fun x1 m1 => bj_ m1 v2 203 0 ((x1 : Int32).toInt64) (fun m2 => rt_ 0 m2)) (fun i_ m0 => if i_ = 0 then rt_ 1 m0 else if i_ = 2 then rt_ 2 m0 else none)))
def fX8_init_t9 (e : Nat → Nat) (N : Nat) (m : Mm) (v0 : Option Nat) : Rs (Unit) := ok_ v0 (rt_ () m)
abbrev cX10_init : ByteArray := prog_3_method_1_code
def yX10_init : MethodName := ⟨RX10, "<init>", "(LMasterTree$Klass;)V"⟩
def dkwX10_init_0 : List UInt8 := [42, 183, 0, 1, 42, 43, 181, 0, 7, 177]
abbrev dktX10_init_0 : List UInt8 := dkwX10_init_0 ++ []
theorem dksX10_init_0 : cX10_init.data.toList.drop 0 = dktX10_init_0 := by decide +kernel
theorem dX10_init_0 : decode cX10_init 0 = .ok (.aload_n 0, 1) := dk_42 (dk_at dksX10_init_0 0 rfl rfl)
theorem dX10_init_1 : decode cX10_init 1 = .ok (.invokespecial 1, 3) := dk_183 0 1 (dk_at dksX10_init_0 1 rfl rfl)
theorem dX10_init_4 : decode cX10_init 4 = .ok (.aload_n 0, 1) := dk_42 (dk_at dksX10_init_0 4 rfl rfl)
theorem dX10_init_5 : decode cX10_init 5 = .ok (.aload_n 1, 1) := dk_43 (dk_at dksX10_init_0 5 rfl rfl)
theorem dX10_init_6 : decode cX10_init 6 = .ok (.putfield 7, 3) := dk_181 0 7 (dk_at dksX10_init_0 6 rfl rfl)
theorem dX10_init_9 : decode cX10_init 9 = .ok (.return_, 1) := dk_177 (dk_at dksX10_init_0 9 rfl rfl)
def fX10_init (e : Nat → Nat) (N : Nat) (m : Mm) (v0 : Option Nat) (v1 : Option Nat) : Rs (Unit) := ok_ v0 (bd_ (fX8_init_t9 e N m v0) (fun _ m1 => pr_ m1 v0 9 0 v1 (fun m2 => rt_ () m2)))
abbrev cX1_ofClass : ByteArray := prog_1_method_40_code
def yX1_ofClass : MethodName := ⟨RX1, "ofClass", "(I)I"⟩
def dkwX1_ofClass_0 : List UInt8 := [42, 187, 1, 150, 89, 42, 27, 182, 0, 172, 183, 1, 152, 182, 1, 146, 172]
abbrev dktX1_ofClass_0 : List UInt8 := dkwX1_ofClass_0 ++ []
theorem dksX1_ofClass_0 : cX1_ofClass.data.toList.drop 0 = dktX1_ofClass_0 := by decide +kernel
theorem dX1_ofClass_0 : decode cX1_ofClass 0 = .ok (.aload_n 0, 1) := dk_42 (dk_at dksX1_ofClass_0 0 rfl rfl)
theorem dX1_ofClass_1 : decode cX1_ofClass 1 = .ok (.new 406, 3) := dk_187 1 150 (dk_at dksX1_ofClass_0 1 rfl rfl)
theorem dX1_ofClass_4 : decode cX1_ofClass 4 = .ok (.dup, 1) := dk_89 (dk_at dksX1_ofClass_0 4 rfl rfl)
theorem dX1_ofClass_5 : decode cX1_ofClass 5 = .ok (.aload_n 0, 1) := dk_42 (dk_at dksX1_ofClass_0 5 rfl rfl)
theorem dX1_ofClass_6 : decode cX1_ofClass 6 = .ok (.iload_n 1, 1) := dk_27 (dk_at dksX1_ofClass_0 6 rfl rfl)
theorem dX1_ofClass_7 : decode cX1_ofClass 7 = .ok (.invokevirtual 172, 3) := dk_182 0 172 (dk_at dksX1_ofClass_0 7 rfl rfl)
theorem dX1_ofClass_10 : decode cX1_ofClass 10 = .ok (.invokespecial 408, 3) := dk_183 1 152 (dk_at dksX1_ofClass_0 10 rfl rfl)
theorem dX1_ofClass_13 : decode cX1_ofClass 13 = .ok (.invokevirtual 402, 3) := dk_182 1 146 (dk_at dksX1_ofClass_0 13 rfl rfl)
theorem dX1_ofClass_16 : decode cX1_ofClass 16 = .ok (.ireturn, 1) := dk_172 (dk_at dksX1_ofClass_0 16 rfl rfl)
def fX1_ofClass (e : Nat → Nat) (N : Nat) (m : Mm) (v0 : Option Nat) (v1 : Int32) : Rs (Int32 ⊕ Nat) := nw_ m 9 1 (fun x1 m1 => ck_ m1 v0 1 (bd_ (fX1_klassAt e N m1 v0 v1) (xf_ (fun x2 m2 => bd_ (fX10_init e N m2 (some x1) x2) (fun _ m3 => ck_ m3 v0 1 (bd_ (fX1_puts e N m3 v0 (some x1)) (xf_ (fun x3 m4 => rt_ (.inl x3) m4))))))))
abbrev cX0_ofClass : ByteArray := method_21_code
def yX0_ofClass : MethodName := ⟨RX0, "ofClass", "(LMasterTree;I[J)I"⟩
def dkwX0_ofClass_0 : List UInt8 := [44, 3, 42, 27, 182, 0, 75, 133, 80, 167, 0, 9, 78, 4, 172, 78, 5, 172, 3, 172]
abbrev dktX0_ofClass_0 : List UInt8 := dkwX0_ofClass_0 ++ []
theorem dksX0_ofClass_0 : cX0_ofClass.data.toList.drop 0 = dktX0_ofClass_0 := by decide +kernel
theorem dX0_ofClass_0 : decode cX0_ofClass 0 = .ok (.aload_n 2, 1) := dk_44 (dk_at dksX0_ofClass_0 0 rfl rfl)
theorem dX0_ofClass_1 : decode cX0_ofClass 1 = .ok (.iconst 0, 1) := dk_3 (dk_at dksX0_ofClass_0 1 rfl rfl)
theorem dX0_ofClass_2 : decode cX0_ofClass 2 = .ok (.aload_n 0, 1) := dk_42 (dk_at dksX0_ofClass_0 2 rfl rfl)
theorem dX0_ofClass_3 : decode cX0_ofClass 3 = .ok (.iload_n 1, 1) := dk_27 (dk_at dksX0_ofClass_0 3 rfl rfl)
theorem dX0_ofClass_4 : decode cX0_ofClass 4 = .ok (.invokevirtual 75, 3) := dk_182 0 75 (dk_at dksX0_ofClass_0 4 rfl rfl)
theorem dX0_ofClass_7 : decode cX0_ofClass 7 = .ok (.i2l, 1) := dk_133 (dk_at dksX0_ofClass_0 7 rfl rfl)
theorem dX0_ofClass_8 : decode cX0_ofClass 8 = .ok (.lastore, 1) := dk_80 (dk_at dksX0_ofClass_0 8 rfl rfl)
theorem dX0_ofClass_9 : decode cX0_ofClass 9 = .ok (.goto 9, 3) := dk_167 0 9 (dk_at dksX0_ofClass_0 9 rfl rfl)
theorem dX0_ofClass_12 : decode cX0_ofClass 12 = .ok (.astore_n 3, 1) := dk_78 (dk_at dksX0_ofClass_0 12 rfl rfl)
theorem dX0_ofClass_13 : decode cX0_ofClass 13 = .ok (.iconst 1, 1) := dk_4 (dk_at dksX0_ofClass_0 13 rfl rfl)
theorem dX0_ofClass_14 : decode cX0_ofClass 14 = .ok (.ireturn, 1) := dk_172 (dk_at dksX0_ofClass_0 14 rfl rfl)
theorem dX0_ofClass_15 : decode cX0_ofClass 15 = .ok (.astore_n 3, 1) := dk_78 (dk_at dksX0_ofClass_0 15 rfl rfl)
theorem dX0_ofClass_16 : decode cX0_ofClass 16 = .ok (.iconst 2, 1) := dk_5 (dk_at dksX0_ofClass_0 16 rfl rfl)
theorem dX0_ofClass_17 : decode cX0_ofClass 17 = .ok (.ireturn, 1) := dk_172 (dk_at dksX0_ofClass_0 17 rfl rfl)
theorem dX0_ofClass_18 : decode cX0_ofClass 18 = .ok (.iconst 0, 1) := dk_3 (dk_at dksX0_ofClass_0 18 rfl rfl)
theorem dX0_ofClass_19 : decode cX0_ofClass 19 = .ok (.ireturn, 1) := dk_172 (dk_at dksX0_ofClass_0 19 rfl rfl)
def fX0_ofClass (e : Nat → Nat) (N : Nat) (m : Mm) (v0 : Option Nat) (v1 : Int32) (v2 : Option Nat) : Rs (Int32) := ck_ m v0 1 (bd_ (fX1_ofClass e N m v0 v1) (ch_ (fun x1 m1 => bj_ m1 v2 203 0 ((x1 : Int32).toInt64) (fun m2 => rt_ 0 m2)) (fun i_ m0 => if i_ = 0 then rt_ 1 m0 else if i_ = 2 then rt_ 2 m0 else none)))
abbrev cJ2_fastRemove : ByteArray := prog_59_method_39_code
def yJ2_fastRemove : MethodName := ⟨RJ2, "fastRemove", "([Ljava/lang/Object;I)V"⟩
def dkwJ2_fastRemove_1 : List UInt8 := [4, 96, 43, 28, 29, 28, 100, 184, 0, 112, 43, 42, 29, 90, 181, 0, 48, 1, 83, 177]
abbrev dktJ2_fastRemove_1 : List UInt8 := dkwJ2_fastRemove_1 ++ []
def dkwJ2_fastRemove_0 : List UInt8 := [42, 89, 180, 0, 63, 4, 96, 181, 0, 63, 42, 180, 0, 48, 4, 100, 89, 62, 28, 164, 0, 15, 43, 28]
abbrev dktJ2_fastRemove_0 : List UInt8 := dkwJ2_fastRemove_0 ++ dktJ2_fastRemove_1
theorem dksJ2_fastRemove_0 : cJ2_fastRemove.data.toList.drop 0 = dktJ2_fastRemove_0 := by decide +kernel
theorem dksJ2_fastRemove_1 : cJ2_fastRemove.data.toList.drop 24 = dktJ2_fastRemove_1 := dk_seg dksJ2_fastRemove_0 24 rfl rfl
theorem dJ2_fastRemove_0 : decode cJ2_fastRemove 0 = .ok (.aload_n 0, 1) := dk_42 (dk_at dksJ2_fastRemove_0 0 rfl rfl)
theorem dJ2_fastRemove_1 : decode cJ2_fastRemove 1 = .ok (.dup, 1) := dk_89 (dk_at dksJ2_fastRemove_0 1 rfl rfl)
theorem dJ2_fastRemove_2 : decode cJ2_fastRemove 2 = .ok (.getfield 63, 3) := dk_180 0 63 (dk_at dksJ2_fastRemove_0 2 rfl rfl)
theorem dJ2_fastRemove_5 : decode cJ2_fastRemove 5 = .ok (.iconst 1, 1) := dk_4 (dk_at dksJ2_fastRemove_0 5 rfl rfl)
theorem dJ2_fastRemove_6 : decode cJ2_fastRemove 6 = .ok (.iadd, 1) := dk_96 (dk_at dksJ2_fastRemove_0 6 rfl rfl)
theorem dJ2_fastRemove_7 : decode cJ2_fastRemove 7 = .ok (.putfield 63, 3) := dk_181 0 63 (dk_at dksJ2_fastRemove_0 7 rfl rfl)
theorem dJ2_fastRemove_10 : decode cJ2_fastRemove 10 = .ok (.aload_n 0, 1) := dk_42 (dk_at dksJ2_fastRemove_0 10 rfl rfl)
theorem dJ2_fastRemove_11 : decode cJ2_fastRemove 11 = .ok (.getfield 48, 3) := dk_180 0 48 (dk_at dksJ2_fastRemove_0 11 rfl rfl)
theorem dJ2_fastRemove_14 : decode cJ2_fastRemove 14 = .ok (.iconst 1, 1) := dk_4 (dk_at dksJ2_fastRemove_0 14 rfl rfl)
theorem dJ2_fastRemove_15 : decode cJ2_fastRemove 15 = .ok (.isub, 1) := dk_100 (dk_at dksJ2_fastRemove_0 15 rfl rfl)
theorem dJ2_fastRemove_16 : decode cJ2_fastRemove 16 = .ok (.dup, 1) := dk_89 (dk_at dksJ2_fastRemove_0 16 rfl rfl)
theorem dJ2_fastRemove_17 : decode cJ2_fastRemove 17 = .ok (.istore_n 3, 1) := dk_62 (dk_at dksJ2_fastRemove_0 17 rfl rfl)
theorem dJ2_fastRemove_18 : decode cJ2_fastRemove 18 = .ok (.iload_n 2, 1) := dk_28 (dk_at dksJ2_fastRemove_0 18 rfl rfl)
theorem dJ2_fastRemove_19 : decode cJ2_fastRemove 19 = .ok (.if_icmp .le 15, 3) := dk_164 0 15 (dk_at dksJ2_fastRemove_0 19 rfl rfl)
theorem dJ2_fastRemove_22 : decode cJ2_fastRemove 22 = .ok (.aload_n 1, 1) := dk_43 (dk_at dksJ2_fastRemove_0 22 rfl rfl)
theorem dJ2_fastRemove_23 : decode cJ2_fastRemove 23 = .ok (.iload_n 2, 1) := dk_28 (dk_at dksJ2_fastRemove_0 23 rfl rfl)
theorem dJ2_fastRemove_24 : decode cJ2_fastRemove 24 = .ok (.iconst 1, 1) := dk_4 (dk_at dksJ2_fastRemove_1 0 rfl rfl)
theorem dJ2_fastRemove_25 : decode cJ2_fastRemove 25 = .ok (.iadd, 1) := dk_96 (dk_at dksJ2_fastRemove_1 1 rfl rfl)
theorem dJ2_fastRemove_26 : decode cJ2_fastRemove 26 = .ok (.aload_n 1, 1) := dk_43 (dk_at dksJ2_fastRemove_1 2 rfl rfl)
theorem dJ2_fastRemove_27 : decode cJ2_fastRemove 27 = .ok (.iload_n 2, 1) := dk_28 (dk_at dksJ2_fastRemove_1 3 rfl rfl)
theorem dJ2_fastRemove_28 : decode cJ2_fastRemove 28 = .ok (.iload_n 3, 1) := dk_29 (dk_at dksJ2_fastRemove_1 4 rfl rfl)
theorem dJ2_fastRemove_29 : decode cJ2_fastRemove 29 = .ok (.iload_n 2, 1) := dk_28 (dk_at dksJ2_fastRemove_1 5 rfl rfl)
theorem dJ2_fastRemove_30 : decode cJ2_fastRemove 30 = .ok (.isub, 1) := dk_100 (dk_at dksJ2_fastRemove_1 6 rfl rfl)
theorem dJ2_fastRemove_31 : decode cJ2_fastRemove 31 = .ok (.invokestatic 112, 3) := dk_184 0 112 (dk_at dksJ2_fastRemove_1 7 rfl rfl)
theorem dJ2_fastRemove_34 : decode cJ2_fastRemove 34 = .ok (.aload_n 1, 1) := dk_43 (dk_at dksJ2_fastRemove_1 10 rfl rfl)
theorem dJ2_fastRemove_35 : decode cJ2_fastRemove 35 = .ok (.aload_n 0, 1) := dk_42 (dk_at dksJ2_fastRemove_1 11 rfl rfl)
theorem dJ2_fastRemove_36 : decode cJ2_fastRemove 36 = .ok (.iload_n 3, 1) := dk_29 (dk_at dksJ2_fastRemove_1 12 rfl rfl)
theorem dJ2_fastRemove_37 : decode cJ2_fastRemove 37 = .ok (.dup_x1, 1) := dk_90 (dk_at dksJ2_fastRemove_1 13 rfl rfl)
theorem dJ2_fastRemove_38 : decode cJ2_fastRemove 38 = .ok (.putfield 48, 3) := dk_181 0 48 (dk_at dksJ2_fastRemove_1 14 rfl rfl)
theorem dJ2_fastRemove_41 : decode cJ2_fastRemove 41 = .ok (.aconst_null, 1) := dk_1 (dk_at dksJ2_fastRemove_1 17 rfl rfl)
theorem dJ2_fastRemove_42 : decode cJ2_fastRemove 42 = .ok (.aastore, 1) := dk_83 (dk_at dksJ2_fastRemove_1 18 rfl rfl)
theorem dJ2_fastRemove_43 : decode cJ2_fastRemove 43 = .ok (.return_, 1) := dk_177 (dk_at dksJ2_fastRemove_1 19 rfl rfl)
def fJ2_fastRemove_b34 (e : Nat → Nat) (N : Nat) (m : Mm) (v0 : Option Nat) (v1 : Option Nat) (v3 : Int32) : Rs (Unit) := pi_ m v0 13 2 v3 (fun m1 => bk_ m1 none [2, 5, 6, 7, 8, 9, 10, 11, 27, 200] (br_ m1 v1 204 v3 none (fun m2 => rt_ () m2)))
def fJ2_fastRemove (e : Nat → Nat) (N : Nat) (m : Mm) (v0 : Option Nat) (v1 : Option Nat) (v2 : Int32) : Rs (Unit) := gi_ m v0 13 0 (fun x1 => pi_ m v0 13 0 (x1 + 1) (fun m1 => gi_ m1 v0 13 2 (fun x2 => if v2 < (x2 - 1) then (ac_ m1 v1 (v2 + 1) v1 v2 ((x2 - 1) - v2) (fun m2 => fJ2_fastRemove_b34 e N m2 v0 v1 (x2 - 1))) else (fJ2_fastRemove_b34 e N m1 v0 v1 (x2 - 1)))))
abbrev cJ2_remove : ByteArray := prog_59_method_29_code
def yJ2_remove : MethodName := ⟨RJ2, "remove", "(I)Ljava/lang/Object;"⟩
def dkwJ2_remove_1 : List UInt8 := [45, 176]
abbrev dktJ2_remove_1 : List UInt8 := dkwJ2_remove_1 ++ []
def dkwJ2_remove_0 : List UInt8 := [27, 42, 180, 0, 48, 184, 0, 118, 87, 42, 180, 0, 9, 77, 44, 27, 50, 78, 42, 44, 27, 182, 0, 144]
abbrev dktJ2_remove_0 : List UInt8 := dkwJ2_remove_0 ++ dktJ2_remove_1
theorem dksJ2_remove_0 : cJ2_remove.data.toList.drop 0 = dktJ2_remove_0 := by decide +kernel
theorem dksJ2_remove_1 : cJ2_remove.data.toList.drop 24 = dktJ2_remove_1 := dk_seg dksJ2_remove_0 24 rfl rfl
theorem dJ2_remove_0 : decode cJ2_remove 0 = .ok (.iload_n 1, 1) := dk_27 (dk_at dksJ2_remove_0 0 rfl rfl)
theorem dJ2_remove_1 : decode cJ2_remove 1 = .ok (.aload_n 0, 1) := dk_42 (dk_at dksJ2_remove_0 1 rfl rfl)
theorem dJ2_remove_2 : decode cJ2_remove 2 = .ok (.getfield 48, 3) := dk_180 0 48 (dk_at dksJ2_remove_0 2 rfl rfl)
theorem dJ2_remove_5 : decode cJ2_remove 5 = .ok (.invokestatic 118, 3) := dk_184 0 118 (dk_at dksJ2_remove_0 5 rfl rfl)
theorem dJ2_remove_8 : decode cJ2_remove 8 = .ok (.pop, 1) := dk_87 (dk_at dksJ2_remove_0 8 rfl rfl)
theorem dJ2_remove_9 : decode cJ2_remove 9 = .ok (.aload_n 0, 1) := dk_42 (dk_at dksJ2_remove_0 9 rfl rfl)
theorem dJ2_remove_10 : decode cJ2_remove 10 = .ok (.getfield 9, 3) := dk_180 0 9 (dk_at dksJ2_remove_0 10 rfl rfl)
theorem dJ2_remove_13 : decode cJ2_remove 13 = .ok (.astore_n 2, 1) := dk_77 (dk_at dksJ2_remove_0 13 rfl rfl)
theorem dJ2_remove_14 : decode cJ2_remove 14 = .ok (.aload_n 2, 1) := dk_44 (dk_at dksJ2_remove_0 14 rfl rfl)
theorem dJ2_remove_15 : decode cJ2_remove 15 = .ok (.iload_n 1, 1) := dk_27 (dk_at dksJ2_remove_0 15 rfl rfl)
theorem dJ2_remove_16 : decode cJ2_remove 16 = .ok (.aaload, 1) := dk_50 (dk_at dksJ2_remove_0 16 rfl rfl)
theorem dJ2_remove_17 : decode cJ2_remove 17 = .ok (.astore_n 3, 1) := dk_78 (dk_at dksJ2_remove_0 17 rfl rfl)
theorem dJ2_remove_18 : decode cJ2_remove 18 = .ok (.aload_n 0, 1) := dk_42 (dk_at dksJ2_remove_0 18 rfl rfl)
theorem dJ2_remove_19 : decode cJ2_remove 19 = .ok (.aload_n 2, 1) := dk_44 (dk_at dksJ2_remove_0 19 rfl rfl)
theorem dJ2_remove_20 : decode cJ2_remove 20 = .ok (.iload_n 1, 1) := dk_27 (dk_at dksJ2_remove_0 20 rfl rfl)
theorem dJ2_remove_21 : decode cJ2_remove 21 = .ok (.invokevirtual 144, 3) := dk_182 0 144 (dk_at dksJ2_remove_0 21 rfl rfl)
theorem dJ2_remove_24 : decode cJ2_remove 24 = .ok (.aload_n 3, 1) := dk_45 (dk_at dksJ2_remove_1 0 rfl rfl)
theorem dJ2_remove_25 : decode cJ2_remove 25 = .ok (.areturn, 1) := dk_176 (dk_at dksJ2_remove_1 1 rfl rfl)
def fJ2_remove (e : Nat → Nat) (N : Nat) (m : Mm) (v0 : Option Nat) (v1 : Int32) : Rs (Option Nat) := gi_ m v0 13 2 (fun x1 => bd_ (fJ23_checkIndex e N m v1 x1) (fun x2 m1 => gr_ m1 v0 13 1 (fun x3 => ar_ m1 x3 204 v1 (fun x4 => ck_ m1 v0 13 (bd_ (fJ2_fastRemove e N m1 v0 x3 v1) (fun _ m2 => rt_ x4 m2))))))
def fX8_init_t10 (e : Nat → Nat) (N : Nat) (m : Mm) (v0 : Option Nat) : Rs (Unit) := ok_ v0 (rt_ () m)
abbrev cX11_init : ByteArray := prog_6_method_1_code
def yX11_init : MethodName := ⟨RX11, "<init>", "(LMasterTree$Filter;LMasterTree$Filter;Z)V"⟩
def dkwX11_init_0 : List UInt8 := [42, 183, 0, 1, 42, 43, 181, 0, 7, 42, 44, 181, 0, 13, 42, 29, 181, 0, 16, 177]
abbrev dktX11_init_0 : List UInt8 := dkwX11_init_0 ++ []
theorem dksX11_init_0 : cX11_init.data.toList.drop 0 = dktX11_init_0 := by decide +kernel
theorem dX11_init_0 : decode cX11_init 0 = .ok (.aload_n 0, 1) := dk_42 (dk_at dksX11_init_0 0 rfl rfl)
theorem dX11_init_1 : decode cX11_init 1 = .ok (.invokespecial 1, 3) := dk_183 0 1 (dk_at dksX11_init_0 1 rfl rfl)
theorem dX11_init_4 : decode cX11_init 4 = .ok (.aload_n 0, 1) := dk_42 (dk_at dksX11_init_0 4 rfl rfl)
theorem dX11_init_5 : decode cX11_init 5 = .ok (.aload_n 1, 1) := dk_43 (dk_at dksX11_init_0 5 rfl rfl)
theorem dX11_init_6 : decode cX11_init 6 = .ok (.putfield 7, 3) := dk_181 0 7 (dk_at dksX11_init_0 6 rfl rfl)
theorem dX11_init_9 : decode cX11_init 9 = .ok (.aload_n 0, 1) := dk_42 (dk_at dksX11_init_0 9 rfl rfl)
theorem dX11_init_10 : decode cX11_init 10 = .ok (.aload_n 2, 1) := dk_44 (dk_at dksX11_init_0 10 rfl rfl)
theorem dX11_init_11 : decode cX11_init 11 = .ok (.putfield 13, 3) := dk_181 0 13 (dk_at dksX11_init_0 11 rfl rfl)
theorem dX11_init_14 : decode cX11_init 14 = .ok (.aload_n 0, 1) := dk_42 (dk_at dksX11_init_0 14 rfl rfl)
theorem dX11_init_15 : decode cX11_init 15 = .ok (.iload_n 3, 1) := dk_29 (dk_at dksX11_init_0 15 rfl rfl)
theorem dX11_init_16 : decode cX11_init 16 = .ok (.putfield 16, 3) := dk_181 0 16 (dk_at dksX11_init_0 16 rfl rfl)
theorem dX11_init_19 : decode cX11_init 19 = .ok (.return_, 1) := dk_177 (dk_at dksX11_init_0 19 rfl rfl)
def fX11_init (e : Nat → Nat) (N : Nat) (m : Mm) (v0 : Option Nat) (v1 : Option Nat) (v2 : Option Nat) (v3 : Int32) : Rs (Unit) := ok_ v0 (bd_ (fX8_init_t10 e N m v0) (fun _ m1 => pr_ m1 v0 10 0 v1 (fun m2 => pr_ m2 v0 10 1 v2 (fun m3 => pz_ m3 v0 10 2 v3 (fun m4 => rt_ () m4)))))
abbrev cX1_combine : ByteArray := prog_1_method_41_code
def yX1_combine : MethodName := ⟨RX1, "combine", "(Z)I"⟩
def dkwX1_combine_4 : List UInt8 := [172]
abbrev dktX1_combine_4 : List UInt8 := dkwX1_combine_4 ++ []
def dkwX1_combine_3 : List UInt8 := [100, 185, 1, 157, 2, 0, 192, 1, 160, 78, 42, 187, 1, 162, 89, 45, 44, 27, 183, 1, 164, 182, 1, 146]
abbrev dktX1_combine_3 : List UInt8 := dkwX1_combine_3 ++ dktX1_combine_4
def dkwX1_combine_2 : List UInt8 := [100, 185, 1, 157, 2, 0, 192, 1, 160, 77, 42, 180, 0, 66, 42, 180, 0, 66, 185, 0, 137, 1, 0, 4]
abbrev dktX1_combine_2 : List UInt8 := dkwX1_combine_2 ++ dktX1_combine_3
def dkwX1_combine_1 : List UInt8 := [167, 0, 4, 3, 19, 1, 155, 184, 0, 165, 42, 180, 0, 66, 42, 180, 0, 66, 185, 0, 137, 1, 0, 4]
abbrev dktX1_combine_1 : List UInt8 := dkwX1_combine_1 ++ dktX1_combine_2
def dkwX1_combine_0 : List UInt8 := [42, 180, 0, 66, 185, 0, 137, 1, 0, 4, 164, 0, 16, 42, 180, 1, 136, 16, 15, 162, 0, 7, 4]
abbrev dktX1_combine_0 : List UInt8 := dkwX1_combine_0 ++ dktX1_combine_1
theorem dksX1_combine_0 : cX1_combine.data.toList.drop 0 = dktX1_combine_0 := by decide +kernel
theorem dksX1_combine_1 : cX1_combine.data.toList.drop 23 = dktX1_combine_1 := dk_seg dksX1_combine_0 23 rfl rfl
theorem dksX1_combine_2 : cX1_combine.data.toList.drop 47 = dktX1_combine_2 := dk_seg dksX1_combine_1 24 rfl rfl
theorem dksX1_combine_3 : cX1_combine.data.toList.drop 71 = dktX1_combine_3 := dk_seg dksX1_combine_2 24 rfl rfl
theorem dksX1_combine_4 : cX1_combine.data.toList.drop 95 = dktX1_combine_4 := dk_seg dksX1_combine_3 24 rfl rfl
theorem dX1_combine_0 : decode cX1_combine 0 = .ok (.aload_n 0, 1) := dk_42 (dk_at dksX1_combine_0 0 rfl rfl)
theorem dX1_combine_1 : decode cX1_combine 1 = .ok (.getfield 66, 3) := dk_180 0 66 (dk_at dksX1_combine_0 1 rfl rfl)
theorem dX1_combine_4 : decode cX1_combine 4 = .ok (.invokeinterface 137 1, 5) := by decide +kernel
theorem dX1_combine_9 : decode cX1_combine 9 = .ok (.iconst 1, 1) := dk_4 (dk_at dksX1_combine_0 9 rfl rfl)
theorem dX1_combine_10 : decode cX1_combine 10 = .ok (.if_icmp .le 16, 3) := dk_164 0 16 (dk_at dksX1_combine_0 10 rfl rfl)
theorem dX1_combine_13 : decode cX1_combine 13 = .ok (.aload_n 0, 1) := dk_42 (dk_at dksX1_combine_0 13 rfl rfl)
theorem dX1_combine_14 : decode cX1_combine 14 = .ok (.getfield 392, 3) := dk_180 1 136 (dk_at dksX1_combine_0 14 rfl rfl)
theorem dX1_combine_17 : decode cX1_combine 17 = .ok (.bipush 15, 2) := dk_16 15 (dk_at dksX1_combine_0 17 rfl rfl)
theorem dX1_combine_19 : decode cX1_combine 19 = .ok (.if_icmp .ge 7, 3) := dk_162 0 7 (dk_at dksX1_combine_0 19 rfl rfl)
theorem dX1_combine_22 : decode cX1_combine 22 = .ok (.iconst 1, 1) := dk_4 (dk_at dksX1_combine_0 22 rfl rfl)
theorem dX1_combine_23 : decode cX1_combine 23 = .ok (.goto 4, 3) := dk_167 0 4 (dk_at dksX1_combine_1 0 rfl rfl)
theorem dX1_combine_26 : decode cX1_combine 26 = .ok (.iconst 0, 1) := dk_3 (dk_at dksX1_combine_1 3 rfl rfl)
theorem dX1_combine_27 : decode cX1_combine 27 = .ok (.ldc_w 411, 3) := dk_19 1 155 (dk_at dksX1_combine_1 4 rfl rfl)
theorem dX1_combine_30 : decode cX1_combine 30 = .ok (.invokestatic 165, 3) := dk_184 0 165 (dk_at dksX1_combine_1 7 rfl rfl)
theorem dX1_combine_33 : decode cX1_combine 33 = .ok (.aload_n 0, 1) := dk_42 (dk_at dksX1_combine_1 10 rfl rfl)
theorem dX1_combine_34 : decode cX1_combine 34 = .ok (.getfield 66, 3) := dk_180 0 66 (dk_at dksX1_combine_1 11 rfl rfl)
theorem dX1_combine_37 : decode cX1_combine 37 = .ok (.aload_n 0, 1) := dk_42 (dk_at dksX1_combine_1 14 rfl rfl)
theorem dX1_combine_38 : decode cX1_combine 38 = .ok (.getfield 66, 3) := dk_180 0 66 (dk_at dksX1_combine_1 15 rfl rfl)
theorem dX1_combine_41 : decode cX1_combine 41 = .ok (.invokeinterface 137 1, 5) := by decide +kernel
theorem dX1_combine_46 : decode cX1_combine 46 = .ok (.iconst 1, 1) := dk_4 (dk_at dksX1_combine_1 23 rfl rfl)
theorem dX1_combine_47 : decode cX1_combine 47 = .ok (.isub, 1) := dk_100 (dk_at dksX1_combine_2 0 rfl rfl)
theorem dX1_combine_48 : decode cX1_combine 48 = .ok (.invokeinterface 413 2, 5) := by decide +kernel
theorem dX1_combine_53 : decode cX1_combine 53 = .ok (.checkcast 416, 3) := dk_192 1 160 (dk_at dksX1_combine_2 6 rfl rfl)
theorem dX1_combine_56 : decode cX1_combine 56 = .ok (.astore_n 2, 1) := dk_77 (dk_at dksX1_combine_2 9 rfl rfl)
theorem dX1_combine_57 : decode cX1_combine 57 = .ok (.aload_n 0, 1) := dk_42 (dk_at dksX1_combine_2 10 rfl rfl)
theorem dX1_combine_58 : decode cX1_combine 58 = .ok (.getfield 66, 3) := dk_180 0 66 (dk_at dksX1_combine_2 11 rfl rfl)
theorem dX1_combine_61 : decode cX1_combine 61 = .ok (.aload_n 0, 1) := dk_42 (dk_at dksX1_combine_2 14 rfl rfl)
theorem dX1_combine_62 : decode cX1_combine 62 = .ok (.getfield 66, 3) := dk_180 0 66 (dk_at dksX1_combine_2 15 rfl rfl)
theorem dX1_combine_65 : decode cX1_combine 65 = .ok (.invokeinterface 137 1, 5) := by decide +kernel
theorem dX1_combine_70 : decode cX1_combine 70 = .ok (.iconst 1, 1) := dk_4 (dk_at dksX1_combine_2 23 rfl rfl)
theorem dX1_combine_71 : decode cX1_combine 71 = .ok (.isub, 1) := dk_100 (dk_at dksX1_combine_3 0 rfl rfl)
theorem dX1_combine_72 : decode cX1_combine 72 = .ok (.invokeinterface 413 2, 5) := by decide +kernel
theorem dX1_combine_77 : decode cX1_combine 77 = .ok (.checkcast 416, 3) := dk_192 1 160 (dk_at dksX1_combine_3 6 rfl rfl)
theorem dX1_combine_80 : decode cX1_combine 80 = .ok (.astore_n 3, 1) := dk_78 (dk_at dksX1_combine_3 9 rfl rfl)
theorem dX1_combine_81 : decode cX1_combine 81 = .ok (.aload_n 0, 1) := dk_42 (dk_at dksX1_combine_3 10 rfl rfl)
theorem dX1_combine_82 : decode cX1_combine 82 = .ok (.new 418, 3) := dk_187 1 162 (dk_at dksX1_combine_3 11 rfl rfl)
theorem dX1_combine_85 : decode cX1_combine 85 = .ok (.dup, 1) := dk_89 (dk_at dksX1_combine_3 14 rfl rfl)
theorem dX1_combine_86 : decode cX1_combine 86 = .ok (.aload_n 3, 1) := dk_45 (dk_at dksX1_combine_3 15 rfl rfl)
theorem dX1_combine_87 : decode cX1_combine 87 = .ok (.aload_n 2, 1) := dk_44 (dk_at dksX1_combine_3 16 rfl rfl)
theorem dX1_combine_88 : decode cX1_combine 88 = .ok (.iload_n 1, 1) := dk_27 (dk_at dksX1_combine_3 17 rfl rfl)
theorem dX1_combine_89 : decode cX1_combine 89 = .ok (.invokespecial 420, 3) := dk_183 1 164 (dk_at dksX1_combine_3 18 rfl rfl)
theorem dX1_combine_92 : decode cX1_combine 92 = .ok (.invokevirtual 402, 3) := dk_182 1 146 (dk_at dksX1_combine_3 21 rfl rfl)
theorem dX1_combine_95 : decode cX1_combine 95 = .ok (.ireturn, 1) := dk_172 (dk_at dksX1_combine_4 0 rfl rfl)
def fX1_combine_b27 (e : Nat → Nat) (N : Nat) (m : Mm) (v0 : Option Nat) (v1 : Int32) (s0 : Int32) : Rs (Int32 ⊕ Nat) := bd_ (fX1_must e N m s0 (some (e (100 + 34)))) (xf_ (fun _ m1 => gr_ m1 v0 1 4 (fun x1 => gr_ m1 v0 1 4 (fun x2 => ck_ m1 x2 13 (bd_ (fJ2_size e N m1 x2) (fun x3 m2 => ck_ m2 x1 13 (bd_ (fJ2_remove e N m2 x1 (x3 - 1)) (fun x4 m3 => cc_ m3 x4 [8, 9, 10, 11] (gr_ m3 v0 1 4 (fun x5 => gr_ m3 v0 1 4 (fun x6 => ck_ m3 x6 13 (bd_ (fJ2_size e N m3 x6) (fun x7 m4 => ck_ m4 x5 13 (bd_ (fJ2_remove e N m4 x5 (x7 - 1)) (fun x8 m5 => cc_ m5 x8 [8, 9, 10, 11] (nw_ m5 10 3 (fun x9 m6 => bd_ (fX11_init e N m6 (some x9) x8 x4 v1) (fun _ m7 => ck_ m7 v0 1 (bd_ (fX1_puts e N m7 v0 (some x9)) (xf_ (fun x10 m8 => rt_ (.inl x10) m8)))))))))))))))))))))
def fX1_combine_b26 (e : Nat → Nat) (N : Nat) (m : Mm) (v0 : Option Nat) (v1 : Int32) : Rs (Int32 ⊕ Nat) := fX1_combine_b27 e N m v0 v1 0
def fX1_combine (e : Nat → Nat) (N : Nat) (m : Mm) (v0 : Option Nat) (v1 : Int32) : Rs (Int32 ⊕ Nat) := gr_ m v0 1 4 (fun x1 => ck_ m x1 13 (bd_ (fJ2_size e N m x1) (fun x2 m1 => if (1 : Int32) < x2 then (gi_ m1 v0 1 5 (fun x3 => if x3 < 15 then (fX1_combine_b27 e N m1 v0 v1 1) else (fX1_combine_b26 e N m1 v0 v1))) else (fX1_combine_b26 e N m1 v0 v1))))
abbrev cX0_combine : ByteArray := method_22_code
def yX0_combine : MethodName := ⟨RX0, "combine", "(LMasterTree;Z[J)I"⟩
def dkwX0_combine_0 : List UInt8 := [44, 3, 42, 27, 182, 0, 78, 133, 80, 167, 0, 6, 78, 4, 172, 3, 172]
abbrev dktX0_combine_0 : List UInt8 := dkwX0_combine_0 ++ []
theorem dksX0_combine_0 : cX0_combine.data.toList.drop 0 = dktX0_combine_0 := by decide +kernel
theorem dX0_combine_0 : decode cX0_combine 0 = .ok (.aload_n 2, 1) := dk_44 (dk_at dksX0_combine_0 0 rfl rfl)
theorem dX0_combine_1 : decode cX0_combine 1 = .ok (.iconst 0, 1) := dk_3 (dk_at dksX0_combine_0 1 rfl rfl)
theorem dX0_combine_2 : decode cX0_combine 2 = .ok (.aload_n 0, 1) := dk_42 (dk_at dksX0_combine_0 2 rfl rfl)
theorem dX0_combine_3 : decode cX0_combine 3 = .ok (.iload_n 1, 1) := dk_27 (dk_at dksX0_combine_0 3 rfl rfl)
theorem dX0_combine_4 : decode cX0_combine 4 = .ok (.invokevirtual 78, 3) := dk_182 0 78 (dk_at dksX0_combine_0 4 rfl rfl)
theorem dX0_combine_7 : decode cX0_combine 7 = .ok (.i2l, 1) := dk_133 (dk_at dksX0_combine_0 7 rfl rfl)
theorem dX0_combine_8 : decode cX0_combine 8 = .ok (.lastore, 1) := dk_80 (dk_at dksX0_combine_0 8 rfl rfl)
theorem dX0_combine_9 : decode cX0_combine 9 = .ok (.goto 6, 3) := dk_167 0 6 (dk_at dksX0_combine_0 9 rfl rfl)
theorem dX0_combine_12 : decode cX0_combine 12 = .ok (.astore_n 3, 1) := dk_78 (dk_at dksX0_combine_0 12 rfl rfl)
theorem dX0_combine_13 : decode cX0_combine 13 = .ok (.iconst 1, 1) := dk_4 (dk_at dksX0_combine_0 13 rfl rfl)
theorem dX0_combine_14 : decode cX0_combine 14 = .ok (.ireturn, 1) := dk_172 (dk_at dksX0_combine_0 14 rfl rfl)
theorem dX0_combine_15 : decode cX0_combine 15 = .ok (.iconst 0, 1) := dk_3 (dk_at dksX0_combine_0 15 rfl rfl)
theorem dX0_combine_16 : decode cX0_combine 16 = .ok (.ireturn, 1) := dk_172 (dk_at dksX0_combine_0 16 rfl rfl)
def fX0_combine (e : Nat → Nat) (N : Nat) (m : Mm) (v0 : Option Nat) (v1 : Int32) (v2 : Option Nat) : Rs (Int32) := ck_ m v0 1 (bd_ (fX1_combine e N m v0 v1) (ch_ (fun x1 m1 => bj_ m1 v2 203 0 ((x1 : Int32).toInt64) (fun m2 => rt_ 0 m2)) (fun i_ m0 => if i_ = 2 then rt_ 1 m0 else none)))
def fX8_init_t11 (e : Nat → Nat) (N : Nat) (m : Mm) (v0 : Option Nat) : Rs (Unit) := ok_ v0 (rt_ () m)
abbrev cX12_init : ByteArray := prog_22_method_1_code
def yX12_init : MethodName := ⟨RX12, "<init>", "(LMasterTree$Filter;)V"⟩
def dkwX12_init_0 : List UInt8 := [42, 183, 0, 1, 42, 43, 181, 0, 7, 177]
abbrev dktX12_init_0 : List UInt8 := dkwX12_init_0 ++ []
theorem dksX12_init_0 : cX12_init.data.toList.drop 0 = dktX12_init_0 := by decide +kernel
theorem dX12_init_0 : decode cX12_init 0 = .ok (.aload_n 0, 1) := dk_42 (dk_at dksX12_init_0 0 rfl rfl)
theorem dX12_init_1 : decode cX12_init 1 = .ok (.invokespecial 1, 3) := dk_183 0 1 (dk_at dksX12_init_0 1 rfl rfl)
theorem dX12_init_4 : decode cX12_init 4 = .ok (.aload_n 0, 1) := dk_42 (dk_at dksX12_init_0 4 rfl rfl)
theorem dX12_init_5 : decode cX12_init 5 = .ok (.aload_n 1, 1) := dk_43 (dk_at dksX12_init_0 5 rfl rfl)
theorem dX12_init_6 : decode cX12_init 6 = .ok (.putfield 7, 3) := dk_181 0 7 (dk_at dksX12_init_0 6 rfl rfl)
theorem dX12_init_9 : decode cX12_init 9 = .ok (.return_, 1) := dk_177 (dk_at dksX12_init_0 9 rfl rfl)
def fX12_init (e : Nat → Nat) (N : Nat) (m : Mm) (v0 : Option Nat) (v1 : Option Nat) : Rs (Unit) := ok_ v0 (bd_ (fX8_init_t11 e N m v0) (fun _ m1 => pr_ m1 v0 11 0 v1 (fun m2 => rt_ () m2)))
abbrev cX1_not : ByteArray := prog_1_method_42_code
def yX1_not : MethodName := ⟨RX1, "not", "()I"⟩
def dkwX1_not_2 : List UInt8 := [100, 185, 1, 157, 2, 0, 192, 1, 160, 76, 42, 187, 1, 170, 89, 43, 183, 1, 172, 182, 1, 146, 172]
abbrev dktX1_not_2 : List UInt8 := dkwX1_not_2 ++ []
def dkwX1_not_1 : List UInt8 := [167, 0, 4, 3, 19, 1, 168, 184, 0, 165, 42, 180, 0, 66, 42, 180, 0, 66, 185, 0, 137, 1, 0, 4]
abbrev dktX1_not_1 : List UInt8 := dkwX1_not_1 ++ dktX1_not_2
def dkwX1_not_0 : List UInt8 := [42, 180, 0, 66, 185, 1, 167, 1, 0, 154, 0, 16, 42, 180, 1, 136, 16, 15, 162, 0, 7, 4]
abbrev dktX1_not_0 : List UInt8 := dkwX1_not_0 ++ dktX1_not_1
theorem dksX1_not_0 : cX1_not.data.toList.drop 0 = dktX1_not_0 := by decide +kernel
theorem dksX1_not_1 : cX1_not.data.toList.drop 22 = dktX1_not_1 := dk_seg dksX1_not_0 22 rfl rfl
theorem dksX1_not_2 : cX1_not.data.toList.drop 46 = dktX1_not_2 := dk_seg dksX1_not_1 24 rfl rfl
theorem dX1_not_0 : decode cX1_not 0 = .ok (.aload_n 0, 1) := dk_42 (dk_at dksX1_not_0 0 rfl rfl)
theorem dX1_not_1 : decode cX1_not 1 = .ok (.getfield 66, 3) := dk_180 0 66 (dk_at dksX1_not_0 1 rfl rfl)
theorem dX1_not_4 : decode cX1_not 4 = .ok (.invokeinterface 423 1, 5) := by decide +kernel
theorem dX1_not_9 : decode cX1_not 9 = .ok (.ifCond .ne 16, 3) := dk_154 0 16 (dk_at dksX1_not_0 9 rfl rfl)
theorem dX1_not_12 : decode cX1_not 12 = .ok (.aload_n 0, 1) := dk_42 (dk_at dksX1_not_0 12 rfl rfl)
theorem dX1_not_13 : decode cX1_not 13 = .ok (.getfield 392, 3) := dk_180 1 136 (dk_at dksX1_not_0 13 rfl rfl)
theorem dX1_not_16 : decode cX1_not 16 = .ok (.bipush 15, 2) := dk_16 15 (dk_at dksX1_not_0 16 rfl rfl)
theorem dX1_not_18 : decode cX1_not 18 = .ok (.if_icmp .ge 7, 3) := dk_162 0 7 (dk_at dksX1_not_0 18 rfl rfl)
theorem dX1_not_21 : decode cX1_not 21 = .ok (.iconst 1, 1) := dk_4 (dk_at dksX1_not_0 21 rfl rfl)
theorem dX1_not_22 : decode cX1_not 22 = .ok (.goto 4, 3) := dk_167 0 4 (dk_at dksX1_not_1 0 rfl rfl)
theorem dX1_not_25 : decode cX1_not 25 = .ok (.iconst 0, 1) := dk_3 (dk_at dksX1_not_1 3 rfl rfl)
theorem dX1_not_26 : decode cX1_not 26 = .ok (.ldc_w 424, 3) := dk_19 1 168 (dk_at dksX1_not_1 4 rfl rfl)
theorem dX1_not_29 : decode cX1_not 29 = .ok (.invokestatic 165, 3) := dk_184 0 165 (dk_at dksX1_not_1 7 rfl rfl)
theorem dX1_not_32 : decode cX1_not 32 = .ok (.aload_n 0, 1) := dk_42 (dk_at dksX1_not_1 10 rfl rfl)
theorem dX1_not_33 : decode cX1_not 33 = .ok (.getfield 66, 3) := dk_180 0 66 (dk_at dksX1_not_1 11 rfl rfl)
theorem dX1_not_36 : decode cX1_not 36 = .ok (.aload_n 0, 1) := dk_42 (dk_at dksX1_not_1 14 rfl rfl)
theorem dX1_not_37 : decode cX1_not 37 = .ok (.getfield 66, 3) := dk_180 0 66 (dk_at dksX1_not_1 15 rfl rfl)
theorem dX1_not_40 : decode cX1_not 40 = .ok (.invokeinterface 137 1, 5) := by decide +kernel
theorem dX1_not_45 : decode cX1_not 45 = .ok (.iconst 1, 1) := dk_4 (dk_at dksX1_not_1 23 rfl rfl)
theorem dX1_not_46 : decode cX1_not 46 = .ok (.isub, 1) := dk_100 (dk_at dksX1_not_2 0 rfl rfl)
theorem dX1_not_47 : decode cX1_not 47 = .ok (.invokeinterface 413 2, 5) := by decide +kernel
theorem dX1_not_52 : decode cX1_not 52 = .ok (.checkcast 416, 3) := dk_192 1 160 (dk_at dksX1_not_2 6 rfl rfl)
theorem dX1_not_55 : decode cX1_not 55 = .ok (.astore_n 1, 1) := dk_76 (dk_at dksX1_not_2 9 rfl rfl)
theorem dX1_not_56 : decode cX1_not 56 = .ok (.aload_n 0, 1) := dk_42 (dk_at dksX1_not_2 10 rfl rfl)
theorem dX1_not_57 : decode cX1_not 57 = .ok (.new 426, 3) := dk_187 1 170 (dk_at dksX1_not_2 11 rfl rfl)
theorem dX1_not_60 : decode cX1_not 60 = .ok (.dup, 1) := dk_89 (dk_at dksX1_not_2 14 rfl rfl)
theorem dX1_not_61 : decode cX1_not 61 = .ok (.aload_n 1, 1) := dk_43 (dk_at dksX1_not_2 15 rfl rfl)
theorem dX1_not_62 : decode cX1_not 62 = .ok (.invokespecial 428, 3) := dk_183 1 172 (dk_at dksX1_not_2 16 rfl rfl)
theorem dX1_not_65 : decode cX1_not 65 = .ok (.invokevirtual 402, 3) := dk_182 1 146 (dk_at dksX1_not_2 19 rfl rfl)
theorem dX1_not_68 : decode cX1_not 68 = .ok (.ireturn, 1) := dk_172 (dk_at dksX1_not_2 22 rfl rfl)
def fX1_not_b26 (e : Nat → Nat) (N : Nat) (m : Mm) (v0 : Option Nat) (s0 : Int32) : Rs (Int32 ⊕ Nat) := bd_ (fX1_must e N m s0 (some (e (100 + 35)))) (xf_ (fun _ m1 => gr_ m1 v0 1 4 (fun x1 => gr_ m1 v0 1 4 (fun x2 => ck_ m1 x2 13 (bd_ (fJ2_size e N m1 x2) (fun x3 m2 => ck_ m2 x1 13 (bd_ (fJ2_remove e N m2 x1 (x3 - 1)) (fun x4 m3 => cc_ m3 x4 [8, 9, 10, 11] (nw_ m3 11 1 (fun x5 m4 => bd_ (fX12_init e N m4 (some x5) x4) (fun _ m5 => ck_ m5 v0 1 (bd_ (fX1_puts e N m5 v0 (some x5)) (xf_ (fun x6 m6 => rt_ (.inl x6) m6))))))))))))))
def fX1_not_b25 (e : Nat → Nat) (N : Nat) (m : Mm) (v0 : Option Nat) : Rs (Int32 ⊕ Nat) := fX1_not_b26 e N m v0 0
def fX1_not (e : Nat → Nat) (N : Nat) (m : Mm) (v0 : Option Nat) : Rs (Int32 ⊕ Nat) := gr_ m v0 1 4 (fun x1 => ck_ m x1 13 (bd_ (fJ2_isEmpty e N m x1) (fun x2 m1 => if x2 = 0 then (gi_ m1 v0 1 5 (fun x3 => if x3 < 15 then (fX1_not_b26 e N m1 v0 1) else (fX1_not_b25 e N m1 v0))) else (fX1_not_b25 e N m1 v0))))
abbrev cX0_not : ByteArray := method_23_code
def yX0_not : MethodName := ⟨RX0, "not", "(LMasterTree;[J)I"⟩
def dkwX0_not_0 : List UInt8 := [43, 3, 42, 182, 0, 82, 133, 80, 167, 0, 6, 77, 4, 172, 3, 172]
abbrev dktX0_not_0 : List UInt8 := dkwX0_not_0 ++ []
theorem dksX0_not_0 : cX0_not.data.toList.drop 0 = dktX0_not_0 := by decide +kernel
theorem dX0_not_0 : decode cX0_not 0 = .ok (.aload_n 1, 1) := dk_43 (dk_at dksX0_not_0 0 rfl rfl)
theorem dX0_not_1 : decode cX0_not 1 = .ok (.iconst 0, 1) := dk_3 (dk_at dksX0_not_0 1 rfl rfl)
theorem dX0_not_2 : decode cX0_not 2 = .ok (.aload_n 0, 1) := dk_42 (dk_at dksX0_not_0 2 rfl rfl)
theorem dX0_not_3 : decode cX0_not 3 = .ok (.invokevirtual 82, 3) := dk_182 0 82 (dk_at dksX0_not_0 3 rfl rfl)
theorem dX0_not_6 : decode cX0_not 6 = .ok (.i2l, 1) := dk_133 (dk_at dksX0_not_0 6 rfl rfl)
theorem dX0_not_7 : decode cX0_not 7 = .ok (.lastore, 1) := dk_80 (dk_at dksX0_not_0 7 rfl rfl)
theorem dX0_not_8 : decode cX0_not 8 = .ok (.goto 6, 3) := dk_167 0 6 (dk_at dksX0_not_0 8 rfl rfl)
theorem dX0_not_11 : decode cX0_not 11 = .ok (.astore_n 2, 1) := dk_77 (dk_at dksX0_not_0 11 rfl rfl)
theorem dX0_not_12 : decode cX0_not 12 = .ok (.iconst 1, 1) := dk_4 (dk_at dksX0_not_0 12 rfl rfl)
theorem dX0_not_13 : decode cX0_not 13 = .ok (.ireturn, 1) := dk_172 (dk_at dksX0_not_0 13 rfl rfl)
theorem dX0_not_14 : decode cX0_not 14 = .ok (.iconst 0, 1) := dk_3 (dk_at dksX0_not_0 14 rfl rfl)
theorem dX0_not_15 : decode cX0_not 15 = .ok (.ireturn, 1) := dk_172 (dk_at dksX0_not_0 15 rfl rfl)
def fX0_not (e : Nat → Nat) (N : Nat) (m : Mm) (v0 : Option Nat) (v1 : Option Nat) : Rs (Int32) := ck_ m v0 1 (bd_ (fX1_not e N m v0) (ch_ (fun x1 m1 => bj_ m1 v1 203 0 ((x1 : Int32).toInt64) (fun m2 => rt_ 0 m2)) (fun i_ m0 => if i_ = 2 then rt_ 1 m0 else none)))
abbrev cX1_belongs : ByteArray := prog_1_method_45_code
def yX1_belongs : MethodName := ⟨RX1, "belongs", "(LMasterTree$Master;III)Z"⟩
def dkwX1_belongs_3 : List UInt8 := [167, 0, 4, 3, 172]
abbrev dktX1_belongs_3 : List UInt8 := dkwX1_belongs_3 ++ []
def dkwX1_belongs_2 : List UInt8 := [21, 4, 28, 159, 0, 14, 42, 21, 4, 182, 1, 54, 54, 4, 167, 255, 237, 21, 4, 28, 160, 0, 7, 4]
abbrev dktX1_belongs_2 : List UInt8 := dkwX1_belongs_2 ++ dktX1_belongs_3
def dkwX1_belongs_1 : List UInt8 := [42, 27, 182, 1, 54, 28, 160, 0, 7, 4, 167, 0, 4, 3, 172, 27, 54, 4, 21, 4, 155, 0, 20]
abbrev dktX1_belongs_1 : List UInt8 := dkwX1_belongs_1 ++ dktX1_belongs_2
def dkwX1_belongs_0 : List UInt8 := [29, 154, 0, 14, 27, 28, 160, 0, 7, 4, 167, 0, 4, 3, 172, 29, 4, 160, 0, 22, 27, 153, 0, 16]
abbrev dktX1_belongs_0 : List UInt8 := dkwX1_belongs_0 ++ dktX1_belongs_1
theorem dksX1_belongs_0 : cX1_belongs.data.toList.drop 0 = dktX1_belongs_0 := by decide +kernel
theorem dksX1_belongs_1 : cX1_belongs.data.toList.drop 24 = dktX1_belongs_1 := dk_seg dksX1_belongs_0 24 rfl rfl
theorem dksX1_belongs_2 : cX1_belongs.data.toList.drop 47 = dktX1_belongs_2 := dk_seg dksX1_belongs_1 23 rfl rfl
theorem dksX1_belongs_3 : cX1_belongs.data.toList.drop 71 = dktX1_belongs_3 := dk_seg dksX1_belongs_2 24 rfl rfl
theorem dX1_belongs_0 : decode cX1_belongs 0 = .ok (.iload_n 3, 1) := dk_29 (dk_at dksX1_belongs_0 0 rfl rfl)
theorem dX1_belongs_1 : decode cX1_belongs 1 = .ok (.ifCond .ne 14, 3) := dk_154 0 14 (dk_at dksX1_belongs_0 1 rfl rfl)
theorem dX1_belongs_4 : decode cX1_belongs 4 = .ok (.iload_n 1, 1) := dk_27 (dk_at dksX1_belongs_0 4 rfl rfl)
theorem dX1_belongs_5 : decode cX1_belongs 5 = .ok (.iload_n 2, 1) := dk_28 (dk_at dksX1_belongs_0 5 rfl rfl)
theorem dX1_belongs_6 : decode cX1_belongs 6 = .ok (.if_icmp .ne 7, 3) := dk_160 0 7 (dk_at dksX1_belongs_0 6 rfl rfl)
theorem dX1_belongs_9 : decode cX1_belongs 9 = .ok (.iconst 1, 1) := dk_4 (dk_at dksX1_belongs_0 9 rfl rfl)
theorem dX1_belongs_10 : decode cX1_belongs 10 = .ok (.goto 4, 3) := dk_167 0 4 (dk_at dksX1_belongs_0 10 rfl rfl)
theorem dX1_belongs_13 : decode cX1_belongs 13 = .ok (.iconst 0, 1) := dk_3 (dk_at dksX1_belongs_0 13 rfl rfl)
theorem dX1_belongs_14 : decode cX1_belongs 14 = .ok (.ireturn, 1) := dk_172 (dk_at dksX1_belongs_0 14 rfl rfl)
theorem dX1_belongs_15 : decode cX1_belongs 15 = .ok (.iload_n 3, 1) := dk_29 (dk_at dksX1_belongs_0 15 rfl rfl)
theorem dX1_belongs_16 : decode cX1_belongs 16 = .ok (.iconst 1, 1) := dk_4 (dk_at dksX1_belongs_0 16 rfl rfl)
theorem dX1_belongs_17 : decode cX1_belongs 17 = .ok (.if_icmp .ne 22, 3) := dk_160 0 22 (dk_at dksX1_belongs_0 17 rfl rfl)
theorem dX1_belongs_20 : decode cX1_belongs 20 = .ok (.iload_n 1, 1) := dk_27 (dk_at dksX1_belongs_0 20 rfl rfl)
theorem dX1_belongs_21 : decode cX1_belongs 21 = .ok (.ifCond .eq 16, 3) := dk_153 0 16 (dk_at dksX1_belongs_0 21 rfl rfl)
theorem dX1_belongs_24 : decode cX1_belongs 24 = .ok (.aload_n 0, 1) := dk_42 (dk_at dksX1_belongs_1 0 rfl rfl)
theorem dX1_belongs_25 : decode cX1_belongs 25 = .ok (.iload_n 1, 1) := dk_27 (dk_at dksX1_belongs_1 1 rfl rfl)
theorem dX1_belongs_26 : decode cX1_belongs 26 = .ok (.invokevirtual 310, 3) := dk_182 1 54 (dk_at dksX1_belongs_1 2 rfl rfl)
theorem dX1_belongs_29 : decode cX1_belongs 29 = .ok (.iload_n 2, 1) := dk_28 (dk_at dksX1_belongs_1 5 rfl rfl)
theorem dX1_belongs_30 : decode cX1_belongs 30 = .ok (.if_icmp .ne 7, 3) := dk_160 0 7 (dk_at dksX1_belongs_1 6 rfl rfl)
theorem dX1_belongs_33 : decode cX1_belongs 33 = .ok (.iconst 1, 1) := dk_4 (dk_at dksX1_belongs_1 9 rfl rfl)
theorem dX1_belongs_34 : decode cX1_belongs 34 = .ok (.goto 4, 3) := dk_167 0 4 (dk_at dksX1_belongs_1 10 rfl rfl)
theorem dX1_belongs_37 : decode cX1_belongs 37 = .ok (.iconst 0, 1) := dk_3 (dk_at dksX1_belongs_1 13 rfl rfl)
theorem dX1_belongs_38 : decode cX1_belongs 38 = .ok (.ireturn, 1) := dk_172 (dk_at dksX1_belongs_1 14 rfl rfl)
theorem dX1_belongs_39 : decode cX1_belongs 39 = .ok (.iload_n 1, 1) := dk_27 (dk_at dksX1_belongs_1 15 rfl rfl)
theorem dX1_belongs_40 : decode cX1_belongs 40 = .ok (.istore 4, 2) := dk_54 4 (dk_at dksX1_belongs_1 16 rfl rfl)
theorem dX1_belongs_42 : decode cX1_belongs 42 = .ok (.iload 4, 2) := dk_21 4 (dk_at dksX1_belongs_1 18 rfl rfl)
theorem dX1_belongs_44 : decode cX1_belongs 44 = .ok (.ifCond .lt 20, 3) := dk_155 0 20 (dk_at dksX1_belongs_1 20 rfl rfl)
theorem dX1_belongs_47 : decode cX1_belongs 47 = .ok (.iload 4, 2) := dk_21 4 (dk_at dksX1_belongs_2 0 rfl rfl)
theorem dX1_belongs_49 : decode cX1_belongs 49 = .ok (.iload_n 2, 1) := dk_28 (dk_at dksX1_belongs_2 2 rfl rfl)
theorem dX1_belongs_50 : decode cX1_belongs 50 = .ok (.if_icmp .eq 14, 3) := dk_159 0 14 (dk_at dksX1_belongs_2 3 rfl rfl)
theorem dX1_belongs_53 : decode cX1_belongs 53 = .ok (.aload_n 0, 1) := dk_42 (dk_at dksX1_belongs_2 6 rfl rfl)
theorem dX1_belongs_54 : decode cX1_belongs 54 = .ok (.iload 4, 2) := dk_21 4 (dk_at dksX1_belongs_2 7 rfl rfl)
theorem dX1_belongs_56 : decode cX1_belongs 56 = .ok (.invokevirtual 310, 3) := dk_182 1 54 (dk_at dksX1_belongs_2 9 rfl rfl)
theorem dX1_belongs_59 : decode cX1_belongs 59 = .ok (.istore 4, 2) := dk_54 4 (dk_at dksX1_belongs_2 12 rfl rfl)
theorem dX1_belongs_61 : decode cX1_belongs 61 = .ok (.goto (-19), 3) := dk_167 255 237 (dk_at dksX1_belongs_2 14 rfl rfl)
theorem dX1_belongs_64 : decode cX1_belongs 64 = .ok (.iload 4, 2) := dk_21 4 (dk_at dksX1_belongs_2 17 rfl rfl)
theorem dX1_belongs_66 : decode cX1_belongs 66 = .ok (.iload_n 2, 1) := dk_28 (dk_at dksX1_belongs_2 19 rfl rfl)
theorem dX1_belongs_67 : decode cX1_belongs 67 = .ok (.if_icmp .ne 7, 3) := dk_160 0 7 (dk_at dksX1_belongs_2 20 rfl rfl)
theorem dX1_belongs_70 : decode cX1_belongs 70 = .ok (.iconst 1, 1) := dk_4 (dk_at dksX1_belongs_2 23 rfl rfl)
theorem dX1_belongs_71 : decode cX1_belongs 71 = .ok (.goto 4, 3) := dk_167 0 4 (dk_at dksX1_belongs_3 0 rfl rfl)
theorem dX1_belongs_74 : decode cX1_belongs 74 = .ok (.iconst 0, 1) := dk_3 (dk_at dksX1_belongs_3 3 rfl rfl)
theorem dX1_belongs_75 : decode cX1_belongs 75 = .ok (.ireturn, 1) := dk_172 (dk_at dksX1_belongs_3 4 rfl rfl)
def fX1_belongs_b14 (e : Nat → Nat) (N : Nat) (m : Mm) (s0 : Int32) : Rs (Int32) := rz_ s0 s0 m
def fX1_belongs_b38 (e : Nat → Nat) (N : Nat) (m : Mm) (s0 : Int32) : Rs (Int32) := rz_ s0 s0 m
def fX1_belongs_b37 (e : Nat → Nat) (N : Nat) (m : Mm) : Rs (Int32) := fX1_belongs_b38 e N m 0
def fX1_belongs_b75 (e : Nat → Nat) (N : Nat) (m : Mm) (s0 : Int32) : Rs (Int32) := rz_ s0 s0 m
def fX1_belongs_b64 (e : Nat → Nat) (N : Nat) (m : Mm) (v2 : Int32) (v4 : Int32) : Rs (Int32) := if v4 = v2 then (fX1_belongs_b75 e N m 1) else (fX1_belongs_b75 e N m 0)
def fX1_belongs_b42 (e : Nat → Nat) (N : Nat) : Nat → Mm → Option Nat → Int32 → Int32 → Rs (Int32)
  | 0, _, _, _, _ => none
  | F + 1, m, v0, v2, v4 => if v4 < 0 then (fX1_belongs_b64 e N m v2 v4) else (if v4 = v2 then (fX1_belongs_b64 e N m v2 v4) else (ck_ m v0 2 (bd_ (fX2_shownAt e N m v0 v4) (fun x1 m1 => fX1_belongs_b42 e N F m1 v0 v2 x1))))
def fX1_belongs (e : Nat → Nat) (N : Nat) (m : Mm) (v0 : Option Nat) (v1 : Int32) (v2 : Int32) (v3 : Int32) : Rs (Int32) := if v3 = 0 then (if v1 = v2 then (fX1_belongs_b14 e N m 1) else (fX1_belongs_b14 e N m 0)) else (if v3 = 1 then (if v1 = 0 then (fX1_belongs_b37 e N m) else (ck_ m v0 2 (bd_ (fX2_shownAt e N m v0 v1) (fun x1 m1 => if x1 = v2 then (fX1_belongs_b38 e N m1 1) else (fX1_belongs_b37 e N m1))))) else (fX1_belongs_b42 e N N m v0 v2 v1))
abbrev cX1_searched : ByteArray := prog_1_method_46_code
def yX1_searched : MethodName := ⟨RX1, "searched", "(III)LMasterTree$Master;"⟩
def dkwX1_searched_1 : List UInt8 := [25, 4, 176]
abbrev dktX1_searched_1 : List UInt8 := dkwX1_searched_1 ++ []
def dkwX1_searched_0 : List UInt8 := [42, 27, 182, 0, 183, 58, 4, 25, 4, 28, 184, 0, 133, 87, 29, 6, 19, 1, 101, 184, 0, 109, 87]
abbrev dktX1_searched_0 : List UInt8 := dkwX1_searched_0 ++ dktX1_searched_1
theorem dksX1_searched_0 : cX1_searched.data.toList.drop 0 = dktX1_searched_0 := by decide +kernel
theorem dksX1_searched_1 : cX1_searched.data.toList.drop 23 = dktX1_searched_1 := dk_seg dksX1_searched_0 23 rfl rfl
theorem dX1_searched_0 : decode cX1_searched 0 = .ok (.aload_n 0, 1) := dk_42 (dk_at dksX1_searched_0 0 rfl rfl)
theorem dX1_searched_1 : decode cX1_searched 1 = .ok (.iload_n 1, 1) := dk_27 (dk_at dksX1_searched_0 1 rfl rfl)
theorem dX1_searched_2 : decode cX1_searched 2 = .ok (.invokevirtual 183, 3) := dk_182 0 183 (dk_at dksX1_searched_0 2 rfl rfl)
theorem dX1_searched_5 : decode cX1_searched 5 = .ok (.astore 4, 2) := dk_58 4 (dk_at dksX1_searched_0 5 rfl rfl)
theorem dX1_searched_7 : decode cX1_searched 7 = .ok (.aload 4, 2) := dk_25 4 (dk_at dksX1_searched_0 7 rfl rfl)
theorem dX1_searched_9 : decode cX1_searched 9 = .ok (.iload_n 2, 1) := dk_28 (dk_at dksX1_searched_0 9 rfl rfl)
theorem dX1_searched_10 : decode cX1_searched 10 = .ok (.invokestatic 133, 3) := dk_184 0 133 (dk_at dksX1_searched_0 10 rfl rfl)
theorem dX1_searched_13 : decode cX1_searched 13 = .ok (.pop, 1) := dk_87 (dk_at dksX1_searched_0 13 rfl rfl)
theorem dX1_searched_14 : decode cX1_searched 14 = .ok (.iload_n 3, 1) := dk_29 (dk_at dksX1_searched_0 14 rfl rfl)
theorem dX1_searched_15 : decode cX1_searched 15 = .ok (.iconst 3, 1) := dk_6 (dk_at dksX1_searched_0 15 rfl rfl)
theorem dX1_searched_16 : decode cX1_searched 16 = .ok (.ldc_w 357, 3) := dk_19 1 101 (dk_at dksX1_searched_0 16 rfl rfl)
theorem dX1_searched_19 : decode cX1_searched 19 = .ok (.invokestatic 109, 3) := dk_184 0 109 (dk_at dksX1_searched_0 19 rfl rfl)
theorem dX1_searched_22 : decode cX1_searched 22 = .ok (.pop, 1) := dk_87 (dk_at dksX1_searched_0 22 rfl rfl)
theorem dX1_searched_23 : decode cX1_searched 23 = .ok (.aload 4, 2) := dk_25 4 (dk_at dksX1_searched_1 0 rfl rfl)
theorem dX1_searched_25 : decode cX1_searched 25 = .ok (.areturn, 1) := dk_176 (dk_at dksX1_searched_1 2 rfl rfl)
def fX1_searched (e : Nat → Nat) (N : Nat) (m : Mm) (v0 : Option Nat) (v1 : Int32) (v2 : Int32) (v3 : Int32) : Rs ((Option Nat) ⊕ Nat) := ck_ m v0 1 (bd_ (fX1_at e N m v0 v1) (xf_ (fun x1 m1 => bd_ (fX1_liveAt e N m1 x1 v2) (xf_ (fun x2 m2 => bd_ (fX1_place e N m2 v3 3 (some (e (100 + 30)))) (xf_ (fun x3 m3 => rt_ (.inl x1) m3)))))))
abbrev cX1_filter : ByteArray := prog_1_method_44_code
def yX1_filter : MethodName := ⟨RX1, "filter", "()LMasterTree$Filter;"⟩
def dkwX1_filter_1 : List UInt8 := [42, 180, 0, 66, 3, 185, 0, 113, 2, 0, 192, 1, 160, 176]
abbrev dktX1_filter_1 : List UInt8 := dkwX1_filter_1 ++ []
def dkwX1_filter_0 : List UInt8 := [42, 180, 0, 66, 185, 0, 137, 1, 0, 4, 160, 0, 7, 4, 167, 0, 4, 3, 19, 1, 175, 184, 0, 165]
abbrev dktX1_filter_0 : List UInt8 := dkwX1_filter_0 ++ dktX1_filter_1
theorem dksX1_filter_0 : cX1_filter.data.toList.drop 0 = dktX1_filter_0 := by decide +kernel
theorem dksX1_filter_1 : cX1_filter.data.toList.drop 24 = dktX1_filter_1 := dk_seg dksX1_filter_0 24 rfl rfl
theorem dX1_filter_0 : decode cX1_filter 0 = .ok (.aload_n 0, 1) := dk_42 (dk_at dksX1_filter_0 0 rfl rfl)
theorem dX1_filter_1 : decode cX1_filter 1 = .ok (.getfield 66, 3) := dk_180 0 66 (dk_at dksX1_filter_0 1 rfl rfl)
theorem dX1_filter_4 : decode cX1_filter 4 = .ok (.invokeinterface 137 1, 5) := by decide +kernel
theorem dX1_filter_9 : decode cX1_filter 9 = .ok (.iconst 1, 1) := dk_4 (dk_at dksX1_filter_0 9 rfl rfl)
theorem dX1_filter_10 : decode cX1_filter 10 = .ok (.if_icmp .ne 7, 3) := dk_160 0 7 (dk_at dksX1_filter_0 10 rfl rfl)
theorem dX1_filter_13 : decode cX1_filter 13 = .ok (.iconst 1, 1) := dk_4 (dk_at dksX1_filter_0 13 rfl rfl)
theorem dX1_filter_14 : decode cX1_filter 14 = .ok (.goto 4, 3) := dk_167 0 4 (dk_at dksX1_filter_0 14 rfl rfl)
theorem dX1_filter_17 : decode cX1_filter 17 = .ok (.iconst 0, 1) := dk_3 (dk_at dksX1_filter_0 17 rfl rfl)
theorem dX1_filter_18 : decode cX1_filter 18 = .ok (.ldc_w 431, 3) := dk_19 1 175 (dk_at dksX1_filter_0 18 rfl rfl)
theorem dX1_filter_21 : decode cX1_filter 21 = .ok (.invokestatic 165, 3) := dk_184 0 165 (dk_at dksX1_filter_0 21 rfl rfl)
theorem dX1_filter_24 : decode cX1_filter 24 = .ok (.aload_n 0, 1) := dk_42 (dk_at dksX1_filter_1 0 rfl rfl)
theorem dX1_filter_25 : decode cX1_filter 25 = .ok (.getfield 66, 3) := dk_180 0 66 (dk_at dksX1_filter_1 1 rfl rfl)
theorem dX1_filter_28 : decode cX1_filter 28 = .ok (.iconst 0, 1) := dk_3 (dk_at dksX1_filter_1 4 rfl rfl)
theorem dX1_filter_29 : decode cX1_filter 29 = .ok (.invokeinterface 113 2, 5) := by decide +kernel
theorem dX1_filter_34 : decode cX1_filter 34 = .ok (.checkcast 416, 3) := dk_192 1 160 (dk_at dksX1_filter_1 10 rfl rfl)
theorem dX1_filter_37 : decode cX1_filter 37 = .ok (.areturn, 1) := dk_176 (dk_at dksX1_filter_1 13 rfl rfl)
def fX1_filter_b18 (e : Nat → Nat) (N : Nat) (m : Mm) (v0 : Option Nat) (s0 : Int32) : Rs ((Option Nat) ⊕ Nat) := bd_ (fX1_must e N m s0 (some (e (100 + 36)))) (xf_ (fun _ m1 => gr_ m1 v0 1 4 (fun x1 => ck_ m1 x1 13 (bd_ (fJ2_get e N m1 x1 0) (fun x2 m2 => cc_ m2 x2 [8, 9, 10, 11] (rt_ (.inl x2) m2))))))
def fX1_filter (e : Nat → Nat) (N : Nat) (m : Mm) (v0 : Option Nat) : Rs ((Option Nat) ⊕ Nat) := gr_ m v0 1 4 (fun x1 => ck_ m x1 13 (bd_ (fJ2_size e N m x1) (fun x2 m1 => if x2 = 1 then (fX1_filter_b18 e N m1 v0 1) else (fX1_filter_b18 e N m1 v0 0))))
abbrev cJ42_hasNext : ByteArray := prog_57_method_2_code
def yJ42_hasNext : MethodName := ⟨RJ42, "hasNext", "()Z"⟩
def dkwJ42_hasNext_0 : List UInt8 := [42, 180, 0, 31, 185, 0, 35, 1, 0, 172]
abbrev dktJ42_hasNext_0 : List UInt8 := dkwJ42_hasNext_0 ++ []
theorem dksJ42_hasNext_0 : cJ42_hasNext.data.toList.drop 0 = dktJ42_hasNext_0 := by decide +kernel
theorem dJ42_hasNext_0 : decode cJ42_hasNext 0 = .ok (.aload_n 0, 1) := dk_42 (dk_at dksJ42_hasNext_0 0 rfl rfl)
theorem dJ42_hasNext_1 : decode cJ42_hasNext 1 = .ok (.getfield 31, 3) := dk_180 0 31 (dk_at dksJ42_hasNext_0 1 rfl rfl)
theorem dJ42_hasNext_4 : decode cJ42_hasNext 4 = .ok (.invokeinterface 35 1, 5) := by decide +kernel
theorem dJ42_hasNext_9 : decode cJ42_hasNext 9 = .ok (.ireturn, 1) := dk_172 (dk_at dksJ42_hasNext_0 9 rfl rfl)
def fJ42_hasNext (e : Nat → Nat) (N : Nat) (m : Mm) (v0 : Option Nat) : Rs (Int32) := gr_ m v0 26 0 (fun x1 => ck_ m x1 23 (bd_ (fJ26_hasNext_t23 e N m x1) (fun x2 m1 => rz_ x2 x2 m1)))
abbrev cJ42_next : ByteArray := prog_57_method_3_code
def yJ42_next : MethodName := ⟨RJ42, "next", "()Ljava/lang/Object;"⟩
def dkwJ42_next_0 : List UInt8 := [42, 180, 0, 31, 185, 0, 41, 1, 0, 192, 0, 45, 185, 0, 47, 1, 0, 176]
abbrev dktJ42_next_0 : List UInt8 := dkwJ42_next_0 ++ []
theorem dksJ42_next_0 : cJ42_next.data.toList.drop 0 = dktJ42_next_0 := by decide +kernel
theorem dJ42_next_0 : decode cJ42_next 0 = .ok (.aload_n 0, 1) := dk_42 (dk_at dksJ42_next_0 0 rfl rfl)
theorem dJ42_next_1 : decode cJ42_next 1 = .ok (.getfield 31, 3) := dk_180 0 31 (dk_at dksJ42_next_0 1 rfl rfl)
theorem dJ42_next_4 : decode cJ42_next 4 = .ok (.invokeinterface 41 1, 5) := by decide +kernel
theorem dJ42_next_9 : decode cJ42_next 9 = .ok (.checkcast 45, 3) := dk_192 0 45 (dk_at dksJ42_next_0 9 rfl rfl)
theorem dJ42_next_12 : decode cJ42_next 12 = .ok (.invokeinterface 47 1, 5) := by decide +kernel
theorem dJ42_next_17 : decode cJ42_next 17 = .ok (.areturn, 1) := dk_176 (dk_at dksJ42_next_0 17 rfl rfl)
def fJ42_next (e : Nat → Nat) (N : Nat) (m : Mm) (v0 : Option Nat) : Rs (Option Nat) := gr_ m v0 26 0 (fun x1 => ck_ m x1 23 (bd_ (fJ27_next e N m x1) (fun x2 m1 => cc_ m1 x2 [16] (ck_ m1 x2 16 (bd_ (fJ37_getValue e N m1 x2) (fun x3 m2 => rt_ x3 m2))))))
def fJ0_init_t25 (e : Nat → Nat) (N : Nat) (m : Mm) (v0 : Option Nat) : Rs (Unit) := ok_ v0 (rt_ () m)
abbrev cJ46_init : ByteArray := prog_56_method_1_code
def yJ46_init : MethodName := ⟨RJ46, "<init>", "(Ljava/util/AbstractMap;)V"⟩
def dkwJ46_init_0 : List UInt8 := [42, 43, 181, 0, 1, 42, 183, 0, 7, 177]
abbrev dktJ46_init_0 : List UInt8 := dkwJ46_init_0 ++ []
theorem dksJ46_init_0 : cJ46_init.data.toList.drop 0 = dktJ46_init_0 := by decide +kernel
theorem dJ46_init_0 : decode cJ46_init 0 = .ok (.aload_n 0, 1) := dk_42 (dk_at dksJ46_init_0 0 rfl rfl)
theorem dJ46_init_1 : decode cJ46_init 1 = .ok (.aload_n 1, 1) := dk_43 (dk_at dksJ46_init_0 1 rfl rfl)
theorem dJ46_init_2 : decode cJ46_init 2 = .ok (.putfield 1, 3) := dk_181 0 1 (dk_at dksJ46_init_0 2 rfl rfl)
theorem dJ46_init_5 : decode cJ46_init 5 = .ok (.aload_n 0, 1) := dk_42 (dk_at dksJ46_init_0 5 rfl rfl)
theorem dJ46_init_6 : decode cJ46_init 6 = .ok (.invokespecial 7, 3) := dk_183 0 7 (dk_at dksJ46_init_0 6 rfl rfl)
theorem dJ46_init_9 : decode cJ46_init 9 = .ok (.return_, 1) := dk_177 (dk_at dksJ46_init_0 9 rfl rfl)
def fJ46_init (e : Nat → Nat) (N : Nat) (m : Mm) (v0 : Option Nat) (v1 : Option Nat) : Rs (Unit) := pr_ m v0 25 0 v1 (fun m1 => ok_ v0 (bd_ (fJ0_init_t25 e N m1 v0) (fun _ m2 => rt_ () m2)))
abbrev cJ3_values : ByteArray := prog_55_method_12_code
def yJ3_values : MethodName := ⟨RJ3, "values", "()Ljava/util/Collection;"⟩
def dkwJ3_values_1 : List UInt8 := [176]
abbrev dktJ3_values_1 : List UInt8 := dkwJ3_values_1 ++ []
def dkwJ3_values_0 : List UInt8 := [42, 180, 0, 71, 76, 43, 199, 0, 17, 187, 0, 75, 89, 42, 183, 0, 77, 76, 42, 43, 181, 0, 71, 43]
abbrev dktJ3_values_0 : List UInt8 := dkwJ3_values_0 ++ dktJ3_values_1
theorem dksJ3_values_0 : cJ3_values.data.toList.drop 0 = dktJ3_values_0 := by decide +kernel
theorem dksJ3_values_1 : cJ3_values.data.toList.drop 24 = dktJ3_values_1 := dk_seg dksJ3_values_0 24 rfl rfl
theorem dJ3_values_0 : decode cJ3_values 0 = .ok (.aload_n 0, 1) := dk_42 (dk_at dksJ3_values_0 0 rfl rfl)
theorem dJ3_values_1 : decode cJ3_values 1 = .ok (.getfield 71, 3) := dk_180 0 71 (dk_at dksJ3_values_0 1 rfl rfl)
theorem dJ3_values_4 : decode cJ3_values 4 = .ok (.astore_n 1, 1) := dk_76 (dk_at dksJ3_values_0 4 rfl rfl)
theorem dJ3_values_5 : decode cJ3_values 5 = .ok (.aload_n 1, 1) := dk_43 (dk_at dksJ3_values_0 5 rfl rfl)
theorem dJ3_values_6 : decode cJ3_values 6 = .ok (.ifnonnull 17, 3) := dk_199 0 17 (dk_at dksJ3_values_0 6 rfl rfl)
theorem dJ3_values_9 : decode cJ3_values 9 = .ok (.new 75, 3) := dk_187 0 75 (dk_at dksJ3_values_0 9 rfl rfl)
theorem dJ3_values_12 : decode cJ3_values 12 = .ok (.dup, 1) := dk_89 (dk_at dksJ3_values_0 12 rfl rfl)
theorem dJ3_values_13 : decode cJ3_values 13 = .ok (.aload_n 0, 1) := dk_42 (dk_at dksJ3_values_0 13 rfl rfl)
theorem dJ3_values_14 : decode cJ3_values 14 = .ok (.invokespecial 77, 3) := dk_183 0 77 (dk_at dksJ3_values_0 14 rfl rfl)
theorem dJ3_values_17 : decode cJ3_values 17 = .ok (.astore_n 1, 1) := dk_76 (dk_at dksJ3_values_0 17 rfl rfl)
theorem dJ3_values_18 : decode cJ3_values 18 = .ok (.aload_n 0, 1) := dk_42 (dk_at dksJ3_values_0 18 rfl rfl)
theorem dJ3_values_19 : decode cJ3_values 19 = .ok (.aload_n 1, 1) := dk_43 (dk_at dksJ3_values_0 19 rfl rfl)
theorem dJ3_values_20 : decode cJ3_values 20 = .ok (.putfield 71, 3) := dk_181 0 71 (dk_at dksJ3_values_0 20 rfl rfl)
theorem dJ3_values_23 : decode cJ3_values 23 = .ok (.aload_n 1, 1) := dk_43 (dk_at dksJ3_values_0 23 rfl rfl)
theorem dJ3_values_24 : decode cJ3_values 24 = .ok (.areturn, 1) := dk_176 (dk_at dksJ3_values_1 0 rfl rfl)
def fJ3_values_t21_b23 (e : Nat → Nat) (N : Nat) (m : Mm) (v1 : Option Nat) : Rs (Option Nat) := rt_ v1 m
def fJ3_values_t21 (e : Nat → Nat) (N : Nat) (m : Mm) (v0 : Option Nat) : Rs (Option Nat) := gr_ m v0 21 11 (fun x1 => if x1 = none then (nw_ m 25 1 (fun x2 m1 => bd_ (fJ46_init e N m1 (some x2) v0) (fun _ m2 => pr_ m2 v0 21 11 (some x2) (fun m3 => fJ3_values_t21_b23 e N m3 (some x2))))) else (fJ3_values_t21_b23 e N m x1))
abbrev cJ42_init : ByteArray := prog_57_method_1_code
def yJ42_init : MethodName := ⟨RJ42, "<init>", "(Ljava/util/AbstractMap$2;)V"⟩
def dkwJ42_init_1 : List UInt8 := [185, 0, 25, 1, 0, 181, 0, 31, 177]
abbrev dktJ42_init_1 : List UInt8 := dkwJ42_init_1 ++ []
def dkwJ42_init_0 : List UInt8 := [42, 43, 181, 0, 1, 42, 183, 0, 7, 42, 42, 180, 0, 1, 180, 0, 13, 182, 0, 19]
abbrev dktJ42_init_0 : List UInt8 := dkwJ42_init_0 ++ dktJ42_init_1
theorem dksJ42_init_0 : cJ42_init.data.toList.drop 0 = dktJ42_init_0 := by decide +kernel
theorem dksJ42_init_1 : cJ42_init.data.toList.drop 20 = dktJ42_init_1 := dk_seg dksJ42_init_0 20 rfl rfl
theorem dJ42_init_0 : decode cJ42_init 0 = .ok (.aload_n 0, 1) := dk_42 (dk_at dksJ42_init_0 0 rfl rfl)
theorem dJ42_init_1 : decode cJ42_init 1 = .ok (.aload_n 1, 1) := dk_43 (dk_at dksJ42_init_0 1 rfl rfl)
theorem dJ42_init_2 : decode cJ42_init 2 = .ok (.putfield 1, 3) := dk_181 0 1 (dk_at dksJ42_init_0 2 rfl rfl)
theorem dJ42_init_5 : decode cJ42_init 5 = .ok (.aload_n 0, 1) := dk_42 (dk_at dksJ42_init_0 5 rfl rfl)
theorem dJ42_init_6 : decode cJ42_init 6 = .ok (.invokespecial 7, 3) := dk_183 0 7 (dk_at dksJ42_init_0 6 rfl rfl)
theorem dJ42_init_9 : decode cJ42_init 9 = .ok (.aload_n 0, 1) := dk_42 (dk_at dksJ42_init_0 9 rfl rfl)
theorem dJ42_init_10 : decode cJ42_init 10 = .ok (.aload_n 0, 1) := dk_42 (dk_at dksJ42_init_0 10 rfl rfl)
theorem dJ42_init_11 : decode cJ42_init 11 = .ok (.getfield 1, 3) := dk_180 0 1 (dk_at dksJ42_init_0 11 rfl rfl)
theorem dJ42_init_14 : decode cJ42_init 14 = .ok (.getfield 13, 3) := dk_180 0 13 (dk_at dksJ42_init_0 14 rfl rfl)
theorem dJ42_init_17 : decode cJ42_init 17 = .ok (.invokevirtual 19, 3) := dk_182 0 19 (dk_at dksJ42_init_0 17 rfl rfl)
theorem dJ42_init_20 : decode cJ42_init 20 = .ok (.invokeinterface 25 1, 5) := by decide +kernel
theorem dJ42_init_25 : decode cJ42_init 25 = .ok (.putfield 31, 3) := dk_181 0 31 (dk_at dksJ42_init_1 5 rfl rfl)
theorem dJ42_init_28 : decode cJ42_init 28 = .ok (.return_, 1) := dk_177 (dk_at dksJ42_init_1 8 rfl rfl)
def fJ42_init (e : Nat → Nat) (N : Nat) (m : Mm) (v0 : Option Nat) (v1 : Option Nat) : Rs (Unit) := pr_ m v0 26 1 v1 (fun m1 => ok_ v0 (gr_ m1 v0 26 1 (fun x1 => gr_ m1 x1 25 0 (fun x2 => ck_ m1 x2 21 (bd_ (fJ39_entrySet e N m1 x2) (fun x3 m2 => ck_ m2 x3 22 (bd_ (fJ41_iterator e N m2 x3) (fun x4 m3 => pr_ m3 v0 26 0 x4 (fun m4 => rt_ () m4)))))))))
abbrev cJ46_iterator : ByteArray := prog_56_method_2_code
def yJ46_iterator : MethodName := ⟨RJ46, "iterator", "()Ljava/util/Iterator;"⟩
def dkwJ46_iterator_0 : List UInt8 := [187, 0, 13, 89, 42, 183, 0, 15, 176]
abbrev dktJ46_iterator_0 : List UInt8 := dkwJ46_iterator_0 ++ []
theorem dksJ46_iterator_0 : cJ46_iterator.data.toList.drop 0 = dktJ46_iterator_0 := by decide +kernel
theorem dJ46_iterator_0 : decode cJ46_iterator 0 = .ok (.new 13, 3) := dk_187 0 13 (dk_at dksJ46_iterator_0 0 rfl rfl)
theorem dJ46_iterator_3 : decode cJ46_iterator 3 = .ok (.dup, 1) := dk_89 (dk_at dksJ46_iterator_0 3 rfl rfl)
theorem dJ46_iterator_4 : decode cJ46_iterator 4 = .ok (.aload_n 0, 1) := dk_42 (dk_at dksJ46_iterator_0 4 rfl rfl)
theorem dJ46_iterator_5 : decode cJ46_iterator 5 = .ok (.invokespecial 15, 3) := dk_183 0 15 (dk_at dksJ46_iterator_0 5 rfl rfl)
theorem dJ46_iterator_8 : decode cJ46_iterator 8 = .ok (.areturn, 1) := dk_176 (dk_at dksJ46_iterator_0 8 rfl rfl)
def fJ46_iterator (e : Nat → Nat) (N : Nat) (m : Mm) (v0 : Option Nat) : Rs (Option Nat) := nw_ m 26 2 (fun x1 m1 => bd_ (fJ42_init e N m1 (some x1) v0) (fun _ m2 => rt_ (some x1) m2))
abbrev cX9_among : ByteArray := prog_4_method_2_code
def yX9_among : MethodName := ⟨RX9, "among", "(LMasterTree$Master;)J"⟩
def dkwX9_among_4 : List UInt8 := [22, 6, 129, 66, 167, 255, 226, 33, 173]
abbrev dktX9_among_4 : List UInt8 := dkwX9_among_4 ++ []
def dkwX9_among_3 : List UInt8 := [185, 0, 52, 1, 0, 153, 0, 26, 25, 5, 185, 0, 58, 1, 0, 192, 0, 62, 182, 0, 64, 55, 6, 33]
abbrev dktX9_among_3 : List UInt8 := dkwX9_among_3 ++ dktX9_among_4
def dkwX9_among_2 : List UInt8 := [184, 0, 28, 182, 0, 34, 185, 0, 40, 1, 0, 185, 0, 46, 1, 0, 58, 5, 25, 5]
abbrev dktX9_among_2 : List UInt8 := dkwX9_among_2 ++ dktX9_among_3
def dkwX9_among_1 : List UInt8 := [42, 180, 0, 18, 153, 0, 16, 17, 3, 232, 42, 180, 0, 9, 4, 96, 104, 167, 0, 6, 28, 4, 96]
abbrev dktX9_among_1 : List UInt8 := dkwX9_among_1 ++ dktX9_among_2
def dkwX9_among_0 : List UInt8 := [17, 3, 232, 42, 180, 0, 9, 104, 42, 180, 0, 15, 96, 61, 9, 66, 43, 180, 0, 22, 28, 184, 0, 28]
abbrev dktX9_among_0 : List UInt8 := dkwX9_among_0 ++ dktX9_among_1
theorem dksX9_among_0 : cX9_among.data.toList.drop 0 = dktX9_among_0 := by decide +kernel
theorem dksX9_among_1 : cX9_among.data.toList.drop 24 = dktX9_among_1 := dk_seg dksX9_among_0 24 rfl rfl
theorem dksX9_among_2 : cX9_among.data.toList.drop 47 = dktX9_among_2 := dk_seg dksX9_among_1 23 rfl rfl
theorem dksX9_among_3 : cX9_among.data.toList.drop 67 = dktX9_among_3 := dk_seg dksX9_among_2 20 rfl rfl
theorem dksX9_among_4 : cX9_among.data.toList.drop 91 = dktX9_among_4 := dk_seg dksX9_among_3 24 rfl rfl
theorem dX9_among_0 : decode cX9_among 0 = .ok (.sipush 1000, 3) := dk_17 3 232 (dk_at dksX9_among_0 0 rfl rfl)
theorem dX9_among_3 : decode cX9_among 3 = .ok (.aload_n 0, 1) := dk_42 (dk_at dksX9_among_0 3 rfl rfl)
theorem dX9_among_4 : decode cX9_among 4 = .ok (.getfield 9, 3) := dk_180 0 9 (dk_at dksX9_among_0 4 rfl rfl)
theorem dX9_among_7 : decode cX9_among 7 = .ok (.imul, 1) := dk_104 (dk_at dksX9_among_0 7 rfl rfl)
theorem dX9_among_8 : decode cX9_among 8 = .ok (.aload_n 0, 1) := dk_42 (dk_at dksX9_among_0 8 rfl rfl)
theorem dX9_among_9 : decode cX9_among 9 = .ok (.getfield 15, 3) := dk_180 0 15 (dk_at dksX9_among_0 9 rfl rfl)
theorem dX9_among_12 : decode cX9_among 12 = .ok (.iadd, 1) := dk_96 (dk_at dksX9_among_0 12 rfl rfl)
theorem dX9_among_13 : decode cX9_among 13 = .ok (.istore_n 2, 1) := dk_61 (dk_at dksX9_among_0 13 rfl rfl)
theorem dX9_among_14 : decode cX9_among 14 = .ok (.lconst 0, 1) := dk_9 (dk_at dksX9_among_0 14 rfl rfl)
theorem dX9_among_15 : decode cX9_among 15 = .ok (.lstore_n 3, 1) := dk_66 (dk_at dksX9_among_0 15 rfl rfl)
theorem dX9_among_16 : decode cX9_among 16 = .ok (.aload_n 1, 1) := dk_43 (dk_at dksX9_among_0 16 rfl rfl)
theorem dX9_among_17 : decode cX9_among 17 = .ok (.getfield 22, 3) := dk_180 0 22 (dk_at dksX9_among_0 17 rfl rfl)
theorem dX9_among_20 : decode cX9_among 20 = .ok (.iload_n 2, 1) := dk_28 (dk_at dksX9_among_0 20 rfl rfl)
theorem dX9_among_21 : decode cX9_among 21 = .ok (.invokestatic 28, 3) := dk_184 0 28 (dk_at dksX9_among_0 21 rfl rfl)
theorem dX9_among_24 : decode cX9_among 24 = .ok (.aload_n 0, 1) := dk_42 (dk_at dksX9_among_1 0 rfl rfl)
theorem dX9_among_25 : decode cX9_among 25 = .ok (.getfield 18, 3) := dk_180 0 18 (dk_at dksX9_among_1 1 rfl rfl)
theorem dX9_among_28 : decode cX9_among 28 = .ok (.ifCond .eq 16, 3) := dk_153 0 16 (dk_at dksX9_among_1 4 rfl rfl)
theorem dX9_among_31 : decode cX9_among 31 = .ok (.sipush 1000, 3) := dk_17 3 232 (dk_at dksX9_among_1 7 rfl rfl)
theorem dX9_among_34 : decode cX9_among 34 = .ok (.aload_n 0, 1) := dk_42 (dk_at dksX9_among_1 10 rfl rfl)
theorem dX9_among_35 : decode cX9_among 35 = .ok (.getfield 9, 3) := dk_180 0 9 (dk_at dksX9_among_1 11 rfl rfl)
theorem dX9_among_38 : decode cX9_among 38 = .ok (.iconst 1, 1) := dk_4 (dk_at dksX9_among_1 14 rfl rfl)
theorem dX9_among_39 : decode cX9_among 39 = .ok (.iadd, 1) := dk_96 (dk_at dksX9_among_1 15 rfl rfl)
theorem dX9_among_40 : decode cX9_among 40 = .ok (.imul, 1) := dk_104 (dk_at dksX9_among_1 16 rfl rfl)
theorem dX9_among_41 : decode cX9_among 41 = .ok (.goto 6, 3) := dk_167 0 6 (dk_at dksX9_among_1 17 rfl rfl)
theorem dX9_among_44 : decode cX9_among 44 = .ok (.iload_n 2, 1) := dk_28 (dk_at dksX9_among_1 20 rfl rfl)
theorem dX9_among_45 : decode cX9_among 45 = .ok (.iconst 1, 1) := dk_4 (dk_at dksX9_among_1 21 rfl rfl)
theorem dX9_among_46 : decode cX9_among 46 = .ok (.iadd, 1) := dk_96 (dk_at dksX9_among_1 22 rfl rfl)
theorem dX9_among_47 : decode cX9_among 47 = .ok (.invokestatic 28, 3) := dk_184 0 28 (dk_at dksX9_among_2 0 rfl rfl)
theorem dX9_among_50 : decode cX9_among 50 = .ok (.invokevirtual 34, 3) := dk_182 0 34 (dk_at dksX9_among_2 3 rfl rfl)
theorem dX9_among_53 : decode cX9_among 53 = .ok (.invokeinterface 40 1, 5) := by decide +kernel
theorem dX9_among_58 : decode cX9_among 58 = .ok (.invokeinterface 46 1, 5) := by decide +kernel
theorem dX9_among_63 : decode cX9_among 63 = .ok (.astore 5, 2) := dk_58 5 (dk_at dksX9_among_2 16 rfl rfl)
theorem dX9_among_65 : decode cX9_among 65 = .ok (.aload 5, 2) := dk_25 5 (dk_at dksX9_among_2 18 rfl rfl)
theorem dX9_among_67 : decode cX9_among 67 = .ok (.invokeinterface 52 1, 5) := by decide +kernel
theorem dX9_among_72 : decode cX9_among 72 = .ok (.ifCond .eq 26, 3) := dk_153 0 26 (dk_at dksX9_among_3 5 rfl rfl)
theorem dX9_among_75 : decode cX9_among 75 = .ok (.aload 5, 2) := dk_25 5 (dk_at dksX9_among_3 8 rfl rfl)
theorem dX9_among_77 : decode cX9_among 77 = .ok (.invokeinterface 58 1, 5) := by decide +kernel
theorem dX9_among_82 : decode cX9_among 82 = .ok (.checkcast 62, 3) := dk_192 0 62 (dk_at dksX9_among_3 15 rfl rfl)
theorem dX9_among_85 : decode cX9_among 85 = .ok (.invokevirtual 64, 3) := dk_182 0 64 (dk_at dksX9_among_3 18 rfl rfl)
theorem dX9_among_88 : decode cX9_among 88 = .ok (.lstore 6, 2) := dk_55 6 (dk_at dksX9_among_3 21 rfl rfl)
theorem dX9_among_90 : decode cX9_among 90 = .ok (.lload_n 3, 1) := dk_33 (dk_at dksX9_among_3 23 rfl rfl)
theorem dX9_among_91 : decode cX9_among 91 = .ok (.lload 6, 2) := dk_22 6 (dk_at dksX9_among_4 0 rfl rfl)
theorem dX9_among_93 : decode cX9_among 93 = .ok (.lor, 1) := dk_129 (dk_at dksX9_among_4 2 rfl rfl)
theorem dX9_among_94 : decode cX9_among 94 = .ok (.lstore_n 3, 1) := dk_66 (dk_at dksX9_among_4 3 rfl rfl)
theorem dX9_among_95 : decode cX9_among 95 = .ok (.goto (-30), 3) := dk_167 255 226 (dk_at dksX9_among_4 4 rfl rfl)
theorem dX9_among_98 : decode cX9_among 98 = .ok (.lload_n 3, 1) := dk_33 (dk_at dksX9_among_4 7 rfl rfl)
theorem dX9_among_99 : decode cX9_among 99 = .ok (.lreturn, 1) := dk_173 (dk_at dksX9_among_4 8 rfl rfl)
def fX9_among_b65 (e : Nat → Nat) (N : Nat) : Nat → Mm → Int64 → Option Nat → Rs (Int64)
  | 0, _, _, _ => none
  | F + 1, m, v3, v5 => ck_ m v5 26 (bd_ (fJ42_hasNext e N m v5) (fun x1 m1 => if x1 = 0 then (rt_ v3 m1) else (ck_ m1 v5 26 (bd_ (fJ42_next e N m1 v5) (fun x2 m2 => cc_ m2 x2 [28] (ck_ m2 x2 28 (bd_ (fJ28_longValue e N m2 x2) (fun x3 m3 => fX9_among_b65 e N F m3 (v3 ||| x3) v5))))))))
def fX9_among_b47 (e : Nat → Nat) (N : Nat) (m : Mm) (v3 : Int64) (s0 : Option Nat) (s1 : Option Nat) (s2 : Int32) : Rs (Int64) := bd_ (fJ21_valueOf e N m s2) (fun x1 m1 => ck_ m1 s0 15 (bd_ (fJ4_subMap e N m1 s0 s1 x1) (fun x2 m2 => ck_ m2 x2 21 (bd_ (fJ3_values_t21 e N m2 x2) (fun x3 m3 => ck_ m3 x3 25 (bd_ (fJ46_iterator e N m3 x3) (fun x4 m4 => fX9_among_b65 e N N m4 v3 x4)))))))
def fX9_among (e : Nat → Nat) (N : Nat) (m : Mm) (v0 : Option Nat) (v1 : Option Nat) : Rs (Int64) := gi_ m v0 8 0 (fun x1 => gi_ m v0 8 1 (fun x2 => gr_ m v1 2 10 (fun x3 => bd_ (fJ21_valueOf e N m ((1000 * x1) + x2)) (fun x4 m1 => gi_ m1 v0 8 2 (fun x5 => if x5 = 0 then (fX9_among_b47 e N m1 0 x3 x4 (((1000 * x1) + x2) + 1)) else (gi_ m1 v0 8 0 (fun x6 => fX9_among_b47 e N m1 0 x3 x4 (1000 * (x6 + 1)))))))))
abbrev cX6_isBeneath : ByteArray := prog_20_method_2_code
def yX6_isBeneath : MethodName := ⟨RX6, "isBeneath", "(LMasterTree$Klass;)Z"⟩
def dkwX6_isBeneath_1 : List UInt8 := [167, 0, 4, 3, 172]
abbrev dktX6_isBeneath_1 : List UInt8 := dkwX6_isBeneath_1 ++ []
def dkwX6_isBeneath_0 : List UInt8 := [42, 77, 44, 198, 0, 16, 44, 43, 165, 0, 11, 44, 180, 0, 7, 77, 167, 255, 242, 44, 198, 0, 7, 4]
abbrev dktX6_isBeneath_0 : List UInt8 := dkwX6_isBeneath_0 ++ dktX6_isBeneath_1
theorem dksX6_isBeneath_0 : cX6_isBeneath.data.toList.drop 0 = dktX6_isBeneath_0 := by decide +kernel
theorem dksX6_isBeneath_1 : cX6_isBeneath.data.toList.drop 24 = dktX6_isBeneath_1 := dk_seg dksX6_isBeneath_0 24 rfl rfl
theorem dX6_isBeneath_0 : decode cX6_isBeneath 0 = .ok (.aload_n 0, 1) := dk_42 (dk_at dksX6_isBeneath_0 0 rfl rfl)
theorem dX6_isBeneath_1 : decode cX6_isBeneath 1 = .ok (.astore_n 2, 1) := dk_77 (dk_at dksX6_isBeneath_0 1 rfl rfl)
theorem dX6_isBeneath_2 : decode cX6_isBeneath 2 = .ok (.aload_n 2, 1) := dk_44 (dk_at dksX6_isBeneath_0 2 rfl rfl)
theorem dX6_isBeneath_3 : decode cX6_isBeneath 3 = .ok (.ifnull 16, 3) := dk_198 0 16 (dk_at dksX6_isBeneath_0 3 rfl rfl)
theorem dX6_isBeneath_6 : decode cX6_isBeneath 6 = .ok (.aload_n 2, 1) := dk_44 (dk_at dksX6_isBeneath_0 6 rfl rfl)
theorem dX6_isBeneath_7 : decode cX6_isBeneath 7 = .ok (.aload_n 1, 1) := dk_43 (dk_at dksX6_isBeneath_0 7 rfl rfl)
theorem dX6_isBeneath_8 : decode cX6_isBeneath 8 = .ok (.if_acmp .eq 11, 3) := dk_165 0 11 (dk_at dksX6_isBeneath_0 8 rfl rfl)
theorem dX6_isBeneath_11 : decode cX6_isBeneath 11 = .ok (.aload_n 2, 1) := dk_44 (dk_at dksX6_isBeneath_0 11 rfl rfl)
theorem dX6_isBeneath_12 : decode cX6_isBeneath 12 = .ok (.getfield 7, 3) := dk_180 0 7 (dk_at dksX6_isBeneath_0 12 rfl rfl)
theorem dX6_isBeneath_15 : decode cX6_isBeneath 15 = .ok (.astore_n 2, 1) := dk_77 (dk_at dksX6_isBeneath_0 15 rfl rfl)
theorem dX6_isBeneath_16 : decode cX6_isBeneath 16 = .ok (.goto (-14), 3) := dk_167 255 242 (dk_at dksX6_isBeneath_0 16 rfl rfl)
theorem dX6_isBeneath_19 : decode cX6_isBeneath 19 = .ok (.aload_n 2, 1) := dk_44 (dk_at dksX6_isBeneath_0 19 rfl rfl)
theorem dX6_isBeneath_20 : decode cX6_isBeneath 20 = .ok (.ifnull 7, 3) := dk_198 0 7 (dk_at dksX6_isBeneath_0 20 rfl rfl)
theorem dX6_isBeneath_23 : decode cX6_isBeneath 23 = .ok (.iconst 1, 1) := dk_4 (dk_at dksX6_isBeneath_0 23 rfl rfl)
theorem dX6_isBeneath_24 : decode cX6_isBeneath 24 = .ok (.goto 4, 3) := dk_167 0 4 (dk_at dksX6_isBeneath_1 0 rfl rfl)
theorem dX6_isBeneath_27 : decode cX6_isBeneath 27 = .ok (.iconst 0, 1) := dk_3 (dk_at dksX6_isBeneath_1 3 rfl rfl)
theorem dX6_isBeneath_28 : decode cX6_isBeneath 28 = .ok (.ireturn, 1) := dk_172 (dk_at dksX6_isBeneath_1 4 rfl rfl)
def fX6_isBeneath_b28 (e : Nat → Nat) (N : Nat) (m : Mm) (s0 : Int32) : Rs (Int32) := rz_ s0 s0 m
def fX6_isBeneath_b19 (e : Nat → Nat) (N : Nat) (m : Mm) (v2 : Option Nat) : Rs (Int32) := if v2 = none then (fX6_isBeneath_b28 e N m 0) else (fX6_isBeneath_b28 e N m 1)
def fX6_isBeneath_b2 (e : Nat → Nat) (N : Nat) : Nat → Mm → Option Nat → Option Nat → Rs (Int32)
  | 0, _, _, _ => none
  | F + 1, m, v1, v2 => if v2 = none then (fX6_isBeneath_b19 e N m v2) else (if v2 = v1 then (fX6_isBeneath_b19 e N m v2) else (gr_ m v2 6 0 (fun x1 => fX6_isBeneath_b2 e N F m v1 x1)))
def fX6_isBeneath (e : Nat → Nat) (N : Nat) (m : Mm) (v0 : Option Nat) (v1 : Option Nat) : Rs (Int32) := fX6_isBeneath_b2 e N N m v1 v0
abbrev cX10_among : ByteArray := prog_3_method_2_code
def yX10_among : MethodName := ⟨RX10, "among", "(LMasterTree$Master;)J"⟩
def dkwX10_among_2 : List UInt8 := [21, 4, 47, 167, 0, 4, 9, 129, 65, 132, 4, 1, 167, 255, 201, 32, 173]
abbrev dktX10_among_2 : List UInt8 := dkwX10_among_2 ++ []
def dkwX10_among_1 : List UInt8 := [21, 4, 185, 0, 25, 2, 0, 192, 0, 29, 42, 180, 0, 7, 182, 0, 31, 153, 0, 13, 43, 180, 0, 35]
abbrev dktX10_among_1 : List UInt8 := dkwX10_among_1 ++ dktX10_among_2
def dkwX10_among_0 : List UInt8 := [9, 65, 3, 54, 4, 21, 4, 43, 180, 0, 13, 185, 0, 19, 1, 0, 162, 0, 47, 32, 43, 180, 0, 13]
abbrev dktX10_among_0 : List UInt8 := dkwX10_among_0 ++ dktX10_among_1
theorem dksX10_among_0 : cX10_among.data.toList.drop 0 = dktX10_among_0 := by decide +kernel
theorem dksX10_among_1 : cX10_among.data.toList.drop 24 = dktX10_among_1 := dk_seg dksX10_among_0 24 rfl rfl
theorem dksX10_among_2 : cX10_among.data.toList.drop 48 = dktX10_among_2 := dk_seg dksX10_among_1 24 rfl rfl
theorem dX10_among_0 : decode cX10_among 0 = .ok (.lconst 0, 1) := dk_9 (dk_at dksX10_among_0 0 rfl rfl)
theorem dX10_among_1 : decode cX10_among 1 = .ok (.lstore_n 2, 1) := dk_65 (dk_at dksX10_among_0 1 rfl rfl)
theorem dX10_among_2 : decode cX10_among 2 = .ok (.iconst 0, 1) := dk_3 (dk_at dksX10_among_0 2 rfl rfl)
theorem dX10_among_3 : decode cX10_among 3 = .ok (.istore 4, 2) := dk_54 4 (dk_at dksX10_among_0 3 rfl rfl)
theorem dX10_among_5 : decode cX10_among 5 = .ok (.iload 4, 2) := dk_21 4 (dk_at dksX10_among_0 5 rfl rfl)
theorem dX10_among_7 : decode cX10_among 7 = .ok (.aload_n 1, 1) := dk_43 (dk_at dksX10_among_0 7 rfl rfl)
theorem dX10_among_8 : decode cX10_among 8 = .ok (.getfield 13, 3) := dk_180 0 13 (dk_at dksX10_among_0 8 rfl rfl)
theorem dX10_among_11 : decode cX10_among 11 = .ok (.invokeinterface 19 1, 5) := by decide +kernel
theorem dX10_among_16 : decode cX10_among 16 = .ok (.if_icmp .ge 47, 3) := dk_162 0 47 (dk_at dksX10_among_0 16 rfl rfl)
theorem dX10_among_19 : decode cX10_among 19 = .ok (.lload_n 2, 1) := dk_32 (dk_at dksX10_among_0 19 rfl rfl)
theorem dX10_among_20 : decode cX10_among 20 = .ok (.aload_n 1, 1) := dk_43 (dk_at dksX10_among_0 20 rfl rfl)
theorem dX10_among_21 : decode cX10_among 21 = .ok (.getfield 13, 3) := dk_180 0 13 (dk_at dksX10_among_0 21 rfl rfl)
theorem dX10_among_24 : decode cX10_among 24 = .ok (.iload 4, 2) := dk_21 4 (dk_at dksX10_among_1 0 rfl rfl)
theorem dX10_among_26 : decode cX10_among 26 = .ok (.invokeinterface 25 2, 5) := by decide +kernel
theorem dX10_among_31 : decode cX10_among 31 = .ok (.checkcast 29, 3) := dk_192 0 29 (dk_at dksX10_among_1 7 rfl rfl)
theorem dX10_among_34 : decode cX10_among 34 = .ok (.aload_n 0, 1) := dk_42 (dk_at dksX10_among_1 10 rfl rfl)
theorem dX10_among_35 : decode cX10_among 35 = .ok (.getfield 7, 3) := dk_180 0 7 (dk_at dksX10_among_1 11 rfl rfl)
theorem dX10_among_38 : decode cX10_among 38 = .ok (.invokevirtual 31, 3) := dk_182 0 31 (dk_at dksX10_among_1 14 rfl rfl)
theorem dX10_among_41 : decode cX10_among 41 = .ok (.ifCond .eq 13, 3) := dk_153 0 13 (dk_at dksX10_among_1 17 rfl rfl)
theorem dX10_among_44 : decode cX10_among 44 = .ok (.aload_n 1, 1) := dk_43 (dk_at dksX10_among_1 20 rfl rfl)
theorem dX10_among_45 : decode cX10_among 45 = .ok (.getfield 35, 3) := dk_180 0 35 (dk_at dksX10_among_1 21 rfl rfl)
theorem dX10_among_48 : decode cX10_among 48 = .ok (.iload 4, 2) := dk_21 4 (dk_at dksX10_among_2 0 rfl rfl)
theorem dX10_among_50 : decode cX10_among 50 = .ok (.laload, 1) := dk_47 (dk_at dksX10_among_2 2 rfl rfl)
theorem dX10_among_51 : decode cX10_among 51 = .ok (.goto 4, 3) := dk_167 0 4 (dk_at dksX10_among_2 3 rfl rfl)
theorem dX10_among_54 : decode cX10_among 54 = .ok (.lconst 0, 1) := dk_9 (dk_at dksX10_among_2 6 rfl rfl)
theorem dX10_among_55 : decode cX10_among 55 = .ok (.lor, 1) := dk_129 (dk_at dksX10_among_2 7 rfl rfl)
theorem dX10_among_56 : decode cX10_among 56 = .ok (.lstore_n 2, 1) := dk_65 (dk_at dksX10_among_2 8 rfl rfl)
theorem dX10_among_57 : decode cX10_among 57 = .ok (.iinc 4 1, 3) := dk_132 4 1 (dk_at dksX10_among_2 9 rfl rfl)
theorem dX10_among_60 : decode cX10_among 60 = .ok (.goto (-55), 3) := dk_167 255 201 (dk_at dksX10_among_2 12 rfl rfl)
theorem dX10_among_63 : decode cX10_among 63 = .ok (.lload_n 2, 1) := dk_32 (dk_at dksX10_among_2 15 rfl rfl)
theorem dX10_among_64 : decode cX10_among 64 = .ok (.lreturn, 1) := dk_173 (dk_at dksX10_among_2 16 rfl rfl)
def fX10_among_b55 (e : Nat → Nat) (N : Nat) (k5 : Mm → Option Nat → Option Nat → Int64 → Int32 → Rs (Int64)) (m : Mm) (v0 : Option Nat) (v1 : Option Nat) (v4 : Int32) (s0 : Int64) (s1 : Int64) : Rs (Int64) := k5 m v0 v1 (s0 ||| s1) (v4 + 1)
def fX10_among_b5 (e : Nat → Nat) (N : Nat) : Nat → Mm → Option Nat → Option Nat → Int64 → Int32 → Rs (Int64)
  | 0, _, _, _, _, _ => none
  | F + 1, m, v0, v1, v2, v4 => gr_ m v1 2 2 (fun x1 => ck_ m x1 13 (bd_ (fJ2_size e N m x1) (fun x2 m1 => if v4 < x2 then (gr_ m1 v1 2 2 (fun x3 => ck_ m1 x3 13 (bd_ (fJ2_get e N m1 x3 v4) (fun x4 m2 => cc_ m2 x4 [6] (gr_ m2 v0 9 0 (fun x5 => ck_ m2 x4 6 (bd_ (fX6_isBeneath e N m2 x4 x5) (fun x6 m3 => if x6 = 0 then (fX10_among_b55 e N (fX10_among_b5 e N F) m3 v0 v1 v4 v2 0) else (gr_ m3 v1 2 11 (fun x7 => aj_ m3 x7 203 v4 (fun x8 => fX10_among_b55 e N (fX10_among_b5 e N F) m3 v0 v1 v4 v2 x8))))))))))) else (rt_ v2 m1))))
def fX10_among (e : Nat → Nat) (N : Nat) (m : Mm) (v0 : Option Nat) (v1 : Option Nat) : Rs (Int64) := fX10_among_b5 e N N m v0 v1 0 0
abbrev cX11_among : ByteArray := prog_6_method_2_code
def yX11_among : MethodName := ⟨RX11, "among", "(LMasterTree$Master;)J"⟩
def dkwX11_among_1 : List UInt8 := [167, 0, 20, 42, 180, 0, 7, 43, 182, 0, 20, 42, 180, 0, 13, 43, 182, 0, 20, 129, 173]
abbrev dktX11_among_1 : List UInt8 := dkwX11_among_1 ++ []
def dkwX11_among_0 : List UInt8 := [42, 180, 0, 16, 153, 0, 23, 42, 180, 0, 7, 43, 182, 0, 20, 42, 180, 0, 13, 43, 182, 0, 20, 127]
abbrev dktX11_among_0 : List UInt8 := dkwX11_among_0 ++ dktX11_among_1
theorem dksX11_among_0 : cX11_among.data.toList.drop 0 = dktX11_among_0 := by decide +kernel
theorem dksX11_among_1 : cX11_among.data.toList.drop 24 = dktX11_among_1 := dk_seg dksX11_among_0 24 rfl rfl
theorem dX11_among_0 : decode cX11_among 0 = .ok (.aload_n 0, 1) := dk_42 (dk_at dksX11_among_0 0 rfl rfl)
theorem dX11_among_1 : decode cX11_among 1 = .ok (.getfield 16, 3) := dk_180 0 16 (dk_at dksX11_among_0 1 rfl rfl)
theorem dX11_among_4 : decode cX11_among 4 = .ok (.ifCond .eq 23, 3) := dk_153 0 23 (dk_at dksX11_among_0 4 rfl rfl)
theorem dX11_among_7 : decode cX11_among 7 = .ok (.aload_n 0, 1) := dk_42 (dk_at dksX11_among_0 7 rfl rfl)
theorem dX11_among_8 : decode cX11_among 8 = .ok (.getfield 7, 3) := dk_180 0 7 (dk_at dksX11_among_0 8 rfl rfl)
theorem dX11_among_11 : decode cX11_among 11 = .ok (.aload_n 1, 1) := dk_43 (dk_at dksX11_among_0 11 rfl rfl)
theorem dX11_among_12 : decode cX11_among 12 = .ok (.invokevirtual 20, 3) := dk_182 0 20 (dk_at dksX11_among_0 12 rfl rfl)
theorem dX11_among_15 : decode cX11_among 15 = .ok (.aload_n 0, 1) := dk_42 (dk_at dksX11_among_0 15 rfl rfl)
theorem dX11_among_16 : decode cX11_among 16 = .ok (.getfield 13, 3) := dk_180 0 13 (dk_at dksX11_among_0 16 rfl rfl)
theorem dX11_among_19 : decode cX11_among 19 = .ok (.aload_n 1, 1) := dk_43 (dk_at dksX11_among_0 19 rfl rfl)
theorem dX11_among_20 : decode cX11_among 20 = .ok (.invokevirtual 20, 3) := dk_182 0 20 (dk_at dksX11_among_0 20 rfl rfl)
theorem dX11_among_23 : decode cX11_among 23 = .ok (.land, 1) := dk_127 (dk_at dksX11_among_0 23 rfl rfl)
theorem dX11_among_24 : decode cX11_among 24 = .ok (.goto 20, 3) := dk_167 0 20 (dk_at dksX11_among_1 0 rfl rfl)
theorem dX11_among_27 : decode cX11_among 27 = .ok (.aload_n 0, 1) := dk_42 (dk_at dksX11_among_1 3 rfl rfl)
theorem dX11_among_28 : decode cX11_among 28 = .ok (.getfield 7, 3) := dk_180 0 7 (dk_at dksX11_among_1 4 rfl rfl)
theorem dX11_among_31 : decode cX11_among 31 = .ok (.aload_n 1, 1) := dk_43 (dk_at dksX11_among_1 7 rfl rfl)
theorem dX11_among_32 : decode cX11_among 32 = .ok (.invokevirtual 20, 3) := dk_182 0 20 (dk_at dksX11_among_1 8 rfl rfl)
theorem dX11_among_35 : decode cX11_among 35 = .ok (.aload_n 0, 1) := dk_42 (dk_at dksX11_among_1 11 rfl rfl)
theorem dX11_among_36 : decode cX11_among 36 = .ok (.getfield 13, 3) := dk_180 0 13 (dk_at dksX11_among_1 12 rfl rfl)
theorem dX11_among_39 : decode cX11_among 39 = .ok (.aload_n 1, 1) := dk_43 (dk_at dksX11_among_1 15 rfl rfl)
theorem dX11_among_40 : decode cX11_among 40 = .ok (.invokevirtual 20, 3) := dk_182 0 20 (dk_at dksX11_among_1 16 rfl rfl)
theorem dX11_among_43 : decode cX11_among 43 = .ok (.lor, 1) := dk_129 (dk_at dksX11_among_1 19 rfl rfl)
theorem dX11_among_44 : decode cX11_among 44 = .ok (.lreturn, 1) := dk_173 (dk_at dksX11_among_1 20 rfl rfl)
def fX11_among_d0_b44 (e : Nat → Nat) (N : Nat) (m : Mm) (s0 : Int64) : Rs (Int64) := rt_ s0 m
def fX11_among_d0 (e : Nat → Nat) (N : Nat) (m : Mm) (v0 : Option Nat) (v1 : Option Nat) : Rs (Int64) := gi_ m v0 10 2 (fun x1 => if x1 = 0 then (gr_ m v0 10 0 (fun x2 => bd_ (cs_ m x2 8 (fX9_among e N m x2 v1) (cs_ m x2 9 (fX10_among e N m x2 v1) none)) (fun x3 m1 => gr_ m1 v0 10 1 (fun x6 => bd_ (cs_ m1 x6 8 (fX9_among e N m1 x6 v1) (cs_ m1 x6 9 (fX10_among e N m1 x6 v1) none)) (fun x7 m4 => fX11_among_d0_b44 e N m4 (x3 ||| x7)))))) else (gr_ m v0 10 0 (fun x10 => bd_ (cs_ m x10 8 (fX9_among e N m x10 v1) (cs_ m x10 9 (fX10_among e N m x10 v1) none)) (fun x11 m7 => gr_ m7 v0 10 1 (fun x14 => bd_ (cs_ m7 x14 8 (fX9_among e N m7 x14 v1) (cs_ m7 x14 9 (fX10_among e N m7 x14 v1) none)) (fun x15 m10 => fX11_among_d0_b44 e N m10 (x11 &&& x15)))))))
abbrev cX2_liveOnes : ByteArray := prog_21_method_3_code
def yX2_liveOnes : MethodName := ⟨RX2, "liveOnes", "()J"⟩
def dkwX2_liveOnes_1 : List UInt8 := [167, 0, 4, 9, 129, 64, 132, 3, 1, 167, 255, 229, 31, 173]
abbrev dktX2_liveOnes_1 : List UInt8 := dkwX2_liveOnes_1 ++ []
def dkwX2_liveOnes_0 : List UInt8 := [9, 64, 3, 62, 29, 16, 48, 162, 0, 27, 31, 42, 29, 182, 0, 61, 153, 0, 9, 10, 29, 121]
abbrev dktX2_liveOnes_0 : List UInt8 := dkwX2_liveOnes_0 ++ dktX2_liveOnes_1
theorem dksX2_liveOnes_0 : cX2_liveOnes.data.toList.drop 0 = dktX2_liveOnes_0 := by decide +kernel
theorem dksX2_liveOnes_1 : cX2_liveOnes.data.toList.drop 22 = dktX2_liveOnes_1 := dk_seg dksX2_liveOnes_0 22 rfl rfl
theorem dX2_liveOnes_0 : decode cX2_liveOnes 0 = .ok (.lconst 0, 1) := dk_9 (dk_at dksX2_liveOnes_0 0 rfl rfl)
theorem dX2_liveOnes_1 : decode cX2_liveOnes 1 = .ok (.lstore_n 1, 1) := dk_64 (dk_at dksX2_liveOnes_0 1 rfl rfl)
theorem dX2_liveOnes_2 : decode cX2_liveOnes 2 = .ok (.iconst 0, 1) := dk_3 (dk_at dksX2_liveOnes_0 2 rfl rfl)
theorem dX2_liveOnes_3 : decode cX2_liveOnes 3 = .ok (.istore_n 3, 1) := dk_62 (dk_at dksX2_liveOnes_0 3 rfl rfl)
theorem dX2_liveOnes_4 : decode cX2_liveOnes 4 = .ok (.iload_n 3, 1) := dk_29 (dk_at dksX2_liveOnes_0 4 rfl rfl)
theorem dX2_liveOnes_5 : decode cX2_liveOnes 5 = .ok (.bipush 48, 2) := dk_16 48 (dk_at dksX2_liveOnes_0 5 rfl rfl)
theorem dX2_liveOnes_7 : decode cX2_liveOnes 7 = .ok (.if_icmp .ge 27, 3) := dk_162 0 27 (dk_at dksX2_liveOnes_0 7 rfl rfl)
theorem dX2_liveOnes_10 : decode cX2_liveOnes 10 = .ok (.lload_n 1, 1) := dk_31 (dk_at dksX2_liveOnes_0 10 rfl rfl)
theorem dX2_liveOnes_11 : decode cX2_liveOnes 11 = .ok (.aload_n 0, 1) := dk_42 (dk_at dksX2_liveOnes_0 11 rfl rfl)
theorem dX2_liveOnes_12 : decode cX2_liveOnes 12 = .ok (.iload_n 3, 1) := dk_29 (dk_at dksX2_liveOnes_0 12 rfl rfl)
theorem dX2_liveOnes_13 : decode cX2_liveOnes 13 = .ok (.invokevirtual 61, 3) := dk_182 0 61 (dk_at dksX2_liveOnes_0 13 rfl rfl)
theorem dX2_liveOnes_16 : decode cX2_liveOnes 16 = .ok (.ifCond .eq 9, 3) := dk_153 0 9 (dk_at dksX2_liveOnes_0 16 rfl rfl)
theorem dX2_liveOnes_19 : decode cX2_liveOnes 19 = .ok (.lconst 1, 1) := dk_10 (dk_at dksX2_liveOnes_0 19 rfl rfl)
theorem dX2_liveOnes_20 : decode cX2_liveOnes 20 = .ok (.iload_n 3, 1) := dk_29 (dk_at dksX2_liveOnes_0 20 rfl rfl)
theorem dX2_liveOnes_21 : decode cX2_liveOnes 21 = .ok (.lshl, 1) := dk_121 (dk_at dksX2_liveOnes_0 21 rfl rfl)
theorem dX2_liveOnes_22 : decode cX2_liveOnes 22 = .ok (.goto 4, 3) := dk_167 0 4 (dk_at dksX2_liveOnes_1 0 rfl rfl)
theorem dX2_liveOnes_25 : decode cX2_liveOnes 25 = .ok (.lconst 0, 1) := dk_9 (dk_at dksX2_liveOnes_1 3 rfl rfl)
theorem dX2_liveOnes_26 : decode cX2_liveOnes 26 = .ok (.lor, 1) := dk_129 (dk_at dksX2_liveOnes_1 4 rfl rfl)
theorem dX2_liveOnes_27 : decode cX2_liveOnes 27 = .ok (.lstore_n 1, 1) := dk_64 (dk_at dksX2_liveOnes_1 5 rfl rfl)
theorem dX2_liveOnes_28 : decode cX2_liveOnes 28 = .ok (.iinc 3 1, 3) := dk_132 3 1 (dk_at dksX2_liveOnes_1 6 rfl rfl)
theorem dX2_liveOnes_31 : decode cX2_liveOnes 31 = .ok (.goto (-27), 3) := dk_167 255 229 (dk_at dksX2_liveOnes_1 9 rfl rfl)
theorem dX2_liveOnes_34 : decode cX2_liveOnes 34 = .ok (.lload_n 1, 1) := dk_31 (dk_at dksX2_liveOnes_1 12 rfl rfl)
theorem dX2_liveOnes_35 : decode cX2_liveOnes 35 = .ok (.lreturn, 1) := dk_173 (dk_at dksX2_liveOnes_1 13 rfl rfl)
def fX2_liveOnes_b26 (e : Nat → Nat) (N : Nat) (k4 : Mm → Option Nat → Int64 → Int32 → Rs (Int64)) (m : Mm) (v0 : Option Nat) (v3 : Int32) (s0 : Int64) (s1 : Int64) : Rs (Int64) := k4 m v0 (s0 ||| s1) (v3 + 1)
def fX2_liveOnes_b4 (e : Nat → Nat) (N : Nat) : Nat → Mm → Option Nat → Int64 → Int32 → Rs (Int64)
  | 0, _, _, _, _ => none
  | F + 1, m, v0, v1, v3 => if v3 < 48 then (ck_ m v0 2 (bd_ (fX2_isLive e N m v0 v3) (fun x1 m1 => if x1 = 0 then (fX2_liveOnes_b26 e N (fX2_liveOnes_b4 e N F) m1 v0 v3 v1 0) else (fX2_liveOnes_b26 e N (fX2_liveOnes_b4 e N F) m1 v0 v3 v1 (1 <<< ((v3 : Int32).toInt64 &&& 63)))))) else (rt_ v1 m)
def fX2_liveOnes (e : Nat → Nat) (N : Nat) (m : Mm) (v0 : Option Nat) : Rs (Int64) := fX2_liveOnes_b4 e N N m v0 0 0
abbrev cX12_among : ByteArray := prog_22_method_2_code
def yX12_among : MethodName := ⟨RX12, "among", "(LMasterTree$Master;)J"⟩
def dkwX12_among_0 : List UInt8 := [43, 182, 0, 13, 42, 180, 0, 7, 43, 182, 0, 19, 20, 0, 23, 131, 127, 173]
abbrev dktX12_among_0 : List UInt8 := dkwX12_among_0 ++ []
theorem dksX12_among_0 : cX12_among.data.toList.drop 0 = dktX12_among_0 := by decide +kernel
theorem dX12_among_0 : decode cX12_among 0 = .ok (.aload_n 1, 1) := dk_43 (dk_at dksX12_among_0 0 rfl rfl)
theorem dX12_among_1 : decode cX12_among 1 = .ok (.invokevirtual 13, 3) := dk_182 0 13 (dk_at dksX12_among_0 1 rfl rfl)
theorem dX12_among_4 : decode cX12_among 4 = .ok (.aload_n 0, 1) := dk_42 (dk_at dksX12_among_0 4 rfl rfl)
theorem dX12_among_5 : decode cX12_among 5 = .ok (.getfield 7, 3) := dk_180 0 7 (dk_at dksX12_among_0 5 rfl rfl)
theorem dX12_among_8 : decode cX12_among 8 = .ok (.aload_n 1, 1) := dk_43 (dk_at dksX12_among_0 8 rfl rfl)
theorem dX12_among_9 : decode cX12_among 9 = .ok (.invokevirtual 19, 3) := dk_182 0 19 (dk_at dksX12_among_0 9 rfl rfl)
theorem dX12_among_12 : decode cX12_among 12 = .ok (.ldc2_w 23, 3) := dk_20 0 23 (dk_at dksX12_among_0 12 rfl rfl)
theorem dX12_among_15 : decode cX12_among 15 = .ok (.lxor, 1) := dk_131 (dk_at dksX12_among_0 15 rfl rfl)
theorem dX12_among_16 : decode cX12_among 16 = .ok (.land, 1) := dk_127 (dk_at dksX12_among_0 16 rfl rfl)
theorem dX12_among_17 : decode cX12_among 17 = .ok (.lreturn, 1) := dk_173 (dk_at dksX12_among_0 17 rfl rfl)
def fX12_among_d0 (e : Nat → Nat) (N : Nat) (m : Mm) (v0 : Option Nat) (v1 : Option Nat) : Rs (Int64) := ck_ m v1 2 (bd_ (fX2_liveOnes e N m v1) (fun x1 m1 => gr_ m1 v0 11 0 (fun x2 => bd_ (cs_ m1 x2 8 (fX9_among e N m1 x2 v1) (cs_ m1 x2 9 (fX10_among e N m1 x2 v1) none)) (fun x3 m2 => rt_ (x1 &&& (x3 ^^^ (-1))) m2))))
def fX11_among_d1_b44 (e : Nat → Nat) (N : Nat) (m : Mm) (s0 : Int64) : Rs (Int64) := rt_ s0 m
def fX11_among_d1 (e : Nat → Nat) (N : Nat) (m : Mm) (v0 : Option Nat) (v1 : Option Nat) : Rs (Int64) := gi_ m v0 10 2 (fun x1 => if x1 = 0 then (gr_ m v0 10 0 (fun x2 => bd_ (cs_ m x2 8 (fX9_among e N m x2 v1) (cs_ m x2 9 (fX10_among e N m x2 v1) (cs_ m x2 10 (fX11_among_d0 e N m x2 v1) (cs_ m x2 11 (fX12_among_d0 e N m x2 v1) none)))) (fun x3 m1 => gr_ m1 v0 10 1 (fun x8 => bd_ (cs_ m1 x8 8 (fX9_among e N m1 x8 v1) (cs_ m1 x8 9 (fX10_among e N m1 x8 v1) (cs_ m1 x8 10 (fX11_among_d0 e N m1 x8 v1) (cs_ m1 x8 11 (fX12_among_d0 e N m1 x8 v1) none)))) (fun x9 m6 => fX11_among_d1_b44 e N m6 (x3 ||| x9)))))) else (gr_ m v0 10 0 (fun x14 => bd_ (cs_ m x14 8 (fX9_among e N m x14 v1) (cs_ m x14 9 (fX10_among e N m x14 v1) (cs_ m x14 10 (fX11_among_d0 e N m x14 v1) (cs_ m x14 11 (fX12_among_d0 e N m x14 v1) none)))) (fun x15 m11 => gr_ m11 v0 10 1 (fun x20 => bd_ (cs_ m11 x20 8 (fX9_among e N m11 x20 v1) (cs_ m11 x20 9 (fX10_among e N m11 x20 v1) (cs_ m11 x20 10 (fX11_among_d0 e N m11 x20 v1) (cs_ m11 x20 11 (fX12_among_d0 e N m11 x20 v1) none)))) (fun x21 m16 => fX11_among_d1_b44 e N m16 (x15 &&& x21)))))))
def fX12_among_d1 (e : Nat → Nat) (N : Nat) (m : Mm) (v0 : Option Nat) (v1 : Option Nat) : Rs (Int64) := ck_ m v1 2 (bd_ (fX2_liveOnes e N m v1) (fun x1 m1 => gr_ m1 v0 11 0 (fun x2 => bd_ (cs_ m1 x2 8 (fX9_among e N m1 x2 v1) (cs_ m1 x2 9 (fX10_among e N m1 x2 v1) (cs_ m1 x2 10 (fX11_among_d0 e N m1 x2 v1) (cs_ m1 x2 11 (fX12_among_d0 e N m1 x2 v1) none)))) (fun x3 m2 => rt_ (x1 &&& (x3 ^^^ (-1))) m2))))
def fX11_among_d2_b44 (e : Nat → Nat) (N : Nat) (m : Mm) (s0 : Int64) : Rs (Int64) := rt_ s0 m
def fX11_among_d2 (e : Nat → Nat) (N : Nat) (m : Mm) (v0 : Option Nat) (v1 : Option Nat) : Rs (Int64) := gi_ m v0 10 2 (fun x1 => if x1 = 0 then (gr_ m v0 10 0 (fun x2 => bd_ (cs_ m x2 8 (fX9_among e N m x2 v1) (cs_ m x2 9 (fX10_among e N m x2 v1) (cs_ m x2 10 (fX11_among_d1 e N m x2 v1) (cs_ m x2 11 (fX12_among_d1 e N m x2 v1) none)))) (fun x3 m1 => gr_ m1 v0 10 1 (fun x8 => bd_ (cs_ m1 x8 8 (fX9_among e N m1 x8 v1) (cs_ m1 x8 9 (fX10_among e N m1 x8 v1) (cs_ m1 x8 10 (fX11_among_d1 e N m1 x8 v1) (cs_ m1 x8 11 (fX12_among_d1 e N m1 x8 v1) none)))) (fun x9 m6 => fX11_among_d2_b44 e N m6 (x3 ||| x9)))))) else (gr_ m v0 10 0 (fun x14 => bd_ (cs_ m x14 8 (fX9_among e N m x14 v1) (cs_ m x14 9 (fX10_among e N m x14 v1) (cs_ m x14 10 (fX11_among_d1 e N m x14 v1) (cs_ m x14 11 (fX12_among_d1 e N m x14 v1) none)))) (fun x15 m11 => gr_ m11 v0 10 1 (fun x20 => bd_ (cs_ m11 x20 8 (fX9_among e N m11 x20 v1) (cs_ m11 x20 9 (fX10_among e N m11 x20 v1) (cs_ m11 x20 10 (fX11_among_d1 e N m11 x20 v1) (cs_ m11 x20 11 (fX12_among_d1 e N m11 x20 v1) none)))) (fun x21 m16 => fX11_among_d2_b44 e N m16 (x15 &&& x21)))))))
def fX12_among_d2 (e : Nat → Nat) (N : Nat) (m : Mm) (v0 : Option Nat) (v1 : Option Nat) : Rs (Int64) := ck_ m v1 2 (bd_ (fX2_liveOnes e N m v1) (fun x1 m1 => gr_ m1 v0 11 0 (fun x2 => bd_ (cs_ m1 x2 8 (fX9_among e N m1 x2 v1) (cs_ m1 x2 9 (fX10_among e N m1 x2 v1) (cs_ m1 x2 10 (fX11_among_d1 e N m1 x2 v1) (cs_ m1 x2 11 (fX12_among_d1 e N m1 x2 v1) none)))) (fun x3 m2 => rt_ (x1 &&& (x3 ^^^ (-1))) m2))))
def fX11_among_d3_b44 (e : Nat → Nat) (N : Nat) (m : Mm) (s0 : Int64) : Rs (Int64) := rt_ s0 m
def fX11_among_d3 (e : Nat → Nat) (N : Nat) (m : Mm) (v0 : Option Nat) (v1 : Option Nat) : Rs (Int64) := gi_ m v0 10 2 (fun x1 => if x1 = 0 then (gr_ m v0 10 0 (fun x2 => bd_ (cs_ m x2 8 (fX9_among e N m x2 v1) (cs_ m x2 9 (fX10_among e N m x2 v1) (cs_ m x2 10 (fX11_among_d2 e N m x2 v1) (cs_ m x2 11 (fX12_among_d2 e N m x2 v1) none)))) (fun x3 m1 => gr_ m1 v0 10 1 (fun x8 => bd_ (cs_ m1 x8 8 (fX9_among e N m1 x8 v1) (cs_ m1 x8 9 (fX10_among e N m1 x8 v1) (cs_ m1 x8 10 (fX11_among_d2 e N m1 x8 v1) (cs_ m1 x8 11 (fX12_among_d2 e N m1 x8 v1) none)))) (fun x9 m6 => fX11_among_d3_b44 e N m6 (x3 ||| x9)))))) else (gr_ m v0 10 0 (fun x14 => bd_ (cs_ m x14 8 (fX9_among e N m x14 v1) (cs_ m x14 9 (fX10_among e N m x14 v1) (cs_ m x14 10 (fX11_among_d2 e N m x14 v1) (cs_ m x14 11 (fX12_among_d2 e N m x14 v1) none)))) (fun x15 m11 => gr_ m11 v0 10 1 (fun x20 => bd_ (cs_ m11 x20 8 (fX9_among e N m11 x20 v1) (cs_ m11 x20 9 (fX10_among e N m11 x20 v1) (cs_ m11 x20 10 (fX11_among_d2 e N m11 x20 v1) (cs_ m11 x20 11 (fX12_among_d2 e N m11 x20 v1) none)))) (fun x21 m16 => fX11_among_d3_b44 e N m16 (x15 &&& x21)))))))
def fX12_among_d3 (e : Nat → Nat) (N : Nat) (m : Mm) (v0 : Option Nat) (v1 : Option Nat) : Rs (Int64) := ck_ m v1 2 (bd_ (fX2_liveOnes e N m v1) (fun x1 m1 => gr_ m1 v0 11 0 (fun x2 => bd_ (cs_ m1 x2 8 (fX9_among e N m1 x2 v1) (cs_ m1 x2 9 (fX10_among e N m1 x2 v1) (cs_ m1 x2 10 (fX11_among_d2 e N m1 x2 v1) (cs_ m1 x2 11 (fX12_among_d2 e N m1 x2 v1) none)))) (fun x3 m2 => rt_ (x1 &&& (x3 ^^^ (-1))) m2))))
def fX11_among_d4_b44 (e : Nat → Nat) (N : Nat) (m : Mm) (s0 : Int64) : Rs (Int64) := rt_ s0 m
def fX11_among_d4 (e : Nat → Nat) (N : Nat) (m : Mm) (v0 : Option Nat) (v1 : Option Nat) : Rs (Int64) := gi_ m v0 10 2 (fun x1 => if x1 = 0 then (gr_ m v0 10 0 (fun x2 => bd_ (cs_ m x2 8 (fX9_among e N m x2 v1) (cs_ m x2 9 (fX10_among e N m x2 v1) (cs_ m x2 10 (fX11_among_d3 e N m x2 v1) (cs_ m x2 11 (fX12_among_d3 e N m x2 v1) none)))) (fun x3 m1 => gr_ m1 v0 10 1 (fun x8 => bd_ (cs_ m1 x8 8 (fX9_among e N m1 x8 v1) (cs_ m1 x8 9 (fX10_among e N m1 x8 v1) (cs_ m1 x8 10 (fX11_among_d3 e N m1 x8 v1) (cs_ m1 x8 11 (fX12_among_d3 e N m1 x8 v1) none)))) (fun x9 m6 => fX11_among_d4_b44 e N m6 (x3 ||| x9)))))) else (gr_ m v0 10 0 (fun x14 => bd_ (cs_ m x14 8 (fX9_among e N m x14 v1) (cs_ m x14 9 (fX10_among e N m x14 v1) (cs_ m x14 10 (fX11_among_d3 e N m x14 v1) (cs_ m x14 11 (fX12_among_d3 e N m x14 v1) none)))) (fun x15 m11 => gr_ m11 v0 10 1 (fun x20 => bd_ (cs_ m11 x20 8 (fX9_among e N m11 x20 v1) (cs_ m11 x20 9 (fX10_among e N m11 x20 v1) (cs_ m11 x20 10 (fX11_among_d3 e N m11 x20 v1) (cs_ m11 x20 11 (fX12_among_d3 e N m11 x20 v1) none)))) (fun x21 m16 => fX11_among_d4_b44 e N m16 (x15 &&& x21)))))))
def fX12_among_d4 (e : Nat → Nat) (N : Nat) (m : Mm) (v0 : Option Nat) (v1 : Option Nat) : Rs (Int64) := ck_ m v1 2 (bd_ (fX2_liveOnes e N m v1) (fun x1 m1 => gr_ m1 v0 11 0 (fun x2 => bd_ (cs_ m1 x2 8 (fX9_among e N m1 x2 v1) (cs_ m1 x2 9 (fX10_among e N m1 x2 v1) (cs_ m1 x2 10 (fX11_among_d3 e N m1 x2 v1) (cs_ m1 x2 11 (fX12_among_d3 e N m1 x2 v1) none)))) (fun x3 m2 => rt_ (x1 &&& (x3 ^^^ (-1))) m2))))
theorem wX1_has {l : Launch} {g : GG} {E : Me_} (C : Cx_ l g E "MasterTree" cX1_has 2 18) (hret : (eT_ E).sig.returnType = (Option.some Jvm.ClassFile.FieldType.int)) (h0 : ∀ x ∈ (eC_ E).exceptionTable.toList, False) (hin : (eT_ E).name = "has") (N : Nat) : ∀ (m : Mm) (v0 : Option Nat) (v1 : Int32) (k n : Nat), Sm_ l g E 2 (xe_ en_i) (fX1_has (gE_ g) N m v0 v1) k n 0 [(0, vr_ v0), (1, vi_ v1)] [] m := by
  intro m v0 v1 k n
  unfold fX1_has
  refine s_aload_n C rfl 0 rfl dX1_has_0 1 rfl ?_
  refine s_iload_n C rfl 1 rfl dX1_has_1 2 rfl ?_
  refine x_ck (fun hb_ hb0_ => ?_)
  refine x_callV (enc := (xe_ en_r)) C 17 1 [vi_ v1] 1 (ctX1_attributeAt C.2.2.2.2.2.2.2.2.1 N m v0 v1) hb_ hb0_ rfl rfl q948 q950 qs6 q81 q951 hdX1_attributeAt (Nat.le_of_ble_eq_true rfl) (Nat.le_of_ble_eq_true rfl) rfl (Nat.le_of_ble_eq_true rfl) dX1_has_2 5 rfl rfl (hen_x hen_r) (kk_x (kk_r (fun x1 m1 k1 n1 => ?_))) (kx_x C h0 he_r)
  refine s_pop C rfl dX1_has_5 6 rfl ?_
  refine s_aload_n C rfl 0 rfl dX1_has_6 7 rfl ?_
  refine x_nw C 7 (RX9, TX9, 3) rfl q2563 q2564 q139 8 3 rfl rfl dX1_has_7 10 rfl (fun x2 m2 => ?_)
  refine s_dup C rfl dX1_has_10 11 rfl ?_
  refine s_iload_n C rfl 1 rfl dX1_has_11 12 rfl ?_
  refine s_iconst C 0 rfl dX1_has_12 13 rfl ?_
  refine s_iconst C 1 rfl dX1_has_13 14 rfl ?_
  refine x_callI (enc := en_v) C 11 3 [vi_ v1, vi_ 0, vi_ 1] (ctX9_init C.2.2.2.2.2.2.2.2.1 N m2 (some x2) v1 0 1) (fun h => by cases h) rfl q2565 q2566 q139 q2567 rfl hdX9_init (Nat.le_of_ble_eq_true rfl) (Nat.le_of_ble_eq_true rfl) rfl (Nat.le_of_ble_eq_true rfl) dX1_has_14 17 rfl rfl hen_v (kk_v (fun m3 k1 n1 => ?_)) (kx_n he_v)
  refine x_ck (fun hb_ hb0_ => ?_)
  refine x_callV (enc := (xe_ en_i)) C 16 1 [vr_ (some x2)] 1 (ctX1_puts C.2.2.2.2.2.2.2.2.1 N m3 v0 (some x2)) hb_ hb0_ rfl rfl q2582 q2584 qs27 q81 q2585 hdX1_puts (Nat.le_of_ble_eq_true rfl) (Nat.le_of_ble_eq_true rfl) rfl (Nat.le_of_ble_eq_true rfl) dX1_has_17 20 rfl rfl (hen_x hen_i) (kk_x (kk_i (fun x3 m4 k1 n1 => ?_))) (kx_x C h0 he_i)
  exact x_iret C hret rfl dX1_has_20
theorem hdX1_has : ((⟨"MasterTree", "has", "(I)I"⟩ : MethodName)).cls ≠ "java/lang/invoke/MethodHandle" ∧ ((⟨"MasterTree", "has", "(I)I"⟩ : MethodName)).cls ≠ "java/lang/invoke/VarHandle" ∧ (parseMethodDescriptor ((⟨"MasterTree", "has", "(I)I"⟩ : MethodName)).desc).map (fun d => d.parameters.length) = some 1 := ⟨by decide +kernel, by decide +kernel, by decide +kernel⟩
theorem ctX1_has {l : Launch} {g : GG} (hst : l.stackTraces = false) (N : Nat) (m : Mm) (v0 : Option Nat) (v1 : Int32) : ∀ v m' k n, fX1_has (gE_ g) N m v0 v1 = some (v, m', k, n) → Ct_ l g (⟨"MasterTree", "has", "(I)I"⟩ : MethodName) (ws_ (⟨"MasterTree", "has", "(I)I"⟩ : MethodName) cX1_has 2 (Option.some Jvm.ClassFile.FieldType.int)) 18 [vr_ v0, vi_ v1] m ((xe_ en_i) v) m' k n :=
  Ct_of (by decide +kernel) rfl hst (Nat.le_of_ble_eq_true rfl) rfl (fun E C hret h0 hin => wX1_has C hret h0 hin N m v0 v1 0 0)
theorem wX0_has {l : Launch} {g : GG} {E : Me_} (C : Cx_ l g E "MasterTreeLaw" cX0_has 4 19) (hret : (eT_ E).sig.returnType = (Option.some Jvm.ClassFile.FieldType.int)) (h0 : (eC_ E).exceptionTable.toList = tableOf [(0, 9, 12, 19), (0, 9, 15, 13)]) (hin : (eT_ E).name = "has") (N : Nat) : ∀ (m : Mm) (v0 : Option Nat) (v1 : Int32) (v2 : Option Nat) (k n : Nat), Sm_ l g E 4 en_i (fX0_has (gE_ g) N m v0 v1 v2) k n 0 [(0, vr_ v0), (1, vi_ v1), (2, vr_ v2)] [] m := by
  intro m v0 v1 v2 k n
  unfold fX0_has
  refine s_aload_n C rfl 2 rfl dX0_has_0 1 rfl ?_
  refine s_iconst C 0 rfl dX0_has_1 2 rfl ?_
  refine s_aload_n C rfl 0 rfl dX0_has_2 3 rfl ?_
  refine s_iload_n C rfl 1 rfl dX0_has_3 4 rfl ?_
  refine x_ck (fun hb_ hb0_ => ?_)
  refine x_callV (enc := (xe_ en_i)) C 18 1 [vi_ v1] 1 (ctX1_has C.2.2.2.2.2.2.2.2.1 N m v0 v1) hb_ hb0_ rfl rfl q2597 q2598 q2599 q81 q2600 hdX1_has (Nat.le_of_ble_eq_true rfl) (Nat.le_of_ble_eq_true rfl) rfl (Nat.le_of_ble_eq_true rfl) dX0_has_4 7 rfl rfl (hen_x hen_i) (kk_c (kk_i (fun x1 m1 k1 n1 => ?_))) (kx_c he_i (fun i_ m0 k0 n0 => ?_))
  · refine s_i2l C dX0_has_7 8 rfl ?_
    refine x_bj3 C 203 rfl dX0_has_8 9 rfl (fun m2 => ?_)
    refine s_goto C (off := 9) 18 dX0_has_9 rfl ?_
    refine s_iconst C 0 rfl dX0_has_18 19 rfl ?_
    exact x_iret C hret rfl dX0_has_19
  · refine Sx_if ?_ ?_
    · refine Sx_ctch C h0 0 [] ({ startPc := 0, endPc := 9, handlerPc := 12, catchType := 19 } : ExceptionTableEntry) [{ startPc := 0, endPc := 9, handlerPc := 15, catchType := 13 }] rfl (fun z hz => by cases hz) (by decide) (by decide) q600 q638 12 rfl (fun q_ => ?_)
      refine s_astore_n C rfl (Nat.le_of_ble_eq_true rfl) [] rfl rfl dX0_has_12 13 rfl ?_
      refine s_iconst C 1 rfl dX0_has_13 14 rfl ?_
      exact x_iret C hret rfl dX0_has_14
    refine Sx_if ?_ ?_
    · refine Sx_ctch C h0 2 [{ startPc := 0, endPc := 9, handlerPc := 12, catchType := 19 }] ({ startPc := 0, endPc := 9, handlerPc := 15, catchType := 13 } : ExceptionTableEntry) [] rfl (List.forall_mem_cons.mpr ⟨Or.inr ⟨by decide, "java/lang/IndexOutOfBoundsException", q600, List.mem_of_getElem? (i := 4) rfl⟩, fun z hz => by cases hz⟩) (by decide) (by decide) q504 q515 15 rfl (fun q_ => ?_)
      refine s_astore_n C rfl (Nat.le_of_ble_eq_true rfl) [] rfl rfl dX0_has_15 16 rfl ?_
      refine s_iconst C 2 rfl dX0_has_16 17 rfl ?_
      exact x_iret C hret rfl dX0_has_17
    exact Sx_none
theorem hdX0_has : ((⟨"MasterTreeLaw", "has", "(LMasterTree;I[J)I"⟩ : MethodName)).cls ≠ "java/lang/invoke/MethodHandle" ∧ ((⟨"MasterTreeLaw", "has", "(LMasterTree;I[J)I"⟩ : MethodName)).cls ≠ "java/lang/invoke/VarHandle" ∧ (parseMethodDescriptor ((⟨"MasterTreeLaw", "has", "(LMasterTree;I[J)I"⟩ : MethodName)).desc).map (fun d => d.parameters.length) = some 3 := ⟨by decide +kernel, by decide +kernel, by decide +kernel⟩
theorem ctX0_has {l : Launch} {g : GG} (hst : l.stackTraces = false) (N : Nat) (m : Mm) (v0 : Option Nat) (v1 : Int32) (v2 : Option Nat) : ∀ v m' k n, fX0_has (gE_ g) N m v0 v1 v2 = some (v, m', k, n) → Ct_ l g (⟨"MasterTreeLaw", "has", "(LMasterTree;I[J)I"⟩ : MethodName) (wsW_ (⟨"MasterTreeLaw", "has", "(LMasterTree;I[J)I"⟩ : MethodName) cX0_has 4 (Option.some Jvm.ClassFile.FieldType.int) [(0, 9, 12, 19), (0, 9, 15, 13)]) 19 [vr_ v0, vi_ v1, vr_ v2] m (en_i v) m' k n :=
  Ct_ofW (by decide +kernel) rfl hst (Nat.le_of_ble_eq_true rfl) rfl (fun E C hret h0 hin => wX0_has C hret h0 hin N m v0 v1 v2 0 0)
theorem wX8_init_t9 {l : Launch} {g : GG} {E : Me_} (C : Cx_ l g E "MasterTree$Filter" cX8_init 1 10) (hret : (eT_ E).sig.returnType = (Option.none : Option Jvm.ClassFile.FieldType)) (h0 : ∀ x ∈ (eC_ E).exceptionTable.toList, False) (hin : (eT_ E).name = "<init>") (N : Nat) : ∀ (m : Mm) (v0 : Option Nat) (k n : Nat), Sm_ l g E 1 en_v (fX8_init_t9 (gE_ g) N m v0) k n 0 [(0, vr_ v0)] [] m := by
  intro m v0 k n
  unfold fX8_init_t9
  refine s_aload_n C rfl 0 rfl dX8_init_0 1 rfl ?_
  refine x_ok (fun hb_ => ?_)
  refine x_obj C hb_ q2571 q152 q153 (by decide) (Nat.le_of_ble_eq_true rfl) dX8_init_1 4 rfl ?_
  exact x_vret C hret rfl dX8_init_4
theorem hdX8_init_t9 : ((⟨"MasterTree$Filter", "<init>", "()V"⟩ : MethodName)).cls ≠ "java/lang/invoke/MethodHandle" ∧ ((⟨"MasterTree$Filter", "<init>", "()V"⟩ : MethodName)).cls ≠ "java/lang/invoke/VarHandle" ∧ (parseMethodDescriptor ((⟨"MasterTree$Filter", "<init>", "()V"⟩ : MethodName)).desc).map (fun d => d.parameters.length) = some 0 := ⟨by decide +kernel, by decide +kernel, by decide +kernel⟩
theorem ctX8_init_t9 {l : Launch} {g : GG} (hst : l.stackTraces = false) (N : Nat) (m : Mm) (v0 : Option Nat) : ∀ v m' k n, fX8_init_t9 (gE_ g) N m v0 = some (v, m', k, n) → Ct_ l g (⟨"MasterTree$Filter", "<init>", "()V"⟩ : MethodName) (ws_ (⟨"MasterTree$Filter", "<init>", "()V"⟩ : MethodName) cX8_init 1 (Option.none : Option Jvm.ClassFile.FieldType)) 10 [vr_ v0] m (en_v v) m' k n :=
  Ct_of (by decide +kernel) rfl hst (Nat.le_of_ble_eq_true rfl) rfl (fun E C hret h0 hin => wX8_init_t9 C hret h0 hin N m v0 0 0)
theorem wX10_init {l : Launch} {g : GG} {E : Me_} (C : Cx_ l g E "MasterTree$ByClass" cX10_init 2 11) (hret : (eT_ E).sig.returnType = (Option.none : Option Jvm.ClassFile.FieldType)) (h0 : ∀ x ∈ (eC_ E).exceptionTable.toList, False) (hin : (eT_ E).name = "<init>") (N : Nat) : ∀ (m : Mm) (v0 : Option Nat) (v1 : Option Nat) (k n : Nat), Sm_ l g E 2 en_v (fX10_init (gE_ g) N m v0 v1) k n 0 [(0, vr_ v0), (1, vr_ v1)] [] m := by
  intro m v0 v1 k n
  unfold fX10_init
  refine s_aload_n C rfl 0 rfl dX10_init_0 1 rfl ?_
  refine x_ok (fun hb0_ => ?_)
  refine x_callIN (enc := en_v) C 10 0 [] (ctX8_init_t9 C.2.2.2.2.2.2.2.2.1 N m v0) hb0_ rfl q2613 q2569 q138 q2570 rfl hdX8_init_t9 (Nat.le_of_ble_eq_true rfl) (Nat.le_of_ble_eq_true rfl) rfl (Nat.le_of_ble_eq_true rfl) dX10_init_1 4 rfl rfl hen_v (kk_v (fun m1 k1 n1 => ?_)) (kx_n he_v)
  refine s_aload_n C rfl 0 rfl dX10_init_4 5 rfl ?_
  refine s_aload_n C rfl 1 rfl dX10_init_5 6 rfl ?_
  refine x_prF C hin 8 (RX10, TX10, 1) rfl 0 (Nat.le_of_ble_eq_true rfl) rfl q2614 rfl rfl trivial 9 rfl dX10_init_6 9 rfl (fun m2 => ?_)
  exact x_vret C hret rfl dX10_init_9
theorem hdX10_init : ((⟨"MasterTree$ByClass", "<init>", "(LMasterTree$Klass;)V"⟩ : MethodName)).cls ≠ "java/lang/invoke/MethodHandle" ∧ ((⟨"MasterTree$ByClass", "<init>", "(LMasterTree$Klass;)V"⟩ : MethodName)).cls ≠ "java/lang/invoke/VarHandle" ∧ (parseMethodDescriptor ((⟨"MasterTree$ByClass", "<init>", "(LMasterTree$Klass;)V"⟩ : MethodName)).desc).map (fun d => d.parameters.length) = some 1 := ⟨by decide +kernel, by decide +kernel, by decide +kernel⟩
theorem ctX10_init {l : Launch} {g : GG} (hst : l.stackTraces = false) (N : Nat) (m : Mm) (v0 : Option Nat) (v1 : Option Nat) : ∀ v m' k n, fX10_init (gE_ g) N m v0 v1 = some (v, m', k, n) → Ct_ l g (⟨"MasterTree$ByClass", "<init>", "(LMasterTree$Klass;)V"⟩ : MethodName) (ws_ (⟨"MasterTree$ByClass", "<init>", "(LMasterTree$Klass;)V"⟩ : MethodName) cX10_init 2 (Option.none : Option Jvm.ClassFile.FieldType)) 11 [vr_ v0, vr_ v1] m (en_v v) m' k n :=
  Ct_of (by decide +kernel) rfl hst (Nat.le_of_ble_eq_true rfl) rfl (fun E C hret h0 hin => wX10_init C hret h0 hin N m v0 v1 0 0)
theorem wX1_ofClass {l : Launch} {g : GG} {E : Me_} (C : Cx_ l g E "MasterTree" cX1_ofClass 2 18) (hret : (eT_ E).sig.returnType = (Option.some Jvm.ClassFile.FieldType.int)) (h0 : ∀ x ∈ (eC_ E).exceptionTable.toList, False) (hin : (eT_ E).name = "ofClass") (N : Nat) : ∀ (m : Mm) (v0 : Option Nat) (v1 : Int32) (k n : Nat), Sm_ l g E 2 (xe_ en_i) (fX1_ofClass (gE_ g) N m v0 v1) k n 0 [(0, vr_ v0), (1, vi_ v1)] [] m := by
  intro m v0 v1 k n
  unfold fX1_ofClass
  refine s_aload_n C rfl 0 rfl dX1_ofClass_0 1 rfl ?_
  refine x_nw C 8 (RX10, TX10, 1) rfl q2608 q2609 q140 9 1 rfl rfl dX1_ofClass_1 4 rfl (fun x1 m1 => ?_)
  refine s_dup C rfl dX1_ofClass_4 5 rfl ?_
  refine s_aload_n C rfl 0 rfl dX1_ofClass_5 6 rfl ?_
  refine s_iload_n C rfl 1 rfl dX1_ofClass_6 7 rfl ?_
  refine x_ck (fun hb_ hb0_ => ?_)
  refine x_callV (enc := (xe_ en_r)) C 17 1 [vi_ v1] 1 (ctX1_klassAt C.2.2.2.2.2.2.2.2.1 N m1 v0 v1) hb_ hb0_ rfl rfl q628 q630 qs4 q81 q631 hdX1_klassAt (Nat.le_of_ble_eq_true rfl) (Nat.le_of_ble_eq_true rfl) rfl (Nat.le_of_ble_eq_true rfl) dX1_ofClass_7 10 rfl rfl (hen_x hen_r) (kk_x (kk_r (fun x2 m2 k1 n1 => ?_))) (kx_x C h0 he_r)
  refine x_callI (enc := en_v) C 11 1 [vr_ x2] (ctX10_init C.2.2.2.2.2.2.2.2.1 N m2 (some x1) x2) (fun h => by cases h) rfl q2610 q2611 q140 q2612 rfl hdX10_init (Nat.le_of_ble_eq_true rfl) (Nat.le_of_ble_eq_true rfl) rfl (Nat.le_of_ble_eq_true rfl) dX1_ofClass_10 13 rfl rfl hen_v (kk_v (fun m3 k1 n1 => ?_)) (kx_n he_v)
  refine x_ck (fun hb_ hb0_ => ?_)
  refine x_callV (enc := (xe_ en_i)) C 16 1 [vr_ (some x1)] 1 (ctX1_puts C.2.2.2.2.2.2.2.2.1 N m3 v0 (some x1)) hb_ hb0_ rfl rfl q2582 q2584 qs27 q81 q2585 hdX1_puts (Nat.le_of_ble_eq_true rfl) (Nat.le_of_ble_eq_true rfl) rfl (Nat.le_of_ble_eq_true rfl) dX1_ofClass_13 16 rfl rfl (hen_x hen_i) (kk_x (kk_i (fun x3 m4 k1 n1 => ?_))) (kx_x C h0 he_i)
  exact x_iret C hret rfl dX1_ofClass_16
theorem hdX1_ofClass : ((⟨"MasterTree", "ofClass", "(I)I"⟩ : MethodName)).cls ≠ "java/lang/invoke/MethodHandle" ∧ ((⟨"MasterTree", "ofClass", "(I)I"⟩ : MethodName)).cls ≠ "java/lang/invoke/VarHandle" ∧ (parseMethodDescriptor ((⟨"MasterTree", "ofClass", "(I)I"⟩ : MethodName)).desc).map (fun d => d.parameters.length) = some 1 := ⟨by decide +kernel, by decide +kernel, by decide +kernel⟩
theorem ctX1_ofClass {l : Launch} {g : GG} (hst : l.stackTraces = false) (N : Nat) (m : Mm) (v0 : Option Nat) (v1 : Int32) : ∀ v m' k n, fX1_ofClass (gE_ g) N m v0 v1 = some (v, m', k, n) → Ct_ l g (⟨"MasterTree", "ofClass", "(I)I"⟩ : MethodName) (ws_ (⟨"MasterTree", "ofClass", "(I)I"⟩ : MethodName) cX1_ofClass 2 (Option.some Jvm.ClassFile.FieldType.int)) 18 [vr_ v0, vi_ v1] m ((xe_ en_i) v) m' k n :=
  Ct_of (by decide +kernel) rfl hst (Nat.le_of_ble_eq_true rfl) rfl (fun E C hret h0 hin => wX1_ofClass C hret h0 hin N m v0 v1 0 0)
theorem wX0_ofClass {l : Launch} {g : GG} {E : Me_} (C : Cx_ l g E "MasterTreeLaw" cX0_ofClass 4 19) (hret : (eT_ E).sig.returnType = (Option.some Jvm.ClassFile.FieldType.int)) (h0 : (eC_ E).exceptionTable.toList = tableOf [(0, 9, 12, 19), (0, 9, 15, 13)]) (hin : (eT_ E).name = "ofClass") (N : Nat) : ∀ (m : Mm) (v0 : Option Nat) (v1 : Int32) (v2 : Option Nat) (k n : Nat), Sm_ l g E 4 en_i (fX0_ofClass (gE_ g) N m v0 v1 v2) k n 0 [(0, vr_ v0), (1, vi_ v1), (2, vr_ v2)] [] m := by
  intro m v0 v1 v2 k n
  unfold fX0_ofClass
  refine s_aload_n C rfl 2 rfl dX0_ofClass_0 1 rfl ?_
  refine s_iconst C 0 rfl dX0_ofClass_1 2 rfl ?_
  refine s_aload_n C rfl 0 rfl dX0_ofClass_2 3 rfl ?_
  refine s_iload_n C rfl 1 rfl dX0_ofClass_3 4 rfl ?_
  refine x_ck (fun hb_ hb0_ => ?_)
  refine x_callV (enc := (xe_ en_i)) C 18 1 [vi_ v1] 1 (ctX1_ofClass C.2.2.2.2.2.2.2.2.1 N m v0 v1) hb_ hb0_ rfl rfl q2604 q2605 q2606 q81 q2607 hdX1_ofClass (Nat.le_of_ble_eq_true rfl) (Nat.le_of_ble_eq_true rfl) rfl (Nat.le_of_ble_eq_true rfl) dX0_ofClass_4 7 rfl rfl (hen_x hen_i) (kk_c (kk_i (fun x1 m1 k1 n1 => ?_))) (kx_c he_i (fun i_ m0 k0 n0 => ?_))
  · refine s_i2l C dX0_ofClass_7 8 rfl ?_
    refine x_bj3 C 203 rfl dX0_ofClass_8 9 rfl (fun m2 => ?_)
    refine s_goto C (off := 9) 18 dX0_ofClass_9 rfl ?_
    refine s_iconst C 0 rfl dX0_ofClass_18 19 rfl ?_
    exact x_iret C hret rfl dX0_ofClass_19
  · refine Sx_if ?_ ?_
    · refine Sx_ctch C h0 0 [] ({ startPc := 0, endPc := 9, handlerPc := 12, catchType := 19 } : ExceptionTableEntry) [{ startPc := 0, endPc := 9, handlerPc := 15, catchType := 13 }] rfl (fun z hz => by cases hz) (by decide) (by decide) q600 q638 12 rfl (fun q_ => ?_)
      refine s_astore_n C rfl (Nat.le_of_ble_eq_true rfl) [] rfl rfl dX0_ofClass_12 13 rfl ?_
      refine s_iconst C 1 rfl dX0_ofClass_13 14 rfl ?_
      exact x_iret C hret rfl dX0_ofClass_14
    refine Sx_if ?_ ?_
    · refine Sx_ctch C h0 2 [{ startPc := 0, endPc := 9, handlerPc := 12, catchType := 19 }] ({ startPc := 0, endPc := 9, handlerPc := 15, catchType := 13 } : ExceptionTableEntry) [] rfl (List.forall_mem_cons.mpr ⟨Or.inr ⟨by decide, "java/lang/IndexOutOfBoundsException", q600, List.mem_of_getElem? (i := 4) rfl⟩, fun z hz => by cases hz⟩) (by decide) (by decide) q504 q515 15 rfl (fun q_ => ?_)
      refine s_astore_n C rfl (Nat.le_of_ble_eq_true rfl) [] rfl rfl dX0_ofClass_15 16 rfl ?_
      refine s_iconst C 2 rfl dX0_ofClass_16 17 rfl ?_
      exact x_iret C hret rfl dX0_ofClass_17
    exact Sx_none
theorem hdX0_ofClass : ((⟨"MasterTreeLaw", "ofClass", "(LMasterTree;I[J)I"⟩ : MethodName)).cls ≠ "java/lang/invoke/MethodHandle" ∧ ((⟨"MasterTreeLaw", "ofClass", "(LMasterTree;I[J)I"⟩ : MethodName)).cls ≠ "java/lang/invoke/VarHandle" ∧ (parseMethodDescriptor ((⟨"MasterTreeLaw", "ofClass", "(LMasterTree;I[J)I"⟩ : MethodName)).desc).map (fun d => d.parameters.length) = some 3 := ⟨by decide +kernel, by decide +kernel, by decide +kernel⟩
theorem ctX0_ofClass {l : Launch} {g : GG} (hst : l.stackTraces = false) (N : Nat) (m : Mm) (v0 : Option Nat) (v1 : Int32) (v2 : Option Nat) : ∀ v m' k n, fX0_ofClass (gE_ g) N m v0 v1 v2 = some (v, m', k, n) → Ct_ l g (⟨"MasterTreeLaw", "ofClass", "(LMasterTree;I[J)I"⟩ : MethodName) (wsW_ (⟨"MasterTreeLaw", "ofClass", "(LMasterTree;I[J)I"⟩ : MethodName) cX0_ofClass 4 (Option.some Jvm.ClassFile.FieldType.int) [(0, 9, 12, 19), (0, 9, 15, 13)]) 19 [vr_ v0, vi_ v1, vr_ v2] m (en_i v) m' k n :=
  Ct_ofW (by decide +kernel) rfl hst (Nat.le_of_ble_eq_true rfl) rfl (fun E C hret h0 hin => wX0_ofClass C hret h0 hin N m v0 v1 v2 0 0)
theorem wJ2_fastRemove_b34 {l : Launch} {g : GG} {E : Me_} (C : Cx_ l g E "java/util/ArrayList" cJ2_fastRemove 4 10) (hret : (eT_ E).sig.returnType = (Option.none : Option Jvm.ClassFile.FieldType)) (h0 : ∀ x ∈ (eC_ E).exceptionTable.toList, False) (hin : (eT_ E).name = "fastRemove") (N : Nat) : ∀ (m : Mm) (v0 : Option Nat) (v1 : Option Nat) (v3 : Int32) (k n : Nat), Sm_ l g E 4 en_v (fJ2_fastRemove_b34 (gE_ g) N m v0 v1 v3) k n 34 [(0, vr_ v0), (1, vr_ v1), (3, vi_ v3)] [] m := by
  intro m v0 v1 v3 k n
  unfold fJ2_fastRemove_b34
  refine s_aload_n C rfl 1 rfl dJ2_fastRemove_34 35 rfl ?_
  refine s_aload_n C rfl 0 rfl dJ2_fastRemove_35 36 rfl ?_
  refine s_iload_n C rfl 2 rfl dJ2_fastRemove_36 37 rfl ?_
  refine s_dup_x1 C rfl rfl dJ2_fastRemove_37 38 rfl ?_
  refine x_pi C 12 (RJ2, TJ2, 3) rfl 2 (Nat.le_of_ble_eq_true rfl) rfl q171 (Or.inl rfl) rfl trivial 13 rfl dJ2_fastRemove_38 41 rfl (fun m1 => ?_)
  refine s_null C dJ2_fastRemove_41 42 rfl ?_
  refine x_br C 4 "java/lang/Object" rfl _ caO 204 rfl dJ2_fastRemove_42 43 rfl (fun m2 => ?_)
  exact x_vret C hret rfl dJ2_fastRemove_43
theorem wJ2_fastRemove {l : Launch} {g : GG} {E : Me_} (C : Cx_ l g E "java/util/ArrayList" cJ2_fastRemove 4 10) (hret : (eT_ E).sig.returnType = (Option.none : Option Jvm.ClassFile.FieldType)) (h0 : ∀ x ∈ (eC_ E).exceptionTable.toList, False) (hin : (eT_ E).name = "fastRemove") (N : Nat) : ∀ (m : Mm) (v0 : Option Nat) (v1 : Option Nat) (v2 : Int32) (k n : Nat), Sm_ l g E 4 en_v (fJ2_fastRemove (gE_ g) N m v0 v1 v2) k n 0 [(0, vr_ v0), (1, vr_ v1), (2, vi_ v2)] [] m := by
  intro m v0 v1 v2 k n
  unfold fJ2_fastRemove
  refine s_aload_n C rfl 0 rfl dJ2_fastRemove_0 1 rfl ?_
  refine s_dup C rfl dJ2_fastRemove_1 2 rfl ?_
  refine x_gi C 12 (RJ2, TJ2, 3) rfl 0 (Nat.le_of_ble_eq_true rfl) q175 (Or.inr q174) rfl 13 rfl dJ2_fastRemove_2 5 rfl (fun x1 => ?_)
  refine s_iconst C 1 rfl dJ2_fastRemove_5 6 rfl ?_
  refine s_iadd C dJ2_fastRemove_6 7 rfl ?_
  refine x_pi C 12 (RJ2, TJ2, 3) rfl 0 (Nat.le_of_ble_eq_true rfl) rfl q175 (Or.inr q174) rfl trivial 13 rfl dJ2_fastRemove_7 10 rfl (fun m1 => ?_)
  refine s_aload_n C rfl 0 rfl dJ2_fastRemove_10 11 rfl ?_
  refine x_gi C 12 (RJ2, TJ2, 3) rfl 2 (Nat.le_of_ble_eq_true rfl) q171 (Or.inl rfl) rfl 13 rfl dJ2_fastRemove_11 14 rfl (fun x2 => ?_)
  refine s_iconst C 1 rfl dJ2_fastRemove_14 15 rfl ?_
  refine s_isub C dJ2_fastRemove_15 16 rfl ?_
  refine s_dup C rfl dJ2_fastRemove_16 17 rfl ?_
  refine s_istore_n C rfl (Nat.le_of_ble_eq_true rfl) [0, 1, 2] rfl rfl dJ2_fastRemove_17 18 rfl ?_
  refine s_iload_n C rfl 3 rfl dJ2_fastRemove_18 19 rfl ?_
  refine s_icmp_le C dJ2_fastRemove_19 34 rfl 22 rfl (fun c_ => ?_) (fun c_ => ?_)
  · refine s_aload_n C rfl 2 rfl dJ2_fastRemove_22 23 rfl ?_
    refine s_iload_n C rfl 3 rfl dJ2_fastRemove_23 24 rfl ?_
    refine s_iconst C 1 rfl dJ2_fastRemove_24 25 rfl ?_
    refine s_iadd C dJ2_fastRemove_25 26 rfl ?_
    refine s_aload_n C rfl 2 rfl dJ2_fastRemove_26 27 rfl ?_
    refine s_iload_n C rfl 3 rfl dJ2_fastRemove_27 28 rfl ?_
    refine s_iload_n C rfl 0 rfl dJ2_fastRemove_28 29 rfl ?_
    refine s_iload_n C rfl 3 rfl dJ2_fastRemove_29 30 rfl ?_
    refine s_isub C dJ2_fastRemove_30 31 rfl ?_
    refine x_ac C q1823 q442 q441 q92 (Nat.le_of_ble_eq_true rfl) (Nat.le_of_ble_eq_true rfl) dJ2_fastRemove_31 34 rfl (fun m2 => ?_)
    refine Sm_sub [1, 2, 0] rfl ?_
    exact wJ2_fastRemove_b34 C hret h0 hin N _ _ _ _ _ _
  · refine Sm_sub [1, 2, 0] rfl ?_
    exact wJ2_fastRemove_b34 C hret h0 hin N _ _ _ _ _ _
theorem hdJ2_fastRemove : ((⟨"java/util/ArrayList", "fastRemove", "([Ljava/lang/Object;I)V"⟩ : MethodName)).cls ≠ "java/lang/invoke/MethodHandle" ∧ ((⟨"java/util/ArrayList", "fastRemove", "([Ljava/lang/Object;I)V"⟩ : MethodName)).cls ≠ "java/lang/invoke/VarHandle" ∧ (parseMethodDescriptor ((⟨"java/util/ArrayList", "fastRemove", "([Ljava/lang/Object;I)V"⟩ : MethodName)).desc).map (fun d => d.parameters.length) = some 2 := ⟨by decide +kernel, by decide +kernel, by decide +kernel⟩
theorem ctJ2_fastRemove {l : Launch} {g : GG} (hst : l.stackTraces = false) (N : Nat) (m : Mm) (v0 : Option Nat) (v1 : Option Nat) (v2 : Int32) : ∀ v m' k n, fJ2_fastRemove (gE_ g) N m v0 v1 v2 = some (v, m', k, n) → Ct_ l g (⟨"java/util/ArrayList", "fastRemove", "([Ljava/lang/Object;I)V"⟩ : MethodName) (ws_ (⟨"java/util/ArrayList", "fastRemove", "([Ljava/lang/Object;I)V"⟩ : MethodName) cJ2_fastRemove 4 (Option.none : Option Jvm.ClassFile.FieldType)) 10 [vr_ v0, vr_ v1, vi_ v2] m (en_v v) m' k n :=
  Ct_of (by decide +kernel) rfl hst (Nat.le_of_ble_eq_true rfl) rfl (fun E C hret h0 hin => wJ2_fastRemove C hret h0 hin N m v0 v1 v2 0 0)
theorem wJ2_remove {l : Launch} {g : GG} {E : Me_} (C : Cx_ l g E "java/util/ArrayList" cJ2_remove 4 12) (hret : (eT_ E).sig.returnType = (Option.some (Jvm.ClassFile.FieldType.object "java/lang/Object"))) (h0 : ∀ x ∈ (eC_ E).exceptionTable.toList, False) (hin : (eT_ E).name = "remove") (N : Nat) : ∀ (m : Mm) (v0 : Option Nat) (v1 : Int32) (k n : Nat), Sm_ l g E 4 en_r (fJ2_remove (gE_ g) N m v0 v1) k n 0 [(0, vr_ v0), (1, vi_ v1)] [] m := by
  intro m v0 v1 k n
  unfold fJ2_remove
  refine s_iload_n C rfl 1 rfl dJ2_remove_0 1 rfl ?_
  refine s_aload_n C rfl 0 rfl dJ2_remove_1 2 rfl ?_
  refine x_gi C 12 (RJ2, TJ2, 3) rfl 2 (Nat.le_of_ble_eq_true rfl) q171 (Or.inl rfl) rfl 13 rfl dJ2_remove_2 5 rfl (fun x1 => ?_)
  refine x_callS (enc := en_i) C 11 2 [vi_ v1, vi_ x1] (ctJ23_checkIndex C.2.2.2.2.2.2.2.2.1 N m v1 x1) q896 q897 q110 q898 hdJ23_checkIndex (Nat.le_of_ble_eq_true rfl) (Nat.le_of_ble_eq_true rfl) rfl (Nat.le_of_ble_eq_true rfl) dJ2_remove_5 8 rfl rfl hen_i (kk_i (fun x2 m1 k1 n1 => ?_)) (kx_n he_i)
  refine s_pop C rfl dJ2_remove_8 9 rfl ?_
  refine s_aload_n C rfl 0 rfl dJ2_remove_9 10 rfl ?_
  refine x_gr C 12 (RJ2, TJ2, 3) rfl 1 (Nat.le_of_ble_eq_true rfl) q168 (Or.inl rfl) rfl 13 rfl dJ2_remove_10 13 rfl (fun x3 => ?_)
  refine s_astore_n C rfl (Nat.le_of_ble_eq_true rfl) [0, 1] rfl rfl dJ2_remove_13 14 rfl ?_
  refine s_aload_n C rfl 0 rfl dJ2_remove_14 15 rfl ?_
  refine s_iload_n C rfl 2 rfl dJ2_remove_15 16 rfl ?_
  refine x_ar C 4 (.object "java/lang/Object") rfl rfl rfl 204 rfl dJ2_remove_16 17 rfl (fun x4 => ?_)
  refine s_astore_n C rfl (Nat.le_of_ble_eq_true rfl) [0, 1, 2] rfl rfl dJ2_remove_17 18 rfl ?_
  refine s_aload_n C rfl 2 rfl dJ2_remove_18 19 rfl ?_
  refine s_aload_n C rfl 1 rfl dJ2_remove_19 20 rfl ?_
  refine s_iload_n C rfl 3 rfl dJ2_remove_20 21 rfl ?_
  refine x_ck (fun hb_ hb0_ => ?_)
  refine x_callV (enc := en_v) C 10 2 [vr_ x3, vi_ v1] 13 (ctJ2_fastRemove C.2.2.2.2.2.2.2.2.1 N m1 v0 x3 v1) hb_ hb0_ rfl rfl q2176 q2178 qs21 q84 q2179 hdJ2_fastRemove (Nat.le_of_ble_eq_true rfl) (Nat.le_of_ble_eq_true rfl) rfl (Nat.le_of_ble_eq_true rfl) dJ2_remove_21 24 rfl rfl hen_v (kk_v (fun m2 k1 n1 => ?_)) (kx_n he_v)
  refine s_aload_n C rfl 0 rfl dJ2_remove_24 25 rfl ?_
  exact x_aret C hret (Or.inl ⟨_, rfl⟩) rfl dJ2_remove_25
theorem hdJ2_remove : ((⟨"java/util/ArrayList", "remove", "(I)Ljava/lang/Object;"⟩ : MethodName)).cls ≠ "java/lang/invoke/MethodHandle" ∧ ((⟨"java/util/ArrayList", "remove", "(I)Ljava/lang/Object;"⟩ : MethodName)).cls ≠ "java/lang/invoke/VarHandle" ∧ (parseMethodDescriptor ((⟨"java/util/ArrayList", "remove", "(I)Ljava/lang/Object;"⟩ : MethodName)).desc).map (fun d => d.parameters.length) = some 1 := ⟨by decide +kernel, by decide +kernel, by decide +kernel⟩
theorem ctJ2_remove {l : Launch} {g : GG} (hst : l.stackTraces = false) (N : Nat) (m : Mm) (v0 : Option Nat) (v1 : Int32) : ∀ v m' k n, fJ2_remove (gE_ g) N m v0 v1 = some (v, m', k, n) → Ct_ l g (⟨"java/util/ArrayList", "remove", "(I)Ljava/lang/Object;"⟩ : MethodName) (ws_ (⟨"java/util/ArrayList", "remove", "(I)Ljava/lang/Object;"⟩ : MethodName) cJ2_remove 4 (Option.some (Jvm.ClassFile.FieldType.object "java/lang/Object"))) 12 [vr_ v0, vi_ v1] m (en_r v) m' k n :=
  Ct_of (by decide +kernel) rfl hst (Nat.le_of_ble_eq_true rfl) rfl (fun E C hret h0 hin => wJ2_remove C hret h0 hin N m v0 v1 0 0)
theorem wX8_init_t10 {l : Launch} {g : GG} {E : Me_} (C : Cx_ l g E "MasterTree$Filter" cX8_init 1 10) (hret : (eT_ E).sig.returnType = (Option.none : Option Jvm.ClassFile.FieldType)) (h0 : ∀ x ∈ (eC_ E).exceptionTable.toList, False) (hin : (eT_ E).name = "<init>") (N : Nat) : ∀ (m : Mm) (v0 : Option Nat) (k n : Nat), Sm_ l g E 1 en_v (fX8_init_t10 (gE_ g) N m v0) k n 0 [(0, vr_ v0)] [] m := by
  intro m v0 k n
  unfold fX8_init_t10
  refine s_aload_n C rfl 0 rfl dX8_init_0 1 rfl ?_
  refine x_ok (fun hb_ => ?_)
  refine x_obj C hb_ q2571 q152 q153 (by decide) (Nat.le_of_ble_eq_true rfl) dX8_init_1 4 rfl ?_
  exact x_vret C hret rfl dX8_init_4
theorem hdX8_init_t10 : ((⟨"MasterTree$Filter", "<init>", "()V"⟩ : MethodName)).cls ≠ "java/lang/invoke/MethodHandle" ∧ ((⟨"MasterTree$Filter", "<init>", "()V"⟩ : MethodName)).cls ≠ "java/lang/invoke/VarHandle" ∧ (parseMethodDescriptor ((⟨"MasterTree$Filter", "<init>", "()V"⟩ : MethodName)).desc).map (fun d => d.parameters.length) = some 0 := ⟨by decide +kernel, by decide +kernel, by decide +kernel⟩
theorem ctX8_init_t10 {l : Launch} {g : GG} (hst : l.stackTraces = false) (N : Nat) (m : Mm) (v0 : Option Nat) : ∀ v m' k n, fX8_init_t10 (gE_ g) N m v0 = some (v, m', k, n) → Ct_ l g (⟨"MasterTree$Filter", "<init>", "()V"⟩ : MethodName) (ws_ (⟨"MasterTree$Filter", "<init>", "()V"⟩ : MethodName) cX8_init 1 (Option.none : Option Jvm.ClassFile.FieldType)) 10 [vr_ v0] m (en_v v) m' k n :=
  Ct_of (by decide +kernel) rfl hst (Nat.le_of_ble_eq_true rfl) rfl (fun E C hret h0 hin => wX8_init_t10 C hret h0 hin N m v0 0 0)
theorem wX11_init {l : Launch} {g : GG} {E : Me_} (C : Cx_ l g E "MasterTree$Combined" cX11_init 4 11) (hret : (eT_ E).sig.returnType = (Option.none : Option Jvm.ClassFile.FieldType)) (h0 : ∀ x ∈ (eC_ E).exceptionTable.toList, False) (hin : (eT_ E).name = "<init>") (N : Nat) : ∀ (m : Mm) (v0 : Option Nat) (v1 : Option Nat) (v2 : Option Nat) (v3 : Int32) (k n : Nat), Sm_ l g E 4 en_v (fX11_init (gE_ g) N m v0 v1 v2 v3) k n 0 [(0, vr_ v0), (1, vr_ v1), (2, vr_ v2), (3, vi_ v3)] [] m := by
  intro m v0 v1 v2 v3 k n
  unfold fX11_init
  refine s_aload_n C rfl 0 rfl dX11_init_0 1 rfl ?_
  refine x_ok (fun hb0_ => ?_)
  refine x_callIN (enc := en_v) C 10 0 [] (ctX8_init_t10 C.2.2.2.2.2.2.2.2.1 N m v0) hb0_ rfl q2639 q2569 q138 q2570 rfl hdX8_init_t10 (Nat.le_of_ble_eq_true rfl) (Nat.le_of_ble_eq_true rfl) rfl (Nat.le_of_ble_eq_true rfl) dX11_init_1 4 rfl rfl hen_v (kk_v (fun m1 k1 n1 => ?_)) (kx_n he_v)
  refine s_aload_n C rfl 0 rfl dX11_init_4 5 rfl ?_
  refine s_aload_n C rfl 1 rfl dX11_init_5 6 rfl ?_
  refine x_prF C hin 9 (RX11, TX11, 3) rfl 0 (Nat.le_of_ble_eq_true rfl) rfl q2640 rfl rfl trivial 10 rfl dX11_init_6 9 rfl (fun m2 => ?_)
  refine s_aload_n C rfl 0 rfl dX11_init_9 10 rfl ?_
  refine s_aload_n C rfl 2 rfl dX11_init_10 11 rfl ?_
  refine x_prF C hin 9 (RX11, TX11, 3) rfl 1 (Nat.le_of_ble_eq_true rfl) rfl q2641 rfl rfl trivial 10 rfl dX11_init_11 14 rfl (fun m3 => ?_)
  refine s_aload_n C rfl 0 rfl dX11_init_14 15 rfl ?_
  refine s_iload_n C rfl 3 rfl dX11_init_15 16 rfl ?_
  refine x_pzF C hin 9 (RX11, TX11, 3) rfl 2 (Nat.le_of_ble_eq_true rfl) rfl q2642 rfl rfl (Or.inl rfl) 10 rfl dX11_init_16 19 rfl (fun m4 => ?_)
  exact x_vret C hret rfl dX11_init_19
theorem hdX11_init : ((⟨"MasterTree$Combined", "<init>", "(LMasterTree$Filter;LMasterTree$Filter;Z)V"⟩ : MethodName)).cls ≠ "java/lang/invoke/MethodHandle" ∧ ((⟨"MasterTree$Combined", "<init>", "(LMasterTree$Filter;LMasterTree$Filter;Z)V"⟩ : MethodName)).cls ≠ "java/lang/invoke/VarHandle" ∧ (parseMethodDescriptor ((⟨"MasterTree$Combined", "<init>", "(LMasterTree$Filter;LMasterTree$Filter;Z)V"⟩ : MethodName)).desc).map (fun d => d.parameters.length) = some 3 := ⟨by decide +kernel, by decide +kernel, by decide +kernel⟩
theorem ctX11_init {l : Launch} {g : GG} (hst : l.stackTraces = false) (N : Nat) (m : Mm) (v0 : Option Nat) (v1 : Option Nat) (v2 : Option Nat) (v3 : Int32) : ∀ v m' k n, fX11_init (gE_ g) N m v0 v1 v2 v3 = some (v, m', k, n) → Ct_ l g (⟨"MasterTree$Combined", "<init>", "(LMasterTree$Filter;LMasterTree$Filter;Z)V"⟩ : MethodName) (ws_ (⟨"MasterTree$Combined", "<init>", "(LMasterTree$Filter;LMasterTree$Filter;Z)V"⟩ : MethodName) cX11_init 4 (Option.none : Option Jvm.ClassFile.FieldType)) 11 [vr_ v0, vr_ v1, vr_ v2, vi_ v3] m (en_v v) m' k n :=
  Ct_of (by decide +kernel) rfl hst (Nat.le_of_ble_eq_true rfl) rfl (fun E C hret h0 hin => wX11_init C hret h0 hin N m v0 v1 v2 v3 0 0)
theorem wX1_combine_b27 {l : Launch} {g : GG} {E : Me_} (C : Cx_ l g E "MasterTree" cX1_combine 4 17) (hret : (eT_ E).sig.returnType = (Option.some Jvm.ClassFile.FieldType.int)) (h0 : ∀ x ∈ (eC_ E).exceptionTable.toList, False) (hin : (eT_ E).name = "combine") (N : Nat) : ∀ (m : Mm) (v0 : Option Nat) (v1 : Int32) (s0 : Int32) (k n : Nat), Sm_ l g E 4 (xe_ en_i) (fX1_combine_b27 (gE_ g) N m v0 v1 s0) k n 27 [(0, vr_ v0), (1, vi_ v1)] [vi_ s0] m := by
  intro m v0 v1 s0 k n
  unfold fX1_combine_b27
  refine x_lsw C 34 34 rfl dX1_combine_27 30 rfl ?_
  refine x_callS (enc := (xe_ en_v)) C 10 2 [vi_ s0, vr_ (some (gE_ g (100 + 34)))] (ctX1_must C.2.2.2.2.2.2.2.2.1 N m s0 (some (gE_ g (100 + 34)))) q510 q511 q81 q512 hdX1_must (Nat.le_of_ble_eq_true rfl) (Nat.le_of_ble_eq_true rfl) rfl (Nat.le_of_ble_eq_true rfl) dX1_combine_30 33 rfl rfl (hen_x hen_v) (kk_x (kk_v (fun m1 k1 n1 => ?_))) (kx_x C h0 he_v)
  refine s_aload_n C rfl 0 rfl dX1_combine_33 34 rfl ?_
  refine x_gr C 0 (RX1, TX1, 9) rfl 4 (Nat.le_of_ble_eq_true rfl) q450 (Or.inl rfl) rfl 1 rfl dX1_combine_34 37 rfl (fun x1 => ?_)
  refine s_aload_n C rfl 0 rfl dX1_combine_37 38 rfl ?_
  refine x_gr C 0 (RX1, TX1, 9) rfl 4 (Nat.le_of_ble_eq_true rfl) q450 (Or.inl rfl) rfl 1 rfl dX1_combine_38 41 rfl (fun x2 => ?_)
  refine x_ck (fun hb_ hb0_ => ?_)
  refine x_callF (enc := en_i) C 10 0 [] 13 (ctJ2_size C.2.2.2.2.2.2.2.2.1 N m1 x2) hb_ hb0_ rfl rfl rfl fw_1 q480 q483 q485 q84 q487 hx1 (Nat.le_of_ble_eq_true rfl) (Nat.le_of_ble_eq_true rfl) rfl (Nat.le_of_ble_eq_true rfl) dX1_combine_41 46 rfl rfl hen_i (kk_i (fun x3 m2 k1 n1 => ?_)) (kx_n he_i)
  refine s_iconst C 1 rfl dX1_combine_46 47 rfl ?_
  refine s_isub C dX1_combine_47 48 rfl ?_
  refine x_ck (fun hb_ hb0_ => ?_)
  refine x_callF (enc := en_r) C 12 1 [vi_ (x3 - 1)] 13 (ctJ2_remove C.2.2.2.2.2.2.2.2.1 N m2 x1 (x3 - 1)) hb_ hb0_ rfl rfl rfl fw_50 q2627 q2630 q2173 q84 q2175 hx20 (Nat.le_of_ble_eq_true rfl) (Nat.le_of_ble_eq_true rfl) rfl (Nat.le_of_ble_eq_true rfl) dX1_combine_48 53 rfl rfl hen_r (kk_r (fun x4 m3 k1 n1 => ?_)) (kx_n he_r)
  refine x_cc C "MasterTree$Filter" [8, 9, 10, 11] (fun k hk => by
      simp only [List.mem_cons, List.not_mem_nil, or_false] at hk
      rcases hk with h | h | h | h <;> subst h
      · exact ⟨rfl, Or.inl q3745⟩
      · exact ⟨rfl, Or.inl q3744⟩
      · exact ⟨rfl, Or.inl q3746⟩
      · exact ⟨rfl, Or.inl q3747⟩) q2633 dX1_combine_53 56 rfl ?_
  refine s_astore_n C rfl (Nat.le_of_ble_eq_true rfl) [0, 1] rfl rfl dX1_combine_56 57 rfl ?_
  refine s_aload_n C rfl 1 rfl dX1_combine_57 58 rfl ?_
  refine x_gr C 0 (RX1, TX1, 9) rfl 4 (Nat.le_of_ble_eq_true rfl) q450 (Or.inl rfl) rfl 1 rfl dX1_combine_58 61 rfl (fun x5 => ?_)
  refine s_aload_n C rfl 1 rfl dX1_combine_61 62 rfl ?_
  refine x_gr C 0 (RX1, TX1, 9) rfl 4 (Nat.le_of_ble_eq_true rfl) q450 (Or.inl rfl) rfl 1 rfl dX1_combine_62 65 rfl (fun x6 => ?_)
  refine x_ck (fun hb_ hb0_ => ?_)
  refine x_callF (enc := en_i) C 10 0 [] 13 (ctJ2_size C.2.2.2.2.2.2.2.2.1 N m3 x6) hb_ hb0_ rfl rfl rfl fw_1 q480 q483 q485 q84 q487 hx1 (Nat.le_of_ble_eq_true rfl) (Nat.le_of_ble_eq_true rfl) rfl (Nat.le_of_ble_eq_true rfl) dX1_combine_65 70 rfl rfl hen_i (kk_i (fun x7 m4 k1 n1 => ?_)) (kx_n he_i)
  refine s_iconst C 1 rfl dX1_combine_70 71 rfl ?_
  refine s_isub C dX1_combine_71 72 rfl ?_
  refine x_ck (fun hb_ hb0_ => ?_)
  refine x_callF (enc := en_r) C 12 1 [vi_ (x7 - 1)] 13 (ctJ2_remove C.2.2.2.2.2.2.2.2.1 N m4 x5 (x7 - 1)) hb_ hb0_ rfl rfl rfl fw_50 q2627 q2630 q2173 q84 q2175 hx20 (Nat.le_of_ble_eq_true rfl) (Nat.le_of_ble_eq_true rfl) rfl (Nat.le_of_ble_eq_true rfl) dX1_combine_72 77 rfl rfl hen_r (kk_r (fun x8 m5 k1 n1 => ?_)) (kx_n he_r)
  refine x_cc C "MasterTree$Filter" [8, 9, 10, 11] (fun k hk => by
      simp only [List.mem_cons, List.not_mem_nil, or_false] at hk
      rcases hk with h | h | h | h <;> subst h
      · exact ⟨rfl, Or.inl q3745⟩
      · exact ⟨rfl, Or.inl q3744⟩
      · exact ⟨rfl, Or.inl q3746⟩
      · exact ⟨rfl, Or.inl q3747⟩) q2633 dX1_combine_77 80 rfl ?_
  refine s_astore_n C rfl (Nat.le_of_ble_eq_true rfl) [0, 1, 2] rfl rfl dX1_combine_80 81 rfl ?_
  refine s_aload_n C rfl 2 rfl dX1_combine_81 82 rfl ?_
  refine x_nw C 9 (RX11, TX11, 3) rfl q2634 q2635 q141 10 3 rfl rfl dX1_combine_82 85 rfl (fun x9 m6 => ?_)
  refine s_dup C rfl dX1_combine_85 86 rfl ?_
  refine s_aload_n C rfl 0 rfl dX1_combine_86 87 rfl ?_
  refine s_aload_n C rfl 1 rfl dX1_combine_87 88 rfl ?_
  refine s_iload_n C rfl 3 rfl dX1_combine_88 89 rfl ?_
  refine x_callI (enc := en_v) C 11 3 [vr_ x8, vr_ x4, vi_ v1] (ctX11_init C.2.2.2.2.2.2.2.2.1 N m6 (some x9) x8 x4 v1) (fun h => by cases h) rfl q2636 q2637 q141 q2638 rfl hdX11_init (Nat.le_of_ble_eq_true rfl) (Nat.le_of_ble_eq_true rfl) rfl (Nat.le_of_ble_eq_true rfl) dX1_combine_89 92 rfl rfl hen_v (kk_v (fun m7 k1 n1 => ?_)) (kx_n he_v)
  refine x_ck (fun hb_ hb0_ => ?_)
  refine x_callV (enc := (xe_ en_i)) C 16 1 [vr_ (some x9)] 1 (ctX1_puts C.2.2.2.2.2.2.2.2.1 N m7 v0 (some x9)) hb_ hb0_ rfl rfl q2582 q2584 qs27 q81 q2585 hdX1_puts (Nat.le_of_ble_eq_true rfl) (Nat.le_of_ble_eq_true rfl) rfl (Nat.le_of_ble_eq_true rfl) dX1_combine_92 95 rfl rfl (hen_x hen_i) (kk_x (kk_i (fun x10 m8 k1 n1 => ?_))) (kx_x C h0 he_i)
  exact x_iret C hret rfl dX1_combine_95
theorem wX1_combine_b26 {l : Launch} {g : GG} {E : Me_} (C : Cx_ l g E "MasterTree" cX1_combine 4 17) (hret : (eT_ E).sig.returnType = (Option.some Jvm.ClassFile.FieldType.int)) (h0 : ∀ x ∈ (eC_ E).exceptionTable.toList, False) (hin : (eT_ E).name = "combine") (N : Nat) : ∀ (m : Mm) (v0 : Option Nat) (v1 : Int32) (k n : Nat), Sm_ l g E 4 (xe_ en_i) (fX1_combine_b26 (gE_ g) N m v0 v1) k n 26 [(0, vr_ v0), (1, vi_ v1)] [] m := by
  intro m v0 v1 k n
  unfold fX1_combine_b26
  refine s_iconst C 0 rfl dX1_combine_26 27 rfl ?_
  exact wX1_combine_b27 C hret h0 hin N _ _ _ _ _ _
theorem wX1_combine {l : Launch} {g : GG} {E : Me_} (C : Cx_ l g E "MasterTree" cX1_combine 4 17) (hret : (eT_ E).sig.returnType = (Option.some Jvm.ClassFile.FieldType.int)) (h0 : ∀ x ∈ (eC_ E).exceptionTable.toList, False) (hin : (eT_ E).name = "combine") (N : Nat) : ∀ (m : Mm) (v0 : Option Nat) (v1 : Int32) (k n : Nat), Sm_ l g E 4 (xe_ en_i) (fX1_combine (gE_ g) N m v0 v1) k n 0 [(0, vr_ v0), (1, vi_ v1)] [] m := by
  intro m v0 v1 k n
  unfold fX1_combine
  refine s_aload_n C rfl 0 rfl dX1_combine_0 1 rfl ?_
  refine x_gr C 0 (RX1, TX1, 9) rfl 4 (Nat.le_of_ble_eq_true rfl) q450 (Or.inl rfl) rfl 1 rfl dX1_combine_1 4 rfl (fun x1 => ?_)
  refine x_ck (fun hb_ hb0_ => ?_)
  refine x_callF (enc := en_i) C 10 0 [] 13 (ctJ2_size C.2.2.2.2.2.2.2.2.1 N m x1) hb_ hb0_ rfl rfl rfl fw_1 q480 q483 q485 q84 q487 hx1 (Nat.le_of_ble_eq_true rfl) (Nat.le_of_ble_eq_true rfl) rfl (Nat.le_of_ble_eq_true rfl) dX1_combine_4 9 rfl rfl hen_i (kk_i (fun x2 m1 k1 n1 => ?_)) (kx_n he_i)
  refine s_iconst C 1 rfl dX1_combine_9 10 rfl ?_
  refine s_icmp_le C dX1_combine_10 26 rfl 13 rfl (fun c_ => ?_) (fun c_ => ?_)
  · refine s_aload_n C rfl 0 rfl dX1_combine_13 14 rfl ?_
    refine x_gi C 0 (RX1, TX1, 9) rfl 5 (Nat.le_of_ble_eq_true rfl) q451 (Or.inl rfl) rfl 1 rfl dX1_combine_14 17 rfl (fun x3 => ?_)
    refine s_bipush C 15 rfl dX1_combine_17 19 rfl ?_
    refine s_icmp_ge C dX1_combine_19 26 rfl 22 rfl (fun c_ => ?_) (fun c_ => ?_)
    · refine s_iconst C 1 rfl dX1_combine_22 23 rfl ?_
      refine s_goto C (off := 4) 27 dX1_combine_23 rfl ?_
      exact wX1_combine_b27 C hret h0 hin N _ _ _ _ _ _
    · exact wX1_combine_b26 C hret h0 hin N _ _ _ _ _
  · exact wX1_combine_b26 C hret h0 hin N _ _ _ _ _
theorem hdX1_combine : ((⟨"MasterTree", "combine", "(Z)I"⟩ : MethodName)).cls ≠ "java/lang/invoke/MethodHandle" ∧ ((⟨"MasterTree", "combine", "(Z)I"⟩ : MethodName)).cls ≠ "java/lang/invoke/VarHandle" ∧ (parseMethodDescriptor ((⟨"MasterTree", "combine", "(Z)I"⟩ : MethodName)).desc).map (fun d => d.parameters.length) = some 1 := ⟨by decide +kernel, by decide +kernel, by decide +kernel⟩
theorem ctX1_combine {l : Launch} {g : GG} (hst : l.stackTraces = false) (N : Nat) (m : Mm) (v0 : Option Nat) (v1 : Int32) : ∀ v m' k n, fX1_combine (gE_ g) N m v0 v1 = some (v, m', k, n) → Ct_ l g (⟨"MasterTree", "combine", "(Z)I"⟩ : MethodName) (ws_ (⟨"MasterTree", "combine", "(Z)I"⟩ : MethodName) cX1_combine 4 (Option.some Jvm.ClassFile.FieldType.int)) 17 [vr_ v0, vi_ v1] m ((xe_ en_i) v) m' k n :=
  Ct_of (by decide +kernel) rfl hst (Nat.le_of_ble_eq_true rfl) rfl (fun E C hret h0 hin => wX1_combine C hret h0 hin N m v0 v1 0 0)
theorem wX0_combine {l : Launch} {g : GG} {E : Me_} (C : Cx_ l g E "MasterTreeLaw" cX0_combine 4 18) (hret : (eT_ E).sig.returnType = (Option.some Jvm.ClassFile.FieldType.int)) (h0 : (eC_ E).exceptionTable.toList = tableOf [(0, 9, 12, 13)]) (hin : (eT_ E).name = "combine") (N : Nat) : ∀ (m : Mm) (v0 : Option Nat) (v1 : Int32) (v2 : Option Nat) (k n : Nat), Sm_ l g E 4 en_i (fX0_combine (gE_ g) N m v0 v1 v2) k n 0 [(0, vr_ v0), (1, vi_ v1), (2, vr_ v2)] [] m := by
  intro m v0 v1 v2 k n
  unfold fX0_combine
  refine s_aload_n C rfl 2 rfl dX0_combine_0 1 rfl ?_
  refine s_iconst C 0 rfl dX0_combine_1 2 rfl ?_
  refine s_aload_n C rfl 0 rfl dX0_combine_2 3 rfl ?_
  refine s_iload_n C rfl 1 rfl dX0_combine_3 4 rfl ?_
  refine x_ck (fun hb_ hb0_ => ?_)
  refine x_callV (enc := (xe_ en_i)) C 17 1 [vi_ v1] 1 (ctX1_combine C.2.2.2.2.2.2.2.2.1 N m v0 v1) hb_ hb0_ rfl rfl q2621 q2622 q2623 q81 q2624 hdX1_combine (Nat.le_of_ble_eq_true rfl) (Nat.le_of_ble_eq_true rfl) rfl (Nat.le_of_ble_eq_true rfl) dX0_combine_4 7 rfl rfl (hen_x hen_i) (kk_c (kk_i (fun x1 m1 k1 n1 => ?_))) (kx_c he_i (fun i_ m0 k0 n0 => ?_))
  · refine s_i2l C dX0_combine_7 8 rfl ?_
    refine x_bj3 C 203 rfl dX0_combine_8 9 rfl (fun m2 => ?_)
    refine s_goto C (off := 6) 15 dX0_combine_9 rfl ?_
    refine s_iconst C 0 rfl dX0_combine_15 16 rfl ?_
    exact x_iret C hret rfl dX0_combine_16
  · refine Sx_if ?_ ?_
    · refine Sx_ctch C h0 2 [] ({ startPc := 0, endPc := 9, handlerPc := 12, catchType := 13 } : ExceptionTableEntry) [] rfl (fun z hz => by cases hz) (by decide) (by decide) q504 q515 12 rfl (fun q_ => ?_)
      refine s_astore_n C rfl (Nat.le_of_ble_eq_true rfl) [] rfl rfl dX0_combine_12 13 rfl ?_
      refine s_iconst C 1 rfl dX0_combine_13 14 rfl ?_
      exact x_iret C hret rfl dX0_combine_14
    exact Sx_none
theorem hdX0_combine : ((⟨"MasterTreeLaw", "combine", "(LMasterTree;Z[J)I"⟩ : MethodName)).cls ≠ "java/lang/invoke/MethodHandle" ∧ ((⟨"MasterTreeLaw", "combine", "(LMasterTree;Z[J)I"⟩ : MethodName)).cls ≠ "java/lang/invoke/VarHandle" ∧ (parseMethodDescriptor ((⟨"MasterTreeLaw", "combine", "(LMasterTree;Z[J)I"⟩ : MethodName)).desc).map (fun d => d.parameters.length) = some 3 := ⟨by decide +kernel, by decide +kernel, by decide +kernel⟩
theorem ctX0_combine {l : Launch} {g : GG} (hst : l.stackTraces = false) (N : Nat) (m : Mm) (v0 : Option Nat) (v1 : Int32) (v2 : Option Nat) : ∀ v m' k n, fX0_combine (gE_ g) N m v0 v1 v2 = some (v, m', k, n) → Ct_ l g (⟨"MasterTreeLaw", "combine", "(LMasterTree;Z[J)I"⟩ : MethodName) (wsW_ (⟨"MasterTreeLaw", "combine", "(LMasterTree;Z[J)I"⟩ : MethodName) cX0_combine 4 (Option.some Jvm.ClassFile.FieldType.int) [(0, 9, 12, 13)]) 18 [vr_ v0, vi_ v1, vr_ v2] m (en_i v) m' k n :=
  Ct_ofW (by decide +kernel) rfl hst (Nat.le_of_ble_eq_true rfl) rfl (fun E C hret h0 hin => wX0_combine C hret h0 hin N m v0 v1 v2 0 0)
theorem wX8_init_t11 {l : Launch} {g : GG} {E : Me_} (C : Cx_ l g E "MasterTree$Filter" cX8_init 1 10) (hret : (eT_ E).sig.returnType = (Option.none : Option Jvm.ClassFile.FieldType)) (h0 : ∀ x ∈ (eC_ E).exceptionTable.toList, False) (hin : (eT_ E).name = "<init>") (N : Nat) : ∀ (m : Mm) (v0 : Option Nat) (k n : Nat), Sm_ l g E 1 en_v (fX8_init_t11 (gE_ g) N m v0) k n 0 [(0, vr_ v0)] [] m := by
  intro m v0 k n
  unfold fX8_init_t11
  refine s_aload_n C rfl 0 rfl dX8_init_0 1 rfl ?_
  refine x_ok (fun hb_ => ?_)
  refine x_obj C hb_ q2571 q152 q153 (by decide) (Nat.le_of_ble_eq_true rfl) dX8_init_1 4 rfl ?_
  exact x_vret C hret rfl dX8_init_4
theorem hdX8_init_t11 : ((⟨"MasterTree$Filter", "<init>", "()V"⟩ : MethodName)).cls ≠ "java/lang/invoke/MethodHandle" ∧ ((⟨"MasterTree$Filter", "<init>", "()V"⟩ : MethodName)).cls ≠ "java/lang/invoke/VarHandle" ∧ (parseMethodDescriptor ((⟨"MasterTree$Filter", "<init>", "()V"⟩ : MethodName)).desc).map (fun d => d.parameters.length) = some 0 := ⟨by decide +kernel, by decide +kernel, by decide +kernel⟩
theorem ctX8_init_t11 {l : Launch} {g : GG} (hst : l.stackTraces = false) (N : Nat) (m : Mm) (v0 : Option Nat) : ∀ v m' k n, fX8_init_t11 (gE_ g) N m v0 = some (v, m', k, n) → Ct_ l g (⟨"MasterTree$Filter", "<init>", "()V"⟩ : MethodName) (ws_ (⟨"MasterTree$Filter", "<init>", "()V"⟩ : MethodName) cX8_init 1 (Option.none : Option Jvm.ClassFile.FieldType)) 10 [vr_ v0] m (en_v v) m' k n :=
  Ct_of (by decide +kernel) rfl hst (Nat.le_of_ble_eq_true rfl) rfl (fun E C hret h0 hin => wX8_init_t11 C hret h0 hin N m v0 0 0)
theorem wX12_init {l : Launch} {g : GG} {E : Me_} (C : Cx_ l g E "MasterTree$Not" cX12_init 2 11) (hret : (eT_ E).sig.returnType = (Option.none : Option Jvm.ClassFile.FieldType)) (h0 : ∀ x ∈ (eC_ E).exceptionTable.toList, False) (hin : (eT_ E).name = "<init>") (N : Nat) : ∀ (m : Mm) (v0 : Option Nat) (v1 : Option Nat) (k n : Nat), Sm_ l g E 2 en_v (fX12_init (gE_ g) N m v0 v1) k n 0 [(0, vr_ v0), (1, vr_ v1)] [] m := by
  intro m v0 v1 k n
  unfold fX12_init
  refine s_aload_n C rfl 0 rfl dX12_init_0 1 rfl ?_
  refine x_ok (fun hb0_ => ?_)
  refine x_callIN (enc := en_v) C 10 0 [] (ctX8_init_t11 C.2.2.2.2.2.2.2.2.1 N m v0) hb0_ rfl q2665 q2569 q138 q2570 rfl hdX8_init_t11 (Nat.le_of_ble_eq_true rfl) (Nat.le_of_ble_eq_true rfl) rfl (Nat.le_of_ble_eq_true rfl) dX12_init_1 4 rfl rfl hen_v (kk_v (fun m1 k1 n1 => ?_)) (kx_n he_v)
  refine s_aload_n C rfl 0 rfl dX12_init_4 5 rfl ?_
  refine s_aload_n C rfl 1 rfl dX12_init_5 6 rfl ?_
  refine x_prF C hin 10 (RX12, TX12, 1) rfl 0 (Nat.le_of_ble_eq_true rfl) rfl q2666 rfl rfl trivial 11 rfl dX12_init_6 9 rfl (fun m2 => ?_)
  exact x_vret C hret rfl dX12_init_9
theorem hdX12_init : ((⟨"MasterTree$Not", "<init>", "(LMasterTree$Filter;)V"⟩ : MethodName)).cls ≠ "java/lang/invoke/MethodHandle" ∧ ((⟨"MasterTree$Not", "<init>", "(LMasterTree$Filter;)V"⟩ : MethodName)).cls ≠ "java/lang/invoke/VarHandle" ∧ (parseMethodDescriptor ((⟨"MasterTree$Not", "<init>", "(LMasterTree$Filter;)V"⟩ : MethodName)).desc).map (fun d => d.parameters.length) = some 1 := ⟨by decide +kernel, by decide +kernel, by decide +kernel⟩
theorem ctX12_init {l : Launch} {g : GG} (hst : l.stackTraces = false) (N : Nat) (m : Mm) (v0 : Option Nat) (v1 : Option Nat) : ∀ v m' k n, fX12_init (gE_ g) N m v0 v1 = some (v, m', k, n) → Ct_ l g (⟨"MasterTree$Not", "<init>", "(LMasterTree$Filter;)V"⟩ : MethodName) (ws_ (⟨"MasterTree$Not", "<init>", "(LMasterTree$Filter;)V"⟩ : MethodName) cX12_init 2 (Option.none : Option Jvm.ClassFile.FieldType)) 11 [vr_ v0, vr_ v1] m (en_v v) m' k n :=
  Ct_of (by decide +kernel) rfl hst (Nat.le_of_ble_eq_true rfl) rfl (fun E C hret h0 hin => wX12_init C hret h0 hin N m v0 v1 0 0)
theorem wX1_not_b26 {l : Launch} {g : GG} {E : Me_} (C : Cx_ l g E "MasterTree" cX1_not 2 17) (hret : (eT_ E).sig.returnType = (Option.some Jvm.ClassFile.FieldType.int)) (h0 : ∀ x ∈ (eC_ E).exceptionTable.toList, False) (hin : (eT_ E).name = "not") (N : Nat) : ∀ (m : Mm) (v0 : Option Nat) (s0 : Int32) (k n : Nat), Sm_ l g E 2 (xe_ en_i) (fX1_not_b26 (gE_ g) N m v0 s0) k n 26 [(0, vr_ v0)] [vi_ s0] m := by
  intro m v0 s0 k n
  unfold fX1_not_b26
  refine x_lsw C 35 35 rfl dX1_not_26 29 rfl ?_
  refine x_callS (enc := (xe_ en_v)) C 10 2 [vi_ s0, vr_ (some (gE_ g (100 + 35)))] (ctX1_must C.2.2.2.2.2.2.2.2.1 N m s0 (some (gE_ g (100 + 35)))) q510 q511 q81 q512 hdX1_must (Nat.le_of_ble_eq_true rfl) (Nat.le_of_ble_eq_true rfl) rfl (Nat.le_of_ble_eq_true rfl) dX1_not_29 32 rfl rfl (hen_x hen_v) (kk_x (kk_v (fun m1 k1 n1 => ?_))) (kx_x C h0 he_v)
  refine s_aload_n C rfl 0 rfl dX1_not_32 33 rfl ?_
  refine x_gr C 0 (RX1, TX1, 9) rfl 4 (Nat.le_of_ble_eq_true rfl) q450 (Or.inl rfl) rfl 1 rfl dX1_not_33 36 rfl (fun x1 => ?_)
  refine s_aload_n C rfl 0 rfl dX1_not_36 37 rfl ?_
  refine x_gr C 0 (RX1, TX1, 9) rfl 4 (Nat.le_of_ble_eq_true rfl) q450 (Or.inl rfl) rfl 1 rfl dX1_not_37 40 rfl (fun x2 => ?_)
  refine x_ck (fun hb_ hb0_ => ?_)
  refine x_callF (enc := en_i) C 10 0 [] 13 (ctJ2_size C.2.2.2.2.2.2.2.2.1 N m1 x2) hb_ hb0_ rfl rfl rfl fw_1 q480 q483 q485 q84 q487 hx1 (Nat.le_of_ble_eq_true rfl) (Nat.le_of_ble_eq_true rfl) rfl (Nat.le_of_ble_eq_true rfl) dX1_not_40 45 rfl rfl hen_i (kk_i (fun x3 m2 k1 n1 => ?_)) (kx_n he_i)
  refine s_iconst C 1 rfl dX1_not_45 46 rfl ?_
  refine s_isub C dX1_not_46 47 rfl ?_
  refine x_ck (fun hb_ hb0_ => ?_)
  refine x_callF (enc := en_r) C 12 1 [vi_ (x3 - 1)] 13 (ctJ2_remove C.2.2.2.2.2.2.2.2.1 N m2 x1 (x3 - 1)) hb_ hb0_ rfl rfl rfl fw_50 q2627 q2630 q2173 q84 q2175 hx20 (Nat.le_of_ble_eq_true rfl) (Nat.le_of_ble_eq_true rfl) rfl (Nat.le_of_ble_eq_true rfl) dX1_not_47 52 rfl rfl hen_r (kk_r (fun x4 m3 k1 n1 => ?_)) (kx_n he_r)
  refine x_cc C "MasterTree$Filter" [8, 9, 10, 11] (fun k hk => by
      simp only [List.mem_cons, List.not_mem_nil, or_false] at hk
      rcases hk with h | h | h | h <;> subst h
      · exact ⟨rfl, Or.inl q3745⟩
      · exact ⟨rfl, Or.inl q3744⟩
      · exact ⟨rfl, Or.inl q3746⟩
      · exact ⟨rfl, Or.inl q3747⟩) q2633 dX1_not_52 55 rfl ?_
  refine s_astore_n C rfl (Nat.le_of_ble_eq_true rfl) [0] rfl rfl dX1_not_55 56 rfl ?_
  refine s_aload_n C rfl 1 rfl dX1_not_56 57 rfl ?_
  refine x_nw C 10 (RX12, TX12, 1) rfl q2660 q2661 q142 11 1 rfl rfl dX1_not_57 60 rfl (fun x5 m4 => ?_)
  refine s_dup C rfl dX1_not_60 61 rfl ?_
  refine s_aload_n C rfl 0 rfl dX1_not_61 62 rfl ?_
  refine x_callI (enc := en_v) C 11 1 [vr_ x4] (ctX12_init C.2.2.2.2.2.2.2.2.1 N m4 (some x5) x4) (fun h => by cases h) rfl q2662 q2663 q142 q2664 rfl hdX12_init (Nat.le_of_ble_eq_true rfl) (Nat.le_of_ble_eq_true rfl) rfl (Nat.le_of_ble_eq_true rfl) dX1_not_62 65 rfl rfl hen_v (kk_v (fun m5 k1 n1 => ?_)) (kx_n he_v)
  refine x_ck (fun hb_ hb0_ => ?_)
  refine x_callV (enc := (xe_ en_i)) C 16 1 [vr_ (some x5)] 1 (ctX1_puts C.2.2.2.2.2.2.2.2.1 N m5 v0 (some x5)) hb_ hb0_ rfl rfl q2582 q2584 qs27 q81 q2585 hdX1_puts (Nat.le_of_ble_eq_true rfl) (Nat.le_of_ble_eq_true rfl) rfl (Nat.le_of_ble_eq_true rfl) dX1_not_65 68 rfl rfl (hen_x hen_i) (kk_x (kk_i (fun x6 m6 k1 n1 => ?_))) (kx_x C h0 he_i)
  exact x_iret C hret rfl dX1_not_68
theorem wX1_not_b25 {l : Launch} {g : GG} {E : Me_} (C : Cx_ l g E "MasterTree" cX1_not 2 17) (hret : (eT_ E).sig.returnType = (Option.some Jvm.ClassFile.FieldType.int)) (h0 : ∀ x ∈ (eC_ E).exceptionTable.toList, False) (hin : (eT_ E).name = "not") (N : Nat) : ∀ (m : Mm) (v0 : Option Nat) (k n : Nat), Sm_ l g E 2 (xe_ en_i) (fX1_not_b25 (gE_ g) N m v0) k n 25 [(0, vr_ v0)] [] m := by
  intro m v0 k n
  unfold fX1_not_b25
  refine s_iconst C 0 rfl dX1_not_25 26 rfl ?_
  exact wX1_not_b26 C hret h0 hin N _ _ _ _ _
theorem wX1_not {l : Launch} {g : GG} {E : Me_} (C : Cx_ l g E "MasterTree" cX1_not 2 17) (hret : (eT_ E).sig.returnType = (Option.some Jvm.ClassFile.FieldType.int)) (h0 : ∀ x ∈ (eC_ E).exceptionTable.toList, False) (hin : (eT_ E).name = "not") (N : Nat) : ∀ (m : Mm) (v0 : Option Nat) (k n : Nat), Sm_ l g E 2 (xe_ en_i) (fX1_not (gE_ g) N m v0) k n 0 [(0, vr_ v0)] [] m := by
  intro m v0 k n
  unfold fX1_not
  refine s_aload_n C rfl 0 rfl dX1_not_0 1 rfl ?_
  refine x_gr C 0 (RX1, TX1, 9) rfl 4 (Nat.le_of_ble_eq_true rfl) q450 (Or.inl rfl) rfl 1 rfl dX1_not_1 4 rfl (fun x1 => ?_)
  refine x_ck (fun hb_ hb0_ => ?_)
  refine x_callF (enc := en_i) C 10 0 [] 13 (ctJ2_isEmpty C.2.2.2.2.2.2.2.2.1 N m x1) hb_ hb0_ rfl rfl rfl fw_26 q2658 q1599 q1601 q84 q1603 hx15 (Nat.le_of_ble_eq_true rfl) (Nat.le_of_ble_eq_true rfl) rfl (Nat.le_of_ble_eq_true rfl) dX1_not_4 9 rfl rfl hen_i (kk_i (fun x2 m1 k1 n1 => ?_)) (kx_n he_i)
  refine s_if_ne C dX1_not_9 25 rfl 12 rfl (fun c_ => ?_) (fun c_ => ?_)
  · refine s_aload_n C rfl 0 rfl dX1_not_12 13 rfl ?_
    refine x_gi C 0 (RX1, TX1, 9) rfl 5 (Nat.le_of_ble_eq_true rfl) q451 (Or.inl rfl) rfl 1 rfl dX1_not_13 16 rfl (fun x3 => ?_)
    refine s_bipush C 15 rfl dX1_not_16 18 rfl ?_
    refine s_icmp_ge C dX1_not_18 25 rfl 21 rfl (fun c_ => ?_) (fun c_ => ?_)
    · refine s_iconst C 1 rfl dX1_not_21 22 rfl ?_
      refine s_goto C (off := 4) 26 dX1_not_22 rfl ?_
      exact wX1_not_b26 C hret h0 hin N _ _ _ _ _
    · exact wX1_not_b25 C hret h0 hin N _ _ _ _
  · exact wX1_not_b25 C hret h0 hin N _ _ _ _
theorem hdX1_not : ((⟨"MasterTree", "not", "()I"⟩ : MethodName)).cls ≠ "java/lang/invoke/MethodHandle" ∧ ((⟨"MasterTree", "not", "()I"⟩ : MethodName)).cls ≠ "java/lang/invoke/VarHandle" ∧ (parseMethodDescriptor ((⟨"MasterTree", "not", "()I"⟩ : MethodName)).desc).map (fun d => d.parameters.length) = some 0 := ⟨by decide +kernel, by decide +kernel, by decide +kernel⟩
theorem ctX1_not {l : Launch} {g : GG} (hst : l.stackTraces = false) (N : Nat) (m : Mm) (v0 : Option Nat) : ∀ v m' k n, fX1_not (gE_ g) N m v0 = some (v, m', k, n) → Ct_ l g (⟨"MasterTree", "not", "()I"⟩ : MethodName) (ws_ (⟨"MasterTree", "not", "()I"⟩ : MethodName) cX1_not 2 (Option.some Jvm.ClassFile.FieldType.int)) 17 [vr_ v0] m ((xe_ en_i) v) m' k n :=
  Ct_of (by decide +kernel) rfl hst (Nat.le_of_ble_eq_true rfl) rfl (fun E C hret h0 hin => wX1_not C hret h0 hin N m v0 0 0)
theorem wX0_not {l : Launch} {g : GG} {E : Me_} (C : Cx_ l g E "MasterTreeLaw" cX0_not 3 18) (hret : (eT_ E).sig.returnType = (Option.some Jvm.ClassFile.FieldType.int)) (h0 : (eC_ E).exceptionTable.toList = tableOf [(0, 8, 11, 13)]) (hin : (eT_ E).name = "not") (N : Nat) : ∀ (m : Mm) (v0 : Option Nat) (v1 : Option Nat) (k n : Nat), Sm_ l g E 3 en_i (fX0_not (gE_ g) N m v0 v1) k n 0 [(0, vr_ v0), (1, vr_ v1)] [] m := by
  intro m v0 v1 k n
  unfold fX0_not
  refine s_aload_n C rfl 1 rfl dX0_not_0 1 rfl ?_
  refine s_iconst C 0 rfl dX0_not_1 2 rfl ?_
  refine s_aload_n C rfl 0 rfl dX0_not_2 3 rfl ?_
  refine x_ck (fun hb_ hb0_ => ?_)
  refine x_callV (enc := (xe_ en_i)) C 17 0 [] 1 (ctX1_not C.2.2.2.2.2.2.2.2.1 N m v0) hb_ hb0_ rfl rfl q2653 q2654 q2655 q81 q2656 hdX1_not (Nat.le_of_ble_eq_true rfl) (Nat.le_of_ble_eq_true rfl) rfl (Nat.le_of_ble_eq_true rfl) dX0_not_3 6 rfl rfl (hen_x hen_i) (kk_c (kk_i (fun x1 m1 k1 n1 => ?_))) (kx_c he_i (fun i_ m0 k0 n0 => ?_))
  · refine s_i2l C dX0_not_6 7 rfl ?_
    refine x_bj3 C 203 rfl dX0_not_7 8 rfl (fun m2 => ?_)
    refine s_goto C (off := 6) 14 dX0_not_8 rfl ?_
    refine s_iconst C 0 rfl dX0_not_14 15 rfl ?_
    exact x_iret C hret rfl dX0_not_15
  · refine Sx_if ?_ ?_
    · refine Sx_ctch C h0 2 [] ({ startPc := 0, endPc := 8, handlerPc := 11, catchType := 13 } : ExceptionTableEntry) [] rfl (fun z hz => by cases hz) (by decide) (by decide) q504 q515 11 rfl (fun q_ => ?_)
      refine s_astore_n C rfl (Nat.le_of_ble_eq_true rfl) [] rfl rfl dX0_not_11 12 rfl ?_
      refine s_iconst C 1 rfl dX0_not_12 13 rfl ?_
      exact x_iret C hret rfl dX0_not_13
    exact Sx_none
theorem hdX0_not : ((⟨"MasterTreeLaw", "not", "(LMasterTree;[J)I"⟩ : MethodName)).cls ≠ "java/lang/invoke/MethodHandle" ∧ ((⟨"MasterTreeLaw", "not", "(LMasterTree;[J)I"⟩ : MethodName)).cls ≠ "java/lang/invoke/VarHandle" ∧ (parseMethodDescriptor ((⟨"MasterTreeLaw", "not", "(LMasterTree;[J)I"⟩ : MethodName)).desc).map (fun d => d.parameters.length) = some 2 := ⟨by decide +kernel, by decide +kernel, by decide +kernel⟩
theorem ctX0_not {l : Launch} {g : GG} (hst : l.stackTraces = false) (N : Nat) (m : Mm) (v0 : Option Nat) (v1 : Option Nat) : ∀ v m' k n, fX0_not (gE_ g) N m v0 v1 = some (v, m', k, n) → Ct_ l g (⟨"MasterTreeLaw", "not", "(LMasterTree;[J)I"⟩ : MethodName) (wsW_ (⟨"MasterTreeLaw", "not", "(LMasterTree;[J)I"⟩ : MethodName) cX0_not 3 (Option.some Jvm.ClassFile.FieldType.int) [(0, 8, 11, 13)]) 18 [vr_ v0, vr_ v1] m (en_i v) m' k n :=
  Ct_ofW (by decide +kernel) rfl hst (Nat.le_of_ble_eq_true rfl) rfl (fun E C hret h0 hin => wX0_not C hret h0 hin N m v0 v1 0 0)
theorem wX1_belongs_b14 {l : Launch} {g : GG} {E : Me_} (C : Cx_ l g E "MasterTree" cX1_belongs 5 13) (hret : (eT_ E).sig.returnType = (Option.some Jvm.ClassFile.FieldType.boolean)) (h0 : ∀ x ∈ (eC_ E).exceptionTable.toList, False) (hin : (eT_ E).name = "belongs") (N : Nat) : ∀ (m : Mm) (s0 : Int32) (k n : Nat), Sm_ l g E 5 en_i (fX1_belongs_b14 (gE_ g) N m s0) k n 14 [] [vi_ s0] m := by
  intro m s0 k n
  unfold fX1_belongs_b14
  exact x_zret C hret rfl dX1_belongs_14
theorem wX1_belongs_b38 {l : Launch} {g : GG} {E : Me_} (C : Cx_ l g E "MasterTree" cX1_belongs 5 13) (hret : (eT_ E).sig.returnType = (Option.some Jvm.ClassFile.FieldType.boolean)) (h0 : ∀ x ∈ (eC_ E).exceptionTable.toList, False) (hin : (eT_ E).name = "belongs") (N : Nat) : ∀ (m : Mm) (s0 : Int32) (k n : Nat), Sm_ l g E 5 en_i (fX1_belongs_b38 (gE_ g) N m s0) k n 38 [] [vi_ s0] m := by
  intro m s0 k n
  unfold fX1_belongs_b38
  exact x_zret C hret rfl dX1_belongs_38
theorem wX1_belongs_b37 {l : Launch} {g : GG} {E : Me_} (C : Cx_ l g E "MasterTree" cX1_belongs 5 13) (hret : (eT_ E).sig.returnType = (Option.some Jvm.ClassFile.FieldType.boolean)) (h0 : ∀ x ∈ (eC_ E).exceptionTable.toList, False) (hin : (eT_ E).name = "belongs") (N : Nat) : ∀ (m : Mm) (k n : Nat), Sm_ l g E 5 en_i (fX1_belongs_b37 (gE_ g) N m) k n 37 [] [] m := by
  intro m k n
  unfold fX1_belongs_b37
  refine s_iconst C 0 rfl dX1_belongs_37 38 rfl ?_
  exact wX1_belongs_b38 C hret h0 hin N _ _ _ _
theorem wX1_belongs_b75 {l : Launch} {g : GG} {E : Me_} (C : Cx_ l g E "MasterTree" cX1_belongs 5 13) (hret : (eT_ E).sig.returnType = (Option.some Jvm.ClassFile.FieldType.boolean)) (h0 : ∀ x ∈ (eC_ E).exceptionTable.toList, False) (hin : (eT_ E).name = "belongs") (N : Nat) : ∀ (m : Mm) (s0 : Int32) (k n : Nat), Sm_ l g E 5 en_i (fX1_belongs_b75 (gE_ g) N m s0) k n 75 [] [vi_ s0] m := by
  intro m s0 k n
  unfold fX1_belongs_b75
  exact x_zret C hret rfl dX1_belongs_75
theorem wX1_belongs_b64 {l : Launch} {g : GG} {E : Me_} (C : Cx_ l g E "MasterTree" cX1_belongs 5 13) (hret : (eT_ E).sig.returnType = (Option.some Jvm.ClassFile.FieldType.boolean)) (h0 : ∀ x ∈ (eC_ E).exceptionTable.toList, False) (hin : (eT_ E).name = "belongs") (N : Nat) : ∀ (m : Mm) (v2 : Int32) (v4 : Int32) (k n : Nat), Sm_ l g E 5 en_i (fX1_belongs_b64 (gE_ g) N m v2 v4) k n 64 [(2, vi_ v2), (4, vi_ v4)] [] m := by
  intro m v2 v4 k n
  unfold fX1_belongs_b64
  refine s_iload C 1 rfl dX1_belongs_64 66 rfl ?_
  refine s_iload_n C rfl 0 rfl dX1_belongs_66 67 rfl ?_
  refine s_icmp_ne C dX1_belongs_67 74 rfl 70 rfl (fun c_ => ?_) (fun c_ => ?_)
  · refine s_iconst C 1 rfl dX1_belongs_70 71 rfl ?_
    refine s_goto C (off := 4) 75 dX1_belongs_71 rfl ?_
    refine Sm_sub [] rfl ?_
    exact wX1_belongs_b75 C hret h0 hin N _ _ _ _
  · refine s_iconst C 0 rfl dX1_belongs_74 75 rfl ?_
    refine Sm_sub [] rfl ?_
    exact wX1_belongs_b75 C hret h0 hin N _ _ _ _
theorem wX1_belongs_b42 {l : Launch} {g : GG} {E : Me_} (C : Cx_ l g E "MasterTree" cX1_belongs 5 13) (hret : (eT_ E).sig.returnType = (Option.some Jvm.ClassFile.FieldType.boolean)) (h0 : ∀ x ∈ (eC_ E).exceptionTable.toList, False) (hin : (eT_ E).name = "belongs") (N : Nat) : ∀ (F : Nat) (m : Mm) (v0 : Option Nat) (v2 : Int32) (v4 : Int32) (k n : Nat), Sm_ l g E 5 en_i (fX1_belongs_b42 (gE_ g) N F m v0 v2 v4) k n 42 [(0, vr_ v0), (2, vi_ v2), (4, vi_ v4)] [] m := by
  intro F
  induction F with
  | zero => intros; exact Sm_none
  | succ F ih =>
    intro m v0 v2 v4 k n
    unfold fX1_belongs_b42
    refine s_iload C 2 rfl dX1_belongs_42 44 rfl ?_
    refine s_if_lt C dX1_belongs_44 64 rfl 47 rfl (fun c_ => ?_) (fun c_ => ?_)
    · refine Sm_sub [1, 2] rfl ?_
      exact wX1_belongs_b64 C hret h0 hin N _ _ _ _ _
    · refine s_iload C 2 rfl dX1_belongs_47 49 rfl ?_
      refine s_iload_n C rfl 1 rfl dX1_belongs_49 50 rfl ?_
      refine s_icmp_eq C dX1_belongs_50 64 rfl 53 rfl (fun c_ => ?_) (fun c_ => ?_)
      · refine Sm_sub [1, 2] rfl ?_
        exact wX1_belongs_b64 C hret h0 hin N _ _ _ _ _
      · refine s_aload_n C rfl 0 rfl dX1_belongs_53 54 rfl ?_
        refine s_iload C 2 rfl dX1_belongs_54 56 rfl ?_
        refine x_ck (fun hb_ hb0_ => ?_)
        refine x_callV (enc := en_i) C 12 1 [vi_ v4] 2 (ctX2_shownAt C.2.2.2.2.2.2.2.2.1 N m v0 v4) hb_ hb0_ rfl rfl q2460 q1655 q1656 q85 q1657 hdX2_shownAt (Nat.le_of_ble_eq_true rfl) (Nat.le_of_ble_eq_true rfl) rfl (Nat.le_of_ble_eq_true rfl) dX1_belongs_56 59 rfl rfl hen_i (kk_i (fun x1 m1 k1 n1 => ?_)) (kx_n he_i)
        refine s_istore C (Nat.le_of_ble_eq_true rfl) [0, 1] rfl rfl dX1_belongs_59 61 rfl ?_
        refine s_goto C (off := -19) 42 dX1_belongs_61 rfl ?_
        refine Sm_sub [1, 2, 0] rfl ?_
        exact ih _ _ _ _ _ _
theorem wX1_belongs {l : Launch} {g : GG} {E : Me_} (C : Cx_ l g E "MasterTree" cX1_belongs 5 13) (hret : (eT_ E).sig.returnType = (Option.some Jvm.ClassFile.FieldType.boolean)) (h0 : ∀ x ∈ (eC_ E).exceptionTable.toList, False) (hin : (eT_ E).name = "belongs") (N : Nat) : ∀ (m : Mm) (v0 : Option Nat) (v1 : Int32) (v2 : Int32) (v3 : Int32) (k n : Nat), Sm_ l g E 5 en_i (fX1_belongs (gE_ g) N m v0 v1 v2 v3) k n 0 [(0, vr_ v0), (1, vi_ v1), (2, vi_ v2), (3, vi_ v3)] [] m := by
  intro m v0 v1 v2 v3 k n
  unfold fX1_belongs
  refine s_iload_n C rfl 3 rfl dX1_belongs_0 1 rfl ?_
  refine s_if_ne C dX1_belongs_1 15 rfl 4 rfl (fun c_ => ?_) (fun c_ => ?_)
  · refine s_iload_n C rfl 1 rfl dX1_belongs_4 5 rfl ?_
    refine s_iload_n C rfl 2 rfl dX1_belongs_5 6 rfl ?_
    refine s_icmp_ne C dX1_belongs_6 13 rfl 9 rfl (fun c_ => ?_) (fun c_ => ?_)
    · refine s_iconst C 1 rfl dX1_belongs_9 10 rfl ?_
      refine s_goto C (off := 4) 14 dX1_belongs_10 rfl ?_
      refine Sm_sub [] rfl ?_
      exact wX1_belongs_b14 C hret h0 hin N _ _ _ _
    · refine s_iconst C 0 rfl dX1_belongs_13 14 rfl ?_
      refine Sm_sub [] rfl ?_
      exact wX1_belongs_b14 C hret h0 hin N _ _ _ _
  · refine s_iload_n C rfl 3 rfl dX1_belongs_15 16 rfl ?_
    refine s_iconst C 1 rfl dX1_belongs_16 17 rfl ?_
    refine s_icmp_ne C dX1_belongs_17 39 rfl 20 rfl (fun c_ => ?_) (fun c_ => ?_)
    · refine s_iload_n C rfl 1 rfl dX1_belongs_20 21 rfl ?_
      refine s_if_eq C dX1_belongs_21 37 rfl 24 rfl (fun c_ => ?_) (fun c_ => ?_)
      · refine Sm_sub [] rfl ?_
        exact wX1_belongs_b37 C hret h0 hin N _ _ _
      · refine s_aload_n C rfl 0 rfl dX1_belongs_24 25 rfl ?_
        refine s_iload_n C rfl 1 rfl dX1_belongs_25 26 rfl ?_
        refine x_ck (fun hb_ hb0_ => ?_)
        refine x_callV (enc := en_i) C 12 1 [vi_ v1] 2 (ctX2_shownAt C.2.2.2.2.2.2.2.2.1 N m v0 v1) hb_ hb0_ rfl rfl q2460 q1655 q1656 q85 q1657 hdX2_shownAt (Nat.le_of_ble_eq_true rfl) (Nat.le_of_ble_eq_true rfl) rfl (Nat.le_of_ble_eq_true rfl) dX1_belongs_26 29 rfl rfl hen_i (kk_i (fun x1 m1 k1 n1 => ?_)) (kx_n he_i)
        refine s_iload_n C rfl 2 rfl dX1_belongs_29 30 rfl ?_
        refine s_icmp_ne C dX1_belongs_30 37 rfl 33 rfl (fun c_ => ?_) (fun c_ => ?_)
        · refine s_iconst C 1 rfl dX1_belongs_33 34 rfl ?_
          refine s_goto C (off := 4) 38 dX1_belongs_34 rfl ?_
          refine Sm_sub [] rfl ?_
          exact wX1_belongs_b38 C hret h0 hin N _ _ _ _
        · refine Sm_sub [] rfl ?_
          exact wX1_belongs_b37 C hret h0 hin N _ _ _
    · refine s_iload_n C rfl 1 rfl dX1_belongs_39 40 rfl ?_
      refine s_istore C (Nat.le_of_ble_eq_true rfl) [0, 2] rfl rfl dX1_belongs_40 42 rfl ?_
      refine Sm_sub [1, 2, 0] rfl ?_
      exact wX1_belongs_b42 C hret h0 hin N N _ _ _ _ _ _
theorem hdX1_belongs : ((⟨"MasterTree", "belongs", "(LMasterTree$Master;III)Z"⟩ : MethodName)).cls ≠ "java/lang/invoke/MethodHandle" ∧ ((⟨"MasterTree", "belongs", "(LMasterTree$Master;III)Z"⟩ : MethodName)).cls ≠ "java/lang/invoke/VarHandle" ∧ (parseMethodDescriptor ((⟨"MasterTree", "belongs", "(LMasterTree$Master;III)Z"⟩ : MethodName)).desc).map (fun d => d.parameters.length) = some 4 := ⟨by decide +kernel, by decide +kernel, by decide +kernel⟩
theorem ctX1_belongs {l : Launch} {g : GG} (hst : l.stackTraces = false) (N : Nat) (m : Mm) (v0 : Option Nat) (v1 : Int32) (v2 : Int32) (v3 : Int32) : ∀ v m' k n, fX1_belongs (gE_ g) N m v0 v1 v2 v3 = some (v, m', k, n) → Ct_ l g (⟨"MasterTree", "belongs", "(LMasterTree$Master;III)Z"⟩ : MethodName) (ws_ (⟨"MasterTree", "belongs", "(LMasterTree$Master;III)Z"⟩ : MethodName) cX1_belongs 5 (Option.some Jvm.ClassFile.FieldType.boolean)) 13 [vr_ v0, vi_ v1, vi_ v2, vi_ v3] m (en_i v) m' k n :=
  Ct_of (by decide +kernel) rfl hst (Nat.le_of_ble_eq_true rfl) rfl (fun E C hret h0 hin => wX1_belongs C hret h0 hin N m v0 v1 v2 v3 0 0)
theorem wX1_searched {l : Launch} {g : GG} {E : Me_} (C : Cx_ l g E "MasterTree" cX1_searched 5 18) (hret : (eT_ E).sig.returnType = (Option.some (Jvm.ClassFile.FieldType.object "MasterTree$Master"))) (h0 : ∀ x ∈ (eC_ E).exceptionTable.toList, False) (hin : (eT_ E).name = "searched") (N : Nat) : ∀ (m : Mm) (v0 : Option Nat) (v1 : Int32) (v2 : Int32) (v3 : Int32) (k n : Nat), Sm_ l g E 5 (xe_ en_r) (fX1_searched (gE_ g) N m v0 v1 v2 v3) k n 0 [(0, vr_ v0), (1, vi_ v1), (2, vi_ v2), (3, vi_ v3)] [] m := by
  intro m v0 v1 v2 v3 k n
  unfold fX1_searched
  refine s_aload_n C rfl 0 rfl dX1_searched_0 1 rfl ?_
  refine s_iload_n C rfl 1 rfl dX1_searched_1 2 rfl ?_
  refine x_ck (fun hb_ hb0_ => ?_)
  refine x_callV (enc := (xe_ en_r)) C 17 1 [vi_ v1] 1 (ctX1_at C.2.2.2.2.2.2.2.2.1 N m v0 v1) hb_ hb0_ rfl rfl q934 q936 qs5 q81 q937 hdX1_at (Nat.le_of_ble_eq_true rfl) (Nat.le_of_ble_eq_true rfl) rfl (Nat.le_of_ble_eq_true rfl) dX1_searched_2 5 rfl rfl (hen_x hen_r) (kk_x (kk_r (fun x1 m1 k1 n1 => ?_))) (kx_x C h0 he_r)
  refine s_astore C (Nat.le_of_ble_eq_true rfl) [2, 3] rfl rfl dX1_searched_5 7 rfl ?_
  refine s_aload C 0 rfl dX1_searched_7 9 rfl ?_
  refine s_iload_n C rfl 1 rfl dX1_searched_9 10 rfl ?_
  refine x_callS (enc := (xe_ en_r)) C 16 2 [vr_ x1, vi_ v2] (ctX1_liveAt C.2.2.2.2.2.2.2.2.1 N m1 x1 v2) q968 q969 q81 q970 hdX1_liveAt (Nat.le_of_ble_eq_true rfl) (Nat.le_of_ble_eq_true rfl) rfl (Nat.le_of_ble_eq_true rfl) dX1_searched_10 13 rfl rfl (hen_x hen_r) (kk_x (kk_r (fun x2 m2 k1 n1 => ?_))) (kx_x C h0 he_r)
  refine s_pop C rfl dX1_searched_13 14 rfl ?_
  refine s_iload_n C rfl 2 rfl dX1_searched_14 15 rfl ?_
  refine s_iconst C 3 rfl dX1_searched_15 16 rfl ?_
  refine x_lsw C 30 30 rfl dX1_searched_16 19 rfl ?_
  refine x_callS (enc := (xe_ en_i)) C 16 3 [vi_ v3, vi_ 3, vr_ (some (gE_ g (100 + 30)))] (ctX1_place C.2.2.2.2.2.2.2.2.1 N m2 v3 3 (some (gE_ g (100 + 30)))) q633 q634 q81 q635 hdX1_place (Nat.le_of_ble_eq_true rfl) (Nat.le_of_ble_eq_true rfl) rfl (Nat.le_of_ble_eq_true rfl) dX1_searched_19 22 rfl rfl (hen_x hen_i) (kk_x (kk_i (fun x3 m3 k1 n1 => ?_))) (kx_x C h0 he_i)
  refine s_pop C rfl dX1_searched_22 23 rfl ?_
  refine s_aload C 0 rfl dX1_searched_23 25 rfl ?_
  exact x_aret C hret (Or.inl ⟨_, rfl⟩) rfl dX1_searched_25
theorem hdX1_searched : ((⟨"MasterTree", "searched", "(III)LMasterTree$Master;"⟩ : MethodName)).cls ≠ "java/lang/invoke/MethodHandle" ∧ ((⟨"MasterTree", "searched", "(III)LMasterTree$Master;"⟩ : MethodName)).cls ≠ "java/lang/invoke/VarHandle" ∧ (parseMethodDescriptor ((⟨"MasterTree", "searched", "(III)LMasterTree$Master;"⟩ : MethodName)).desc).map (fun d => d.parameters.length) = some 3 := ⟨by decide +kernel, by decide +kernel, by decide +kernel⟩
theorem ctX1_searched {l : Launch} {g : GG} (hst : l.stackTraces = false) (N : Nat) (m : Mm) (v0 : Option Nat) (v1 : Int32) (v2 : Int32) (v3 : Int32) : ∀ v m' k n, fX1_searched (gE_ g) N m v0 v1 v2 v3 = some (v, m', k, n) → Ct_ l g (⟨"MasterTree", "searched", "(III)LMasterTree$Master;"⟩ : MethodName) (ws_ (⟨"MasterTree", "searched", "(III)LMasterTree$Master;"⟩ : MethodName) cX1_searched 5 (Option.some (Jvm.ClassFile.FieldType.object "MasterTree$Master"))) 18 [vr_ v0, vi_ v1, vi_ v2, vi_ v3] m ((xe_ en_r) v) m' k n :=
  Ct_of (by decide +kernel) rfl hst (Nat.le_of_ble_eq_true rfl) rfl (fun E C hret h0 hin => wX1_searched C hret h0 hin N m v0 v1 v2 v3 0 0)
theorem wX1_filter_b18 {l : Launch} {g : GG} {E : Me_} (C : Cx_ l g E "MasterTree" cX1_filter 1 13) (hret : (eT_ E).sig.returnType = (Option.some (Jvm.ClassFile.FieldType.object "MasterTree$Filter"))) (h0 : ∀ x ∈ (eC_ E).exceptionTable.toList, False) (hin : (eT_ E).name = "filter") (N : Nat) : ∀ (m : Mm) (v0 : Option Nat) (s0 : Int32) (k n : Nat), Sm_ l g E 1 (xe_ en_r) (fX1_filter_b18 (gE_ g) N m v0 s0) k n 18 [(0, vr_ v0)] [vi_ s0] m := by
  intro m v0 s0 k n
  unfold fX1_filter_b18
  refine x_lsw C 36 36 rfl dX1_filter_18 21 rfl ?_
  refine x_callS (enc := (xe_ en_v)) C 10 2 [vi_ s0, vr_ (some (gE_ g (100 + 36)))] (ctX1_must C.2.2.2.2.2.2.2.2.1 N m s0 (some (gE_ g (100 + 36)))) q510 q511 q81 q512 hdX1_must (Nat.le_of_ble_eq_true rfl) (Nat.le_of_ble_eq_true rfl) rfl (Nat.le_of_ble_eq_true rfl) dX1_filter_21 24 rfl rfl (hen_x hen_v) (kk_x (kk_v (fun m1 k1 n1 => ?_))) (kx_x C h0 he_v)
  refine s_aload_n C rfl 0 rfl dX1_filter_24 25 rfl ?_
  refine x_gr C 0 (RX1, TX1, 9) rfl 4 (Nat.le_of_ble_eq_true rfl) q450 (Or.inl rfl) rfl 1 rfl dX1_filter_25 28 rfl (fun x1 => ?_)
  refine s_iconst C 0 rfl dX1_filter_28 29 rfl ?_
  refine x_ck (fun hb_ hb0_ => ?_)
  refine x_callF (enc := en_r) C 12 1 [vi_ 0] 13 (ctJ2_get C.2.2.2.2.2.2.2.2.1 N m1 x1 0) hb_ hb0_ rfl rfl rfl fw_3 q888 q891 q893 q84 q895 hx2 (Nat.le_of_ble_eq_true rfl) (Nat.le_of_ble_eq_true rfl) rfl (Nat.le_of_ble_eq_true rfl) dX1_filter_29 34 rfl rfl hen_r (kk_r (fun x2 m2 k1 n1 => ?_)) (kx_n he_r)
  refine x_cc C "MasterTree$Filter" [8, 9, 10, 11] (fun k hk => by
      simp only [List.mem_cons, List.not_mem_nil, or_false] at hk
      rcases hk with h | h | h | h <;> subst h
      · exact ⟨rfl, Or.inl q3745⟩
      · exact ⟨rfl, Or.inl q3744⟩
      · exact ⟨rfl, Or.inl q3746⟩
      · exact ⟨rfl, Or.inl q3747⟩) q2633 dX1_filter_34 37 rfl ?_
  exact x_aret C hret (Or.inl ⟨_, rfl⟩) rfl dX1_filter_37
theorem wX1_filter {l : Launch} {g : GG} {E : Me_} (C : Cx_ l g E "MasterTree" cX1_filter 1 13) (hret : (eT_ E).sig.returnType = (Option.some (Jvm.ClassFile.FieldType.object "MasterTree$Filter"))) (h0 : ∀ x ∈ (eC_ E).exceptionTable.toList, False) (hin : (eT_ E).name = "filter") (N : Nat) : ∀ (m : Mm) (v0 : Option Nat) (k n : Nat), Sm_ l g E 1 (xe_ en_r) (fX1_filter (gE_ g) N m v0) k n 0 [(0, vr_ v0)] [] m := by
  intro m v0 k n
  unfold fX1_filter
  refine s_aload_n C rfl 0 rfl dX1_filter_0 1 rfl ?_
  refine x_gr C 0 (RX1, TX1, 9) rfl 4 (Nat.le_of_ble_eq_true rfl) q450 (Or.inl rfl) rfl 1 rfl dX1_filter_1 4 rfl (fun x1 => ?_)
  refine x_ck (fun hb_ hb0_ => ?_)
  refine x_callF (enc := en_i) C 10 0 [] 13 (ctJ2_size C.2.2.2.2.2.2.2.2.1 N m x1) hb_ hb0_ rfl rfl rfl fw_1 q480 q483 q485 q84 q487 hx1 (Nat.le_of_ble_eq_true rfl) (Nat.le_of_ble_eq_true rfl) rfl (Nat.le_of_ble_eq_true rfl) dX1_filter_4 9 rfl rfl hen_i (kk_i (fun x2 m1 k1 n1 => ?_)) (kx_n he_i)
  refine s_iconst C 1 rfl dX1_filter_9 10 rfl ?_
  refine s_icmp_ne C dX1_filter_10 17 rfl 13 rfl (fun c_ => ?_) (fun c_ => ?_)
  · refine s_iconst C 1 rfl dX1_filter_13 14 rfl ?_
    refine s_goto C (off := 4) 18 dX1_filter_14 rfl ?_
    exact wX1_filter_b18 C hret h0 hin N _ _ _ _ _
  · refine s_iconst C 0 rfl dX1_filter_17 18 rfl ?_
    exact wX1_filter_b18 C hret h0 hin N _ _ _ _ _
theorem hdX1_filter : ((⟨"MasterTree", "filter", "()LMasterTree$Filter;"⟩ : MethodName)).cls ≠ "java/lang/invoke/MethodHandle" ∧ ((⟨"MasterTree", "filter", "()LMasterTree$Filter;"⟩ : MethodName)).cls ≠ "java/lang/invoke/VarHandle" ∧ (parseMethodDescriptor ((⟨"MasterTree", "filter", "()LMasterTree$Filter;"⟩ : MethodName)).desc).map (fun d => d.parameters.length) = some 0 := ⟨by decide +kernel, by decide +kernel, by decide +kernel⟩
theorem ctX1_filter {l : Launch} {g : GG} (hst : l.stackTraces = false) (N : Nat) (m : Mm) (v0 : Option Nat) : ∀ v m' k n, fX1_filter (gE_ g) N m v0 = some (v, m', k, n) → Ct_ l g (⟨"MasterTree", "filter", "()LMasterTree$Filter;"⟩ : MethodName) (ws_ (⟨"MasterTree", "filter", "()LMasterTree$Filter;"⟩ : MethodName) cX1_filter 1 (Option.some (Jvm.ClassFile.FieldType.object "MasterTree$Filter"))) 13 [vr_ v0] m ((xe_ en_r) v) m' k n :=
  Ct_of (by decide +kernel) rfl hst (Nat.le_of_ble_eq_true rfl) rfl (fun E C hret h0 hin => wX1_filter C hret h0 hin N m v0 0 0)
theorem wJ42_hasNext {l : Launch} {g : GG} {E : Me_} (C : Cx_ l g E "java/util/AbstractMap$2$1" cJ42_hasNext 1 11) (hret : (eT_ E).sig.returnType = (Option.some Jvm.ClassFile.FieldType.boolean)) (h0 : ∀ x ∈ (eC_ E).exceptionTable.toList, False) (hin : (eT_ E).name = "hasNext") (N : Nat) : ∀ (m : Mm) (v0 : Option Nat) (k n : Nat), Sm_ l g E 1 en_i (fJ42_hasNext (gE_ g) N m v0) k n 0 [(0, vr_ v0)] [] m := by
  intro m v0 k n
  unfold fJ42_hasNext
  refine s_aload_n C rfl 0 rfl dJ42_hasNext_0 1 rfl ?_
  refine x_gr C 25 (RJ42, TJ42, 2) rfl 0 (Nat.le_of_ble_eq_true rfl) q2115 (Or.inl rfl) rfl 26 rfl dJ42_hasNext_1 4 rfl (fun x1 => ?_)
  refine x_ck (fun hb_ hb0_ => ?_)
  refine x_callF (enc := en_i) C 10 0 [] 23 (ctJ26_hasNext_t23 C.2.2.2.2.2.2.2.2.1 N m x1) hb_ hb0_ rfl rfl rfl fw_16 q1456 q1473 q1475 q114 q1477 hx3 (Nat.le_of_ble_eq_true rfl) (Nat.le_of_ble_eq_true rfl) rfl (Nat.le_of_ble_eq_true rfl) dJ42_hasNext_4 9 rfl rfl hen_i (kk_i (fun x2 m1 k1 n1 => ?_)) (kx_n he_i)
  exact x_zret C hret rfl dJ42_hasNext_9
theorem hdJ42_hasNext : ((⟨"java/util/AbstractMap$2$1", "hasNext", "()Z"⟩ : MethodName)).cls ≠ "java/lang/invoke/MethodHandle" ∧ ((⟨"java/util/AbstractMap$2$1", "hasNext", "()Z"⟩ : MethodName)).cls ≠ "java/lang/invoke/VarHandle" ∧ (parseMethodDescriptor ((⟨"java/util/AbstractMap$2$1", "hasNext", "()Z"⟩ : MethodName)).desc).map (fun d => d.parameters.length) = some 0 := ⟨by decide +kernel, by decide +kernel, by decide +kernel⟩
theorem ctJ42_hasNext {l : Launch} {g : GG} (hst : l.stackTraces = false) (N : Nat) (m : Mm) (v0 : Option Nat) : ∀ v m' k n, fJ42_hasNext (gE_ g) N m v0 = some (v, m', k, n) → Ct_ l g (⟨"java/util/AbstractMap$2$1", "hasNext", "()Z"⟩ : MethodName) (ws_ (⟨"java/util/AbstractMap$2$1", "hasNext", "()Z"⟩ : MethodName) cJ42_hasNext 1 (Option.some Jvm.ClassFile.FieldType.boolean)) 11 [vr_ v0] m (en_i v) m' k n :=
  Ct_of (by decide +kernel) rfl hst (Nat.le_of_ble_eq_true rfl) rfl (fun E C hret h0 hin => wJ42_hasNext C hret h0 hin N m v0 0 0)
theorem wJ42_next {l : Launch} {g : GG} {E : Me_} (C : Cx_ l g E "java/util/AbstractMap$2$1" cJ42_next 1 14) (hret : (eT_ E).sig.returnType = (Option.some (Jvm.ClassFile.FieldType.object "java/lang/Object"))) (h0 : ∀ x ∈ (eC_ E).exceptionTable.toList, False) (hin : (eT_ E).name = "next") (N : Nat) : ∀ (m : Mm) (v0 : Option Nat) (k n : Nat), Sm_ l g E 1 en_r (fJ42_next (gE_ g) N m v0) k n 0 [(0, vr_ v0)] [] m := by
  intro m v0 k n
  unfold fJ42_next
  refine s_aload_n C rfl 0 rfl dJ42_next_0 1 rfl ?_
  refine x_gr C 25 (RJ42, TJ42, 2) rfl 0 (Nat.le_of_ble_eq_true rfl) q2115 (Or.inl rfl) rfl 26 rfl dJ42_next_1 4 rfl (fun x1 => ?_)
  refine x_ck (fun hb_ hb0_ => ?_)
  refine x_callF (enc := en_r) C 13 0 [] 23 (ctJ27_next C.2.2.2.2.2.2.2.2.1 N m x1) hb_ hb0_ rfl rfl rfl fw_22 q1494 q1530 q1532 q115 q1534 hx5 (Nat.le_of_ble_eq_true rfl) (Nat.le_of_ble_eq_true rfl) rfl (Nat.le_of_ble_eq_true rfl) dJ42_next_4 9 rfl rfl hen_r (kk_r (fun x2 m1 k1 n1 => ?_)) (kx_n he_r)
  refine x_cc C "java/util/Map$Entry" [16] (fun k hk => by rw [List.mem_singleton.mp hk]; exact ⟨rfl, Or.inl q1567⟩) q1562 dJ42_next_9 12 rfl ?_
  refine x_ck (fun hb_ hb0_ => ?_)
  refine x_callF (enc := en_r) C 10 0 [] 16 (ctJ37_getValue C.2.2.2.2.2.2.2.2.1 N m1 x2) hb_ hb0_ rfl rfl rfl fw_24 q1564 q1568 q1570 q130 q1572 hx13 (Nat.le_of_ble_eq_true rfl) (Nat.le_of_ble_eq_true rfl) rfl (Nat.le_of_ble_eq_true rfl) dJ42_next_12 17 rfl rfl hen_r (kk_r (fun x3 m2 k1 n1 => ?_)) (kx_n he_r)
  exact x_aret C hret (Or.inl ⟨_, rfl⟩) rfl dJ42_next_17
theorem hdJ42_next : ((⟨"java/util/AbstractMap$2$1", "next", "()Ljava/lang/Object;"⟩ : MethodName)).cls ≠ "java/lang/invoke/MethodHandle" ∧ ((⟨"java/util/AbstractMap$2$1", "next", "()Ljava/lang/Object;"⟩ : MethodName)).cls ≠ "java/lang/invoke/VarHandle" ∧ (parseMethodDescriptor ((⟨"java/util/AbstractMap$2$1", "next", "()Ljava/lang/Object;"⟩ : MethodName)).desc).map (fun d => d.parameters.length) = some 0 := ⟨by decide +kernel, by decide +kernel, by decide +kernel⟩
theorem ctJ42_next {l : Launch} {g : GG} (hst : l.stackTraces = false) (N : Nat) (m : Mm) (v0 : Option Nat) : ∀ v m' k n, fJ42_next (gE_ g) N m v0 = some (v, m', k, n) → Ct_ l g (⟨"java/util/AbstractMap$2$1", "next", "()Ljava/lang/Object;"⟩ : MethodName) (ws_ (⟨"java/util/AbstractMap$2$1", "next", "()Ljava/lang/Object;"⟩ : MethodName) cJ42_next 1 (Option.some (Jvm.ClassFile.FieldType.object "java/lang/Object"))) 14 [vr_ v0] m (en_r v) m' k n :=
  Ct_of (by decide +kernel) rfl hst (Nat.le_of_ble_eq_true rfl) rfl (fun E C hret h0 hin => wJ42_next C hret h0 hin N m v0 0 0)
theorem wJ0_init_t25 {l : Launch} {g : GG} {E : Me_} (C : Cx_ l g E "java/util/AbstractCollection" cJ0_init 1 10) (hret : (eT_ E).sig.returnType = (Option.none : Option Jvm.ClassFile.FieldType)) (h0 : ∀ x ∈ (eC_ E).exceptionTable.toList, False) (hin : (eT_ E).name = "<init>") (N : Nat) : ∀ (m : Mm) (v0 : Option Nat) (k n : Nat), Sm_ l g E 1 en_v (fJ0_init_t25 (gE_ g) N m v0) k n 0 [(0, vr_ v0)] [] m := by
  intro m v0 k n
  unfold fJ0_init_t25
  refine s_aload_n C rfl 0 rfl dJ0_init_0 1 rfl ?_
  refine x_ok (fun hb_ => ?_)
  refine x_obj C hb_ q165 q152 q153 (by decide) (Nat.le_of_ble_eq_true rfl) dJ0_init_1 4 rfl ?_
  exact x_vret C hret rfl dJ0_init_4
theorem hdJ0_init_t25 : ((⟨"java/util/AbstractCollection", "<init>", "()V"⟩ : MethodName)).cls ≠ "java/lang/invoke/MethodHandle" ∧ ((⟨"java/util/AbstractCollection", "<init>", "()V"⟩ : MethodName)).cls ≠ "java/lang/invoke/VarHandle" ∧ (parseMethodDescriptor ((⟨"java/util/AbstractCollection", "<init>", "()V"⟩ : MethodName)).desc).map (fun d => d.parameters.length) = some 0 := ⟨by decide +kernel, by decide +kernel, by decide +kernel⟩
theorem ctJ0_init_t25 {l : Launch} {g : GG} (hst : l.stackTraces = false) (N : Nat) (m : Mm) (v0 : Option Nat) : ∀ v m' k n, fJ0_init_t25 (gE_ g) N m v0 = some (v, m', k, n) → Ct_ l g (⟨"java/util/AbstractCollection", "<init>", "()V"⟩ : MethodName) (ws_ (⟨"java/util/AbstractCollection", "<init>", "()V"⟩ : MethodName) cJ0_init 1 (Option.none : Option Jvm.ClassFile.FieldType)) 10 [vr_ v0] m (en_v v) m' k n :=
  Ct_of (by decide +kernel) rfl hst (Nat.le_of_ble_eq_true rfl) rfl (fun E C hret h0 hin => wJ0_init_t25 C hret h0 hin N m v0 0 0)
theorem wJ46_init {l : Launch} {g : GG} {E : Me_} (C : Cx_ l g E "java/util/AbstractMap$2" cJ46_init 2 11) (hret : (eT_ E).sig.returnType = (Option.none : Option Jvm.ClassFile.FieldType)) (h0 : ∀ x ∈ (eC_ E).exceptionTable.toList, False) (hin : (eT_ E).name = "<init>") (N : Nat) : ∀ (m : Mm) (v0 : Option Nat) (v1 : Option Nat) (k n : Nat), Sm_ l g E 2 en_v (fJ46_init (gE_ g) N m v0 v1) k n 0 [(0, vr_ v0), (1, vr_ v1)] [] m := by
  intro m v0 v1 k n
  unfold fJ46_init
  refine s_aload_n C rfl 0 rfl dJ46_init_0 1 rfl ?_
  refine s_aload_n C rfl 1 rfl dJ46_init_1 2 rfl ?_
  refine x_prF C hin 24 (RJ46, TJ46, 1) rfl 0 (Nat.le_of_ble_eq_true rfl) rfl q2738 rfl rfl trivial 25 rfl dJ46_init_2 5 rfl (fun m1 => ?_)
  refine s_aload_n C rfl 0 rfl dJ46_init_5 6 rfl ?_
  refine x_ok (fun hb0_ => ?_)
  refine x_callI (enc := en_v) C 10 0 [] (ctJ0_init_t25 C.2.2.2.2.2.2.2.2.1 N m1 v0) hb0_ rfl q2737 q163 q82 q164 rfl hdJ0_init_t25 (Nat.le_of_ble_eq_true rfl) (Nat.le_of_ble_eq_true rfl) rfl (Nat.le_of_ble_eq_true rfl) dJ46_init_6 9 rfl rfl hen_v (kk_v (fun m2 k1 n1 => ?_)) (kx_n he_v)
  exact x_vret C hret rfl dJ46_init_9
theorem hdJ46_init : ((⟨"java/util/AbstractMap$2", "<init>", "(Ljava/util/AbstractMap;)V"⟩ : MethodName)).cls ≠ "java/lang/invoke/MethodHandle" ∧ ((⟨"java/util/AbstractMap$2", "<init>", "(Ljava/util/AbstractMap;)V"⟩ : MethodName)).cls ≠ "java/lang/invoke/VarHandle" ∧ (parseMethodDescriptor ((⟨"java/util/AbstractMap$2", "<init>", "(Ljava/util/AbstractMap;)V"⟩ : MethodName)).desc).map (fun d => d.parameters.length) = some 1 := ⟨by decide +kernel, by decide +kernel, by decide +kernel⟩
theorem ctJ46_init {l : Launch} {g : GG} (hst : l.stackTraces = false) (N : Nat) (m : Mm) (v0 : Option Nat) (v1 : Option Nat) : ∀ v m' k n, fJ46_init (gE_ g) N m v0 v1 = some (v, m', k, n) → Ct_ l g (⟨"java/util/AbstractMap$2", "<init>", "(Ljava/util/AbstractMap;)V"⟩ : MethodName) (ws_ (⟨"java/util/AbstractMap$2", "<init>", "(Ljava/util/AbstractMap;)V"⟩ : MethodName) cJ46_init 2 (Option.none : Option Jvm.ClassFile.FieldType)) 11 [vr_ v0, vr_ v1] m (en_v v) m' k n :=
  Ct_of (by decide +kernel) rfl hst (Nat.le_of_ble_eq_true rfl) rfl (fun E C hret h0 hin => wJ46_init C hret h0 hin N m v0 v1 0 0)
theorem wJ3_values_t21_b23 {l : Launch} {g : GG} {E : Me_} (C : Cx_ l g E "java/util/AbstractMap" cJ3_values 2 12) (hret : (eT_ E).sig.returnType = (Option.some (Jvm.ClassFile.FieldType.object "java/util/Collection"))) (h0 : ∀ x ∈ (eC_ E).exceptionTable.toList, False) (hin : (eT_ E).name = "values") (N : Nat) : ∀ (m : Mm) (v1 : Option Nat) (k n : Nat), Sm_ l g E 2 en_r (fJ3_values_t21_b23 (gE_ g) N m v1) k n 23 [(1, vr_ v1)] [] m := by
  intro m v1 k n
  unfold fJ3_values_t21_b23
  refine s_aload_n C rfl 0 rfl dJ3_values_23 24 rfl ?_
  exact x_aret C hret (Or.inl ⟨_, rfl⟩) rfl dJ3_values_24
theorem wJ3_values_t21 {l : Launch} {g : GG} {E : Me_} (C : Cx_ l g E "java/util/AbstractMap" cJ3_values 2 12) (hret : (eT_ E).sig.returnType = (Option.some (Jvm.ClassFile.FieldType.object "java/util/Collection"))) (h0 : ∀ x ∈ (eC_ E).exceptionTable.toList, False) (hin : (eT_ E).name = "values") (N : Nat) : ∀ (m : Mm) (v0 : Option Nat) (k n : Nat), Sm_ l g E 2 en_r (fJ3_values_t21 (gE_ g) N m v0) k n 0 [(0, vr_ v0)] [] m := by
  intro m v0 k n
  unfold fJ3_values_t21
  refine s_aload_n C rfl 0 rfl dJ3_values_0 1 rfl ?_
  refine x_gr C 20 (RJ39, TJ39, 12) rfl 11 (Nat.le_of_ble_eq_true rfl) q213 (Or.inl rfl) rfl 21 rfl dJ3_values_1 4 rfl (fun x1 => ?_)
  refine s_astore_n C rfl (Nat.le_of_ble_eq_true rfl) [0] rfl rfl dJ3_values_4 5 rfl ?_
  refine s_aload_n C rfl 0 rfl dJ3_values_5 6 rfl ?_
  refine s_ifnonnull C dJ3_values_6 23 rfl 9 rfl (fun c_ => ?_) (fun c_ => ?_)
  · refine x_nw C 24 (RJ46, TJ46, 1) rfl q2732 q2733 q144 25 1 rfl rfl dJ3_values_9 12 rfl (fun x2 m1 => ?_)
    refine s_dup C rfl dJ3_values_12 13 rfl ?_
    refine s_aload_n C rfl 1 rfl dJ3_values_13 14 rfl ?_
    refine x_callI (enc := en_v) C 11 1 [vr_ v0] (ctJ46_init C.2.2.2.2.2.2.2.2.1 N m1 (some x2) v0) (fun h => by cases h) rfl q2734 q2735 q144 q2736 rfl hdJ46_init (Nat.le_of_ble_eq_true rfl) (Nat.le_of_ble_eq_true rfl) rfl (Nat.le_of_ble_eq_true rfl) dJ3_values_14 17 rfl rfl hen_v (kk_v (fun m2 k1 n1 => ?_)) (kx_n he_v)
    refine s_astore_n C rfl (Nat.le_of_ble_eq_true rfl) [1] rfl rfl dJ3_values_17 18 rfl ?_
    refine s_aload_n C rfl 1 rfl dJ3_values_18 19 rfl ?_
    refine s_aload_n C rfl 0 rfl dJ3_values_19 20 rfl ?_
    refine x_pr C 20 (RJ39, TJ39, 12) rfl 11 (Nat.le_of_ble_eq_true rfl) rfl q213 (Or.inl rfl) rfl trivial 21 rfl dJ3_values_20 23 rfl (fun m3 => ?_)
    refine Sm_sub [0] rfl ?_
    exact wJ3_values_t21_b23 C hret h0 hin N _ _ _ _
  · refine Sm_sub [0] rfl ?_
    exact wJ3_values_t21_b23 C hret h0 hin N _ _ _ _
theorem hdJ3_values_t21 : ((⟨"java/util/AbstractMap", "values", "()Ljava/util/Collection;"⟩ : MethodName)).cls ≠ "java/lang/invoke/MethodHandle" ∧ ((⟨"java/util/AbstractMap", "values", "()Ljava/util/Collection;"⟩ : MethodName)).cls ≠ "java/lang/invoke/VarHandle" ∧ (parseMethodDescriptor ((⟨"java/util/AbstractMap", "values", "()Ljava/util/Collection;"⟩ : MethodName)).desc).map (fun d => d.parameters.length) = some 0 := ⟨by decide +kernel, by decide +kernel, by decide +kernel⟩
theorem ctJ3_values_t21 {l : Launch} {g : GG} (hst : l.stackTraces = false) (N : Nat) (m : Mm) (v0 : Option Nat) : ∀ v m' k n, fJ3_values_t21 (gE_ g) N m v0 = some (v, m', k, n) → Ct_ l g (⟨"java/util/AbstractMap", "values", "()Ljava/util/Collection;"⟩ : MethodName) (ws_ (⟨"java/util/AbstractMap", "values", "()Ljava/util/Collection;"⟩ : MethodName) cJ3_values 2 (Option.some (Jvm.ClassFile.FieldType.object "java/util/Collection"))) 12 [vr_ v0] m (en_r v) m' k n :=
  Ct_of (by decide +kernel) rfl hst (Nat.le_of_ble_eq_true rfl) rfl (fun E C hret h0 hin => wJ3_values_t21 C hret h0 hin N m v0 0 0)
theorem wJ42_init {l : Launch} {g : GG} {E : Me_} (C : Cx_ l g E "java/util/AbstractMap$2$1" cJ42_init 2 17) (hret : (eT_ E).sig.returnType = (Option.none : Option Jvm.ClassFile.FieldType)) (h0 : ∀ x ∈ (eC_ E).exceptionTable.toList, False) (hin : (eT_ E).name = "<init>") (N : Nat) : ∀ (m : Mm) (v0 : Option Nat) (v1 : Option Nat) (k n : Nat), Sm_ l g E 2 en_v (fJ42_init (gE_ g) N m v0 v1) k n 0 [(0, vr_ v0), (1, vr_ v1)] [] m := by
  intro m v0 v1 k n
  unfold fJ42_init
  refine s_aload_n C rfl 0 rfl dJ42_init_0 1 rfl ?_
  refine s_aload_n C rfl 1 rfl dJ42_init_1 2 rfl ?_
  refine x_prF C hin 25 (RJ42, TJ42, 2) rfl 1 (Nat.le_of_ble_eq_true rfl) rfl q2116 rfl rfl trivial 26 rfl dJ42_init_2 5 rfl (fun m1 => ?_)
  refine s_aload_n C rfl 0 rfl dJ42_init_5 6 rfl ?_
  refine x_ok (fun hb_ => ?_)
  refine x_obj C hb_ q2111 q152 q153 (by decide) (Nat.le_of_ble_eq_true rfl) dJ42_init_6 9 rfl ?_
  refine s_aload_n C rfl 0 rfl dJ42_init_9 10 rfl ?_
  refine s_aload_n C rfl 0 rfl dJ42_init_10 11 rfl ?_
  refine x_gr C 25 (RJ42, TJ42, 2) rfl 1 (Nat.le_of_ble_eq_true rfl) q2116 (Or.inl rfl) rfl 26 rfl dJ42_init_11 14 rfl (fun x1 => ?_)
  refine x_gr C 24 (RJ46, TJ46, 1) rfl 0 (Nat.le_of_ble_eq_true rfl) q2739 (Or.inl rfl) rfl 25 rfl dJ42_init_14 17 rfl (fun x2 => ?_)
  refine x_ck (fun hb_ hb0_ => ?_)
  refine x_callA (enc := en_r) (owner := "java/util/AbstractMap") C 14 0 [] 21 (ctJ39_entrySet C.2.2.2.2.2.2.2.2.1 N m1 x2) hb_ hb0_ rfl rfl q2112 q2064 q2066 q2067 q132 q2068 q2063 ⟨by decide +kernel, by decide +kernel, by decide +kernel⟩ (Nat.le_of_ble_eq_true rfl) (Nat.le_of_ble_eq_true rfl) rfl (Nat.le_of_ble_eq_true rfl) dJ42_init_17 20 rfl rfl hen_r (kk_r (fun x3 m2 k1 n1 => ?_)) (kx_n he_r)
  refine x_ck (fun hb_ hb0_ => ?_)
  refine x_callF (enc := en_r) C 16 0 [] 22 (ctJ41_iterator C.2.2.2.2.2.2.2.2.1 N m2 x3) hb_ hb0_ rfl rfl rfl fw_4 q2114 q1017 q1019 q134 q1021 hx8 (Nat.le_of_ble_eq_true rfl) (Nat.le_of_ble_eq_true rfl) rfl (Nat.le_of_ble_eq_true rfl) dJ42_init_20 25 rfl rfl hen_r (kk_r (fun x4 m3 k1 n1 => ?_)) (kx_n he_r)
  refine x_pr C 25 (RJ42, TJ42, 2) rfl 0 (Nat.le_of_ble_eq_true rfl) rfl q2115 (Or.inl rfl) rfl trivial 26 rfl dJ42_init_25 28 rfl (fun m4 => ?_)
  exact x_vret C hret rfl dJ42_init_28
theorem hdJ42_init : ((⟨"java/util/AbstractMap$2$1", "<init>", "(Ljava/util/AbstractMap$2;)V"⟩ : MethodName)).cls ≠ "java/lang/invoke/MethodHandle" ∧ ((⟨"java/util/AbstractMap$2$1", "<init>", "(Ljava/util/AbstractMap$2;)V"⟩ : MethodName)).cls ≠ "java/lang/invoke/VarHandle" ∧ (parseMethodDescriptor ((⟨"java/util/AbstractMap$2$1", "<init>", "(Ljava/util/AbstractMap$2;)V"⟩ : MethodName)).desc).map (fun d => d.parameters.length) = some 1 := ⟨by decide +kernel, by decide +kernel, by decide +kernel⟩
theorem ctJ42_init {l : Launch} {g : GG} (hst : l.stackTraces = false) (N : Nat) (m : Mm) (v0 : Option Nat) (v1 : Option Nat) : ∀ v m' k n, fJ42_init (gE_ g) N m v0 v1 = some (v, m', k, n) → Ct_ l g (⟨"java/util/AbstractMap$2$1", "<init>", "(Ljava/util/AbstractMap$2;)V"⟩ : MethodName) (ws_ (⟨"java/util/AbstractMap$2$1", "<init>", "(Ljava/util/AbstractMap$2;)V"⟩ : MethodName) cJ42_init 2 (Option.none : Option Jvm.ClassFile.FieldType)) 17 [vr_ v0, vr_ v1] m (en_v v) m' k n :=
  Ct_of (by decide +kernel) rfl hst (Nat.le_of_ble_eq_true rfl) rfl (fun E C hret h0 hin => wJ42_init C hret h0 hin N m v0 v1 0 0)
theorem wJ46_iterator {l : Launch} {g : GG} {E : Me_} (C : Cx_ l g E "java/util/AbstractMap$2" cJ46_iterator 1 18) (hret : (eT_ E).sig.returnType = (Option.some (Jvm.ClassFile.FieldType.object "java/util/Iterator"))) (h0 : ∀ x ∈ (eC_ E).exceptionTable.toList, False) (hin : (eT_ E).name = "iterator") (N : Nat) : ∀ (m : Mm) (v0 : Option Nat) (k n : Nat), Sm_ l g E 1 en_r (fJ46_iterator (gE_ g) N m v0) k n 0 [(0, vr_ v0)] [] m := by
  intro m v0 k n
  unfold fJ46_iterator
  refine x_nw C 25 (RJ42, TJ42, 2) rfl q2106 q2107 q135 26 2 rfl rfl dJ46_iterator_0 3 rfl (fun x1 m1 => ?_)
  refine s_dup C rfl dJ46_iterator_3 4 rfl ?_
  refine s_aload_n C rfl 0 rfl dJ46_iterator_4 5 rfl ?_
  refine x_callI (enc := en_v) C 17 1 [vr_ v0] (ctJ42_init C.2.2.2.2.2.2.2.2.1 N m1 (some x1) v0) (fun h => by cases h) rfl q2108 q2109 q135 q2110 rfl hdJ42_init (Nat.le_of_ble_eq_true rfl) (Nat.le_of_ble_eq_true rfl) rfl (Nat.le_of_ble_eq_true rfl) dJ46_iterator_5 8 rfl rfl hen_v (kk_v (fun m2 k1 n1 => ?_)) (kx_n he_v)
  exact x_aret C hret (Or.inl ⟨_, rfl⟩) rfl dJ46_iterator_8
theorem hdJ46_iterator : ((⟨"java/util/AbstractMap$2", "iterator", "()Ljava/util/Iterator;"⟩ : MethodName)).cls ≠ "java/lang/invoke/MethodHandle" ∧ ((⟨"java/util/AbstractMap$2", "iterator", "()Ljava/util/Iterator;"⟩ : MethodName)).cls ≠ "java/lang/invoke/VarHandle" ∧ (parseMethodDescriptor ((⟨"java/util/AbstractMap$2", "iterator", "()Ljava/util/Iterator;"⟩ : MethodName)).desc).map (fun d => d.parameters.length) = some 0 := ⟨by decide +kernel, by decide +kernel, by decide +kernel⟩
theorem ctJ46_iterator {l : Launch} {g : GG} (hst : l.stackTraces = false) (N : Nat) (m : Mm) (v0 : Option Nat) : ∀ v m' k n, fJ46_iterator (gE_ g) N m v0 = some (v, m', k, n) → Ct_ l g (⟨"java/util/AbstractMap$2", "iterator", "()Ljava/util/Iterator;"⟩ : MethodName) (ws_ (⟨"java/util/AbstractMap$2", "iterator", "()Ljava/util/Iterator;"⟩ : MethodName) cJ46_iterator 1 (Option.some (Jvm.ClassFile.FieldType.object "java/util/Iterator"))) 18 [vr_ v0] m (en_r v) m' k n :=
  Ct_of (by decide +kernel) rfl hst (Nat.le_of_ble_eq_true rfl) rfl (fun E C hret h0 hin => wJ46_iterator C hret h0 hin N m v0 0 0)
theorem wX9_among_b65 {l : Launch} {g : GG} {E : Me_} (C : Cx_ l g E "MasterTree$ByValue" cX9_among 8 19) (hret : (eT_ E).sig.returnType = (Option.some Jvm.ClassFile.FieldType.long)) (h0 : ∀ x ∈ (eC_ E).exceptionTable.toList, False) (hin : (eT_ E).name = "among") (N : Nat) : ∀ (F : Nat) (m : Mm) (v3 : Int64) (v5 : Option Nat) (k n : Nat), Sm_ l g E 8 en_j (fX9_among_b65 (gE_ g) N F m v3 v5) k n 65 [(3, vj_ v3), (5, vr_ v5)] [] m := by
  intro F
  induction F with
  | zero => intros; exact Sm_none
  | succ F ih =>
    intro m v3 v5 k n
    unfold fX9_among_b65
    refine s_aload C 1 rfl dX9_among_65 67 rfl ?_
    refine x_ck (fun hb_ hb0_ => ?_)
    refine x_callF (enc := en_i) C 11 0 [] 26 (ctJ42_hasNext C.2.2.2.2.2.2.2.2.1 N m v5) hb_ hb0_ rfl rfl rfl fw_12 q2764 q1450 q1452 q135 q1454 hx3 (Nat.le_of_ble_eq_true rfl) (Nat.le_of_ble_eq_true rfl) rfl (Nat.le_of_ble_eq_true rfl) dX9_among_67 72 rfl rfl hen_i (kk_i (fun x1 m1 k1 n1 => ?_)) (kx_n he_i)
    refine s_if_eq C dX9_among_72 98 rfl 75 rfl (fun c_ => ?_) (fun c_ => ?_)
    · refine s_lload_n C rfl 0 rfl dX9_among_98 99 rfl ?_
      exact x_lret C hret rfl dX9_among_99
    · refine s_aload C 1 rfl dX9_among_75 77 rfl ?_
      refine x_ck (fun hb_ hb0_ => ?_)
      refine x_callF (enc := en_r) C 14 0 [] 26 (ctJ42_next C.2.2.2.2.2.2.2.2.1 N m1 v5) hb_ hb0_ rfl rfl rfl fw_18 q2766 q1488 q1490 q135 q1492 hx5 (Nat.le_of_ble_eq_true rfl) (Nat.le_of_ble_eq_true rfl) rfl (Nat.le_of_ble_eq_true rfl) dX9_among_77 82 rfl rfl hen_r (kk_r (fun x2 m2 k1 n1 => ?_)) (kx_n he_r)
      refine x_cc C "java/lang/Long" [28] (fun k hk => by rw [List.mem_singleton.mp hk]; exact ⟨rfl, Or.inr rfl⟩) q2767 dX9_among_82 85 rfl ?_
      refine x_ck (fun hb_ hb0_ => ?_)
      refine x_callV (enc := en_j) C 10 0 [] 28 (ctJ28_longValue C.2.2.2.2.2.2.2.2.1 N m2 x2) hb_ hb0_ rfl rfl q2768 q1853 q1854 q116 q1855 hdJ28_longValue (Nat.le_of_ble_eq_true rfl) (Nat.le_of_ble_eq_true rfl) rfl (Nat.le_of_ble_eq_true rfl) dX9_among_85 88 rfl rfl hen_j (kk_j (fun x3 m3 k1 n1 => ?_)) (kx_n he_j)
      refine s_lstore C (Nat.le_of_ble_eq_true rfl) [0, 1] rfl rfl dX9_among_88 90 rfl ?_
      refine s_lload_n C rfl 1 rfl dX9_among_90 91 rfl ?_
      refine s_lload C 0 rfl dX9_among_91 93 rfl ?_
      refine s_lor C dX9_among_93 94 rfl ?_
      refine s_lstore_n C rfl (Nat.le_of_ble_eq_true rfl) [2] rfl rfl dX9_among_94 95 rfl ?_
      refine s_goto C (off := -30) 65 dX9_among_95 rfl ?_
      exact ih _ _ _ _ _
theorem wX9_among_b47 {l : Launch} {g : GG} {E : Me_} (C : Cx_ l g E "MasterTree$ByValue" cX9_among 8 19) (hret : (eT_ E).sig.returnType = (Option.some Jvm.ClassFile.FieldType.long)) (h0 : ∀ x ∈ (eC_ E).exceptionTable.toList, False) (hin : (eT_ E).name = "among") (N : Nat) : ∀ (m : Mm) (v3 : Int64) (s0 : Option Nat) (s1 : Option Nat) (s2 : Int32) (k n : Nat), Sm_ l g E 8 en_j (fX9_among_b47 (gE_ g) N m v3 s0 s1 s2) k n 47 [(3, vj_ v3)] [vi_ s2, vr_ s1, vr_ s0] m := by
  intro m v3 s0 s1 s2 k n
  unfold fX9_among_b47
  refine x_callS (enc := en_r) C 12 1 [vi_ s2] (ctJ21_valueOf C.2.2.2.2.2.2.2.2.1 N m s2) q2704 q1620 q108 q1621 hdJ21_valueOf (Nat.le_of_ble_eq_true rfl) (Nat.le_of_ble_eq_true rfl) rfl (Nat.le_of_ble_eq_true rfl) dX9_among_47 50 rfl rfl hen_r (kk_r (fun x1 m1 k1 n1 => ?_)) (kx_n he_r)
  refine x_ck (fun hb_ hb0_ => ?_)
  refine x_callV (enc := en_r) C 17 2 [vr_ s1, vr_ x1] 15 (ctJ4_subMap C.2.2.2.2.2.2.2.2.1 N m1 s0 s1 x1) hb_ hb0_ rfl rfl q2705 q1992 q1993 q87 q1994 hdJ4_subMap (Nat.le_of_ble_eq_true rfl) (Nat.le_of_ble_eq_true rfl) rfl (Nat.le_of_ble_eq_true rfl) dX9_among_50 53 rfl rfl hen_r (kk_r (fun x2 m2 k1 n1 => ?_)) (kx_n he_r)
  refine x_ck (fun hb_ hb0_ => ?_)
  refine x_callF (enc := en_r) C 12 0 [] 21 (ctJ3_values_t21 C.2.2.2.2.2.2.2.2.1 N m2 x2) hb_ hb0_ rfl rfl rfl fw_52 q2707 q2727 q2729 q86 q2731 hx21 (Nat.le_of_ble_eq_true rfl) (Nat.le_of_ble_eq_true rfl) rfl (Nat.le_of_ble_eq_true rfl) dX9_among_53 58 rfl rfl hen_r (kk_r (fun x3 m3 k1 n1 => ?_)) (kx_n he_r)
  refine x_ck (fun hb_ hb0_ => ?_)
  refine x_callF (enc := en_r) C 18 0 [] 25 (ctJ46_iterator C.2.2.2.2.2.2.2.2.1 N m3 x3) hb_ hb0_ rfl rfl rfl fw_53 q2744 q2748 q2104 q144 q2105 hx22 (Nat.le_of_ble_eq_true rfl) (Nat.le_of_ble_eq_true rfl) rfl (Nat.le_of_ble_eq_true rfl) dX9_among_58 63 rfl rfl hen_r (kk_r (fun x4 m4 k1 n1 => ?_)) (kx_n he_r)
  refine s_astore C (Nat.le_of_ble_eq_true rfl) [0] rfl rfl dX9_among_63 65 rfl ?_
  refine Sm_sub [1, 0] rfl ?_
  exact wX9_among_b65 C hret h0 hin N N _ _ _ _ _
theorem wX9_among {l : Launch} {g : GG} {E : Me_} (C : Cx_ l g E "MasterTree$ByValue" cX9_among 8 19) (hret : (eT_ E).sig.returnType = (Option.some Jvm.ClassFile.FieldType.long)) (h0 : ∀ x ∈ (eC_ E).exceptionTable.toList, False) (hin : (eT_ E).name = "among") (N : Nat) : ∀ (m : Mm) (v0 : Option Nat) (v1 : Option Nat) (k n : Nat), Sm_ l g E 8 en_j (fX9_among (gE_ g) N m v0 v1) k n 0 [(0, vr_ v0), (1, vr_ v1)] [] m := by
  intro m v0 v1 k n
  unfold fX9_among
  refine s_sipush C 1000 rfl dX9_among_0 3 rfl ?_
  refine s_aload_n C rfl 0 rfl dX9_among_3 4 rfl ?_
  refine x_gi C 7 (RX9, TX9, 3) rfl 0 (Nat.le_of_ble_eq_true rfl) q2572 (Or.inl rfl) rfl 8 rfl dX9_among_4 7 rfl (fun x1 => ?_)
  refine s_imul C dX9_among_7 8 rfl ?_
  refine s_aload_n C rfl 0 rfl dX9_among_8 9 rfl ?_
  refine x_gi C 7 (RX9, TX9, 3) rfl 1 (Nat.le_of_ble_eq_true rfl) q2573 (Or.inl rfl) rfl 8 rfl dX9_among_9 12 rfl (fun x2 => ?_)
  refine s_iadd C dX9_among_12 13 rfl ?_
  refine s_istore_n C rfl (Nat.le_of_ble_eq_true rfl) [0, 1] rfl rfl dX9_among_13 14 rfl ?_
  refine s_lconst C 0 rfl dX9_among_14 15 rfl ?_
  refine s_lstore_n C rfl (Nat.le_of_ble_eq_true rfl) [0, 1, 2] rfl rfl dX9_among_15 16 rfl ?_
  refine s_aload_n C rfl 3 rfl dX9_among_16 17 rfl ?_
  refine x_grN C 1 (RX2, TX2, 12) rfl 10 (Nat.le_of_ble_eq_true rfl) q317 rfl rfl 2 rfl dX9_among_17 20 rfl (fun x3 => ?_)
  refine s_iload_n C rfl 1 rfl dX9_among_20 21 rfl ?_
  refine x_callS (enc := en_r) C 12 1 [vi_ ((1000 * x1) + x2)] (ctJ21_valueOf C.2.2.2.2.2.2.2.2.1 N m ((1000 * x1) + x2)) q2704 q1620 q108 q1621 hdJ21_valueOf (Nat.le_of_ble_eq_true rfl) (Nat.le_of_ble_eq_true rfl) rfl (Nat.le_of_ble_eq_true rfl) dX9_among_21 24 rfl rfl hen_r (kk_r (fun x4 m1 k1 n1 => ?_)) (kx_n he_r)
  refine s_aload_n C rfl 2 rfl dX9_among_24 25 rfl ?_
  refine x_gi C 7 (RX9, TX9, 3) rfl 2 (Nat.le_of_ble_eq_true rfl) q2574 (Or.inl rfl) rfl 8 rfl dX9_among_25 28 rfl (fun x5 => ?_)
  refine s_if_eq C dX9_among_28 44 rfl 31 rfl (fun c_ => ?_) (fun c_ => ?_)
  · refine s_iload_n C rfl 1 rfl dX9_among_44 45 rfl ?_
    refine s_iconst C 1 rfl dX9_among_45 46 rfl ?_
    refine s_iadd C dX9_among_46 47 rfl ?_
    refine Sm_sub [0] rfl ?_
    exact wX9_among_b47 C hret h0 hin N _ _ _ _ _ _ _
  · refine s_sipush C 1000 rfl dX9_among_31 34 rfl ?_
    refine s_aload_n C rfl 2 rfl dX9_among_34 35 rfl ?_
    refine x_gi C 7 (RX9, TX9, 3) rfl 0 (Nat.le_of_ble_eq_true rfl) q2572 (Or.inl rfl) rfl 8 rfl dX9_among_35 38 rfl (fun x6 => ?_)
    refine s_iconst C 1 rfl dX9_among_38 39 rfl ?_
    refine s_iadd C dX9_among_39 40 rfl ?_
    refine s_imul C dX9_among_40 41 rfl ?_
    refine s_goto C (off := 6) 47 dX9_among_41 rfl ?_
    refine Sm_sub [0] rfl ?_
    exact wX9_among_b47 C hret h0 hin N _ _ _ _ _ _ _
theorem hdX9_among : ((⟨"MasterTree$ByValue", "among", "(LMasterTree$Master;)J"⟩ : MethodName)).cls ≠ "java/lang/invoke/MethodHandle" ∧ ((⟨"MasterTree$ByValue", "among", "(LMasterTree$Master;)J"⟩ : MethodName)).cls ≠ "java/lang/invoke/VarHandle" ∧ (parseMethodDescriptor ((⟨"MasterTree$ByValue", "among", "(LMasterTree$Master;)J"⟩ : MethodName)).desc).map (fun d => d.parameters.length) = some 1 := ⟨by decide +kernel, by decide +kernel, by decide +kernel⟩
theorem ctX9_among {l : Launch} {g : GG} (hst : l.stackTraces = false) (N : Nat) (m : Mm) (v0 : Option Nat) (v1 : Option Nat) : ∀ v m' k n, fX9_among (gE_ g) N m v0 v1 = some (v, m', k, n) → Ct_ l g (⟨"MasterTree$ByValue", "among", "(LMasterTree$Master;)J"⟩ : MethodName) (ws_ (⟨"MasterTree$ByValue", "among", "(LMasterTree$Master;)J"⟩ : MethodName) cX9_among 8 (Option.some Jvm.ClassFile.FieldType.long)) 19 [vr_ v0, vr_ v1] m (en_j v) m' k n :=
  Ct_of (by decide +kernel) rfl hst (Nat.le_of_ble_eq_true rfl) rfl (fun E C hret h0 hin => wX9_among C hret h0 hin N m v0 v1 0 0)
theorem wX6_isBeneath_b28 {l : Launch} {g : GG} {E : Me_} (C : Cx_ l g E "MasterTree$Klass" cX6_isBeneath 3 10) (hret : (eT_ E).sig.returnType = (Option.some Jvm.ClassFile.FieldType.boolean)) (h0 : ∀ x ∈ (eC_ E).exceptionTable.toList, False) (hin : (eT_ E).name = "isBeneath") (N : Nat) : ∀ (m : Mm) (s0 : Int32) (k n : Nat), Sm_ l g E 3 en_i (fX6_isBeneath_b28 (gE_ g) N m s0) k n 28 [] [vi_ s0] m := by
  intro m s0 k n
  unfold fX6_isBeneath_b28
  exact x_zret C hret rfl dX6_isBeneath_28
theorem wX6_isBeneath_b19 {l : Launch} {g : GG} {E : Me_} (C : Cx_ l g E "MasterTree$Klass" cX6_isBeneath 3 10) (hret : (eT_ E).sig.returnType = (Option.some Jvm.ClassFile.FieldType.boolean)) (h0 : ∀ x ∈ (eC_ E).exceptionTable.toList, False) (hin : (eT_ E).name = "isBeneath") (N : Nat) : ∀ (m : Mm) (v2 : Option Nat) (k n : Nat), Sm_ l g E 3 en_i (fX6_isBeneath_b19 (gE_ g) N m v2) k n 19 [(2, vr_ v2)] [] m := by
  intro m v2 k n
  unfold fX6_isBeneath_b19
  refine s_aload_n C rfl 0 rfl dX6_isBeneath_19 20 rfl ?_
  refine s_ifnull C dX6_isBeneath_20 27 rfl 23 rfl (fun c_ => ?_) (fun c_ => ?_)
  · refine s_iconst C 0 rfl dX6_isBeneath_27 28 rfl ?_
    refine Sm_sub [] rfl ?_
    exact wX6_isBeneath_b28 C hret h0 hin N _ _ _ _
  · refine s_iconst C 1 rfl dX6_isBeneath_23 24 rfl ?_
    refine s_goto C (off := 4) 28 dX6_isBeneath_24 rfl ?_
    refine Sm_sub [] rfl ?_
    exact wX6_isBeneath_b28 C hret h0 hin N _ _ _ _
theorem wX6_isBeneath_b2 {l : Launch} {g : GG} {E : Me_} (C : Cx_ l g E "MasterTree$Klass" cX6_isBeneath 3 10) (hret : (eT_ E).sig.returnType = (Option.some Jvm.ClassFile.FieldType.boolean)) (h0 : ∀ x ∈ (eC_ E).exceptionTable.toList, False) (hin : (eT_ E).name = "isBeneath") (N : Nat) : ∀ (F : Nat) (m : Mm) (v1 : Option Nat) (v2 : Option Nat) (k n : Nat), Sm_ l g E 3 en_i (fX6_isBeneath_b2 (gE_ g) N F m v1 v2) k n 2 [(1, vr_ v1), (2, vr_ v2)] [] m := by
  intro F
  induction F with
  | zero => intros; exact Sm_none
  | succ F ih =>
    intro m v1 v2 k n
    unfold fX6_isBeneath_b2
    refine s_aload_n C rfl 1 rfl dX6_isBeneath_2 3 rfl ?_
    refine s_ifnull C dX6_isBeneath_3 19 rfl 6 rfl (fun c_ => ?_) (fun c_ => ?_)
    · refine Sm_sub [1] rfl ?_
      exact wX6_isBeneath_b19 C hret h0 hin N _ _ _ _
    · refine s_aload_n C rfl 1 rfl dX6_isBeneath_6 7 rfl ?_
      refine s_aload_n C rfl 0 rfl dX6_isBeneath_7 8 rfl ?_
      refine s_acmp_eq C dX6_isBeneath_8 19 rfl 11 rfl (fun c_ => ?_) (fun c_ => ?_)
      · refine Sm_sub [1] rfl ?_
        exact wX6_isBeneath_b19 C hret h0 hin N _ _ _ _
      · refine s_aload_n C rfl 1 rfl dX6_isBeneath_11 12 rfl ?_
        refine x_gr C 5 (RX6, TX6, 3) rfl 0 (Nat.le_of_ble_eq_true rfl) q914 (Or.inl rfl) rfl 6 rfl dX6_isBeneath_12 15 rfl (fun x1 => ?_)
        refine s_astore_n C rfl (Nat.le_of_ble_eq_true rfl) [0] rfl rfl dX6_isBeneath_15 16 rfl ?_
        refine s_goto C (off := -14) 2 dX6_isBeneath_16 rfl ?_
        refine Sm_sub [1, 0] rfl ?_
        exact ih _ _ _ _ _
theorem wX6_isBeneath {l : Launch} {g : GG} {E : Me_} (C : Cx_ l g E "MasterTree$Klass" cX6_isBeneath 3 10) (hret : (eT_ E).sig.returnType = (Option.some Jvm.ClassFile.FieldType.boolean)) (h0 : ∀ x ∈ (eC_ E).exceptionTable.toList, False) (hin : (eT_ E).name = "isBeneath") (N : Nat) : ∀ (m : Mm) (v0 : Option Nat) (v1 : Option Nat) (k n : Nat), Sm_ l g E 3 en_i (fX6_isBeneath (gE_ g) N m v0 v1) k n 0 [(0, vr_ v0), (1, vr_ v1)] [] m := by
  intro m v0 v1 k n
  unfold fX6_isBeneath
  refine s_aload_n C rfl 0 rfl dX6_isBeneath_0 1 rfl ?_
  refine s_astore_n C rfl (Nat.le_of_ble_eq_true rfl) [1] rfl rfl dX6_isBeneath_1 2 rfl ?_
  refine Sm_sub [1, 0] rfl ?_
  exact wX6_isBeneath_b2 C hret h0 hin N N _ _ _ _ _
theorem hdX6_isBeneath : ((⟨"MasterTree$Klass", "isBeneath", "(LMasterTree$Klass;)Z"⟩ : MethodName)).cls ≠ "java/lang/invoke/MethodHandle" ∧ ((⟨"MasterTree$Klass", "isBeneath", "(LMasterTree$Klass;)Z"⟩ : MethodName)).cls ≠ "java/lang/invoke/VarHandle" ∧ (parseMethodDescriptor ((⟨"MasterTree$Klass", "isBeneath", "(LMasterTree$Klass;)Z"⟩ : MethodName)).desc).map (fun d => d.parameters.length) = some 1 := ⟨by decide +kernel, by decide +kernel, by decide +kernel⟩
theorem ctX6_isBeneath {l : Launch} {g : GG} (hst : l.stackTraces = false) (N : Nat) (m : Mm) (v0 : Option Nat) (v1 : Option Nat) : ∀ v m' k n, fX6_isBeneath (gE_ g) N m v0 v1 = some (v, m', k, n) → Ct_ l g (⟨"MasterTree$Klass", "isBeneath", "(LMasterTree$Klass;)Z"⟩ : MethodName) (ws_ (⟨"MasterTree$Klass", "isBeneath", "(LMasterTree$Klass;)Z"⟩ : MethodName) cX6_isBeneath 3 (Option.some Jvm.ClassFile.FieldType.boolean)) 10 [vr_ v0, vr_ v1] m (en_i v) m' k n :=
  Ct_of (by decide +kernel) rfl hst (Nat.le_of_ble_eq_true rfl) rfl (fun E C hret h0 hin => wX6_isBeneath C hret h0 hin N m v0 v1 0 0)
theorem wX10_among_b55 {l : Launch} {g : GG} {E : Me_} (C : Cx_ l g E "MasterTree$ByClass" cX10_among 5 13) (hret : (eT_ E).sig.returnType = (Option.some Jvm.ClassFile.FieldType.long)) (h0 : ∀ x ∈ (eC_ E).exceptionTable.toList, False) (hin : (eT_ E).name = "among") (N : Nat) {k5 : Mm → Option Nat → Option Nat → Int64 → Int32 → Rs (Int64)} (hk5 : ∀ (m : Mm) (v0 : Option Nat) (v1 : Option Nat) (v2 : Int64) (v4 : Int32) (k n : Nat), Sm_ l g E 5 en_j (k5 m v0 v1 v2 v4) k n 5 [(0, vr_ v0), (1, vr_ v1), (2, vj_ v2), (4, vi_ v4)] [] m) : ∀ (m : Mm) (v0 : Option Nat) (v1 : Option Nat) (v4 : Int32) (s0 : Int64) (s1 : Int64) (k n : Nat), Sm_ l g E 5 en_j (fX10_among_b55 (gE_ g) N k5 m v0 v1 v4 s0 s1) k n 55 [(0, vr_ v0), (1, vr_ v1), (4, vi_ v4)] [vj_ s1, vj_ s0] m := by
  intro m v0 v1 v4 s0 s1 k n
  unfold fX10_among_b55
  refine s_lor C dX10_among_55 56 rfl ?_
  refine s_lstore_n C rfl (Nat.le_of_ble_eq_true rfl) [0, 1, 2] rfl rfl dX10_among_56 57 rfl ?_
  refine s_iinc C 1 rfl 3 rfl (Nat.le_of_ble_eq_true rfl) [0, 1, 2] rfl rfl dX10_among_57 60 rfl ?_
  refine s_goto C (off := -55) 5 dX10_among_60 rfl ?_
  refine Sm_sub [2, 3, 1, 0] rfl ?_
  exact hk5 _ _ _ _ _ _ _
theorem wX10_among_b5 {l : Launch} {g : GG} {E : Me_} (C : Cx_ l g E "MasterTree$ByClass" cX10_among 5 13) (hret : (eT_ E).sig.returnType = (Option.some Jvm.ClassFile.FieldType.long)) (h0 : ∀ x ∈ (eC_ E).exceptionTable.toList, False) (hin : (eT_ E).name = "among") (N : Nat) : ∀ (F : Nat) (m : Mm) (v0 : Option Nat) (v1 : Option Nat) (v2 : Int64) (v4 : Int32) (k n : Nat), Sm_ l g E 5 en_j (fX10_among_b5 (gE_ g) N F m v0 v1 v2 v4) k n 5 [(0, vr_ v0), (1, vr_ v1), (2, vj_ v2), (4, vi_ v4)] [] m := by
  intro F
  induction F with
  | zero => intros; exact Sm_none
  | succ F ih =>
    intro m v0 v1 v2 v4 k n
    unfold fX10_among_b5
    refine s_iload C 3 rfl dX10_among_5 7 rfl ?_
    refine s_aload_n C rfl 1 rfl dX10_among_7 8 rfl ?_
    refine x_grN C 1 (RX2, TX2, 12) rfl 2 (Nat.le_of_ble_eq_true rfl) q300 rfl rfl 2 rfl dX10_among_8 11 rfl (fun x1 => ?_)
    refine x_ck (fun hb_ hb0_ => ?_)
    refine x_callF (enc := en_i) C 10 0 [] 13 (ctJ2_size C.2.2.2.2.2.2.2.2.1 N m x1) hb_ hb0_ rfl rfl rfl fw_1 q2693 q483 q485 q84 q487 hx1 (Nat.le_of_ble_eq_true rfl) (Nat.le_of_ble_eq_true rfl) rfl (Nat.le_of_ble_eq_true rfl) dX10_among_11 16 rfl rfl hen_i (kk_i (fun x2 m1 k1 n1 => ?_)) (kx_n he_i)
    refine s_icmp_ge C dX10_among_16 63 rfl 19 rfl (fun c_ => ?_) (fun c_ => ?_)
    · refine s_lload_n C rfl 2 rfl dX10_among_19 20 rfl ?_
      refine s_aload_n C rfl 1 rfl dX10_among_20 21 rfl ?_
      refine x_grN C 1 (RX2, TX2, 12) rfl 2 (Nat.le_of_ble_eq_true rfl) q300 rfl rfl 2 rfl dX10_among_21 24 rfl (fun x3 => ?_)
      refine s_iload C 3 rfl dX10_among_24 26 rfl ?_
      refine x_ck (fun hb_ hb0_ => ?_)
      refine x_callF (enc := en_r) C 12 1 [vi_ v4] 13 (ctJ2_get C.2.2.2.2.2.2.2.2.1 N m1 x3 v4) hb_ hb0_ rfl rfl rfl fw_3 q2695 q891 q893 q84 q895 hx2 (Nat.le_of_ble_eq_true rfl) (Nat.le_of_ble_eq_true rfl) rfl (Nat.le_of_ble_eq_true rfl) dX10_among_26 31 rfl rfl hen_r (kk_r (fun x4 m2 k1 n1 => ?_)) (kx_n he_r)
      refine x_cc C "MasterTree$Klass" [6] (fun k hk => by rw [List.mem_singleton.mp hk]; exact ⟨rfl, Or.inr rfl⟩) q2696 dX10_among_31 34 rfl ?_
      refine s_aload_n C rfl 0 rfl dX10_among_34 35 rfl ?_
      refine x_gr C 8 (RX10, TX10, 1) rfl 0 (Nat.le_of_ble_eq_true rfl) q2614 (Or.inl rfl) rfl 9 rfl dX10_among_35 38 rfl (fun x5 => ?_)
      refine x_ck (fun hb_ hb0_ => ?_)
      refine x_callV (enc := en_i) C 10 1 [vr_ x5] 6 (ctX6_isBeneath C.2.2.2.2.2.2.2.2.1 N m2 x4 x5) hb_ hb0_ rfl rfl q2697 q2698 q2699 q111 q2700 hdX6_isBeneath (Nat.le_of_ble_eq_true rfl) (Nat.le_of_ble_eq_true rfl) rfl (Nat.le_of_ble_eq_true rfl) dX10_among_38 41 rfl rfl hen_i (kk_i (fun x6 m3 k1 n1 => ?_)) (kx_n he_i)
      refine s_if_eq C dX10_among_41 54 rfl 44 rfl (fun c_ => ?_) (fun c_ => ?_)
      · refine s_lconst C 0 rfl dX10_among_54 55 rfl ?_
        refine Sm_sub [0, 1, 3] rfl ?_
        exact wX10_among_b55 C hret h0 hin N (fun m v0 v1 v2 v4 k n => ih m v0 v1 v2 v4 k n) _ _ _ _ _ _ _ _
      · refine s_aload_n C rfl 1 rfl dX10_among_44 45 rfl ?_
        refine x_grN C 1 (RX2, TX2, 12) rfl 11 (Nat.le_of_ble_eq_true rfl) q319 rfl rfl 2 rfl dX10_among_45 48 rfl (fun x7 => ?_)
        refine s_iload C 3 rfl dX10_among_48 50 rfl ?_
        refine x_aj3 C 203 rfl dX10_among_50 51 rfl (fun x8 => ?_)
        refine s_goto C (off := 4) 55 dX10_among_51 rfl ?_
        refine Sm_sub [0, 1, 3] rfl ?_
        exact wX10_among_b55 C hret h0 hin N (fun m v0 v1 v2 v4 k n => ih m v0 v1 v2 v4 k n) _ _ _ _ _ _ _ _
    · refine s_lload_n C rfl 2 rfl dX10_among_63 64 rfl ?_
      exact x_lret C hret rfl dX10_among_64
theorem wX10_among {l : Launch} {g : GG} {E : Me_} (C : Cx_ l g E "MasterTree$ByClass" cX10_among 5 13) (hret : (eT_ E).sig.returnType = (Option.some Jvm.ClassFile.FieldType.long)) (h0 : ∀ x ∈ (eC_ E).exceptionTable.toList, False) (hin : (eT_ E).name = "among") (N : Nat) : ∀ (m : Mm) (v0 : Option Nat) (v1 : Option Nat) (k n : Nat), Sm_ l g E 5 en_j (fX10_among (gE_ g) N m v0 v1) k n 0 [(0, vr_ v0), (1, vr_ v1)] [] m := by
  intro m v0 v1 k n
  unfold fX10_among
  refine s_lconst C 0 rfl dX10_among_0 1 rfl ?_
  refine s_lstore_n C rfl (Nat.le_of_ble_eq_true rfl) [0, 1] rfl rfl dX10_among_1 2 rfl ?_
  refine s_iconst C 0 rfl dX10_among_2 3 rfl ?_
  refine s_istore C (Nat.le_of_ble_eq_true rfl) [0, 1, 2] rfl rfl dX10_among_3 5 rfl ?_
  refine Sm_sub [2, 3, 1, 0] rfl ?_
  exact wX10_among_b5 C hret h0 hin N N _ _ _ _ _ _ _
theorem hdX10_among : ((⟨"MasterTree$ByClass", "among", "(LMasterTree$Master;)J"⟩ : MethodName)).cls ≠ "java/lang/invoke/MethodHandle" ∧ ((⟨"MasterTree$ByClass", "among", "(LMasterTree$Master;)J"⟩ : MethodName)).cls ≠ "java/lang/invoke/VarHandle" ∧ (parseMethodDescriptor ((⟨"MasterTree$ByClass", "among", "(LMasterTree$Master;)J"⟩ : MethodName)).desc).map (fun d => d.parameters.length) = some 1 := ⟨by decide +kernel, by decide +kernel, by decide +kernel⟩
theorem ctX10_among {l : Launch} {g : GG} (hst : l.stackTraces = false) (N : Nat) (m : Mm) (v0 : Option Nat) (v1 : Option Nat) : ∀ v m' k n, fX10_among (gE_ g) N m v0 v1 = some (v, m', k, n) → Ct_ l g (⟨"MasterTree$ByClass", "among", "(LMasterTree$Master;)J"⟩ : MethodName) (ws_ (⟨"MasterTree$ByClass", "among", "(LMasterTree$Master;)J"⟩ : MethodName) cX10_among 5 (Option.some Jvm.ClassFile.FieldType.long)) 13 [vr_ v0, vr_ v1] m (en_j v) m' k n :=
  Ct_of (by decide +kernel) rfl hst (Nat.le_of_ble_eq_true rfl) rfl (fun E C hret h0 hin => wX10_among C hret h0 hin N m v0 v1 0 0)
theorem wX11_among_d0_b44 {l : Launch} {g : GG} {E : Me_} (C : Cx_ l g E "MasterTree$Combined" cX11_among 2 20) (hret : (eT_ E).sig.returnType = (Option.some Jvm.ClassFile.FieldType.long)) (h0 : ∀ x ∈ (eC_ E).exceptionTable.toList, False) (hin : (eT_ E).name = "among") (N : Nat) : ∀ (m : Mm) (s0 : Int64) (k n : Nat), Sm_ l g E 2 en_j (fX11_among_d0_b44 (gE_ g) N m s0) k n 44 [] [vj_ s0] m := by
  intro m s0 k n
  unfold fX11_among_d0_b44
  exact x_lret C hret rfl dX11_among_44
theorem wX11_among_d0 {l : Launch} {g : GG} {E : Me_} (C : Cx_ l g E "MasterTree$Combined" cX11_among 2 20) (hret : (eT_ E).sig.returnType = (Option.some Jvm.ClassFile.FieldType.long)) (h0 : ∀ x ∈ (eC_ E).exceptionTable.toList, False) (hin : (eT_ E).name = "among") (N : Nat) : ∀ (m : Mm) (v0 : Option Nat) (v1 : Option Nat) (k n : Nat), Sm_ l g E 2 en_j (fX11_among_d0 (gE_ g) N m v0 v1) k n 0 [(0, vr_ v0), (1, vr_ v1)] [] m := by
  intro m v0 v1 k n
  unfold fX11_among_d0
  refine s_aload_n C rfl 0 rfl dX11_among_0 1 rfl ?_
  refine x_gi C 9 (RX11, TX11, 3) rfl 2 (Nat.le_of_ble_eq_true rfl) q2642 (Or.inl rfl) rfl 10 rfl dX11_among_1 4 rfl (fun x1 => ?_)
  refine s_if_eq C dX11_among_4 27 rfl 7 rfl (fun c_ => ?_) (fun c_ => ?_)
  · refine s_aload_n C rfl 0 rfl dX11_among_27 28 rfl ?_
    refine x_gr C 9 (RX11, TX11, 3) rfl 0 (Nat.le_of_ble_eq_true rfl) q2640 (Or.inl rfl) rfl 10 rfl dX11_among_28 31 rfl (fun x2 => ?_)
    refine s_aload_n C rfl 1 rfl dX11_among_31 32 rfl ?_
    refine x_wj [] 35 (fun kk_ => ?_) (fun x3 m1 k1 n1 => ?_)
    · refine x_csr (kd := 8) (fun hb_ hb0_ => ?_) ?_
      · exact x_callA (enc := en_j) (owner := "MasterTree$Filter") C 19 1 [vr_ v1] 8 (ctX9_among C.2.2.2.2.2.2.2.2.1 N m x2 v1) hb_ hb0_ rfl rfl q2772 q2688 q2701 q2702 q139 q2703 q2687 ⟨by decide +kernel, by decide +kernel, by decide +kernel⟩ (Nat.le_of_ble_eq_true rfl) (Nat.le_of_ble_eq_true rfl) rfl (Nat.le_of_ble_eq_true rfl) dX11_among_32 35 rfl rfl hen_j (kk_j kk_) (kx_n he_j)
      refine x_csr (kd := 9) (fun hb_ hb0_ => ?_) ?_
      · exact x_callA (enc := en_j) (owner := "MasterTree$Filter") C 13 1 [vr_ v1] 9 (ctX10_among C.2.2.2.2.2.2.2.2.1 N m x2 v1) hb_ hb0_ rfl rfl q2772 q2688 q2689 q2690 q140 q2691 q2687 ⟨by decide +kernel, by decide +kernel, by decide +kernel⟩ (Nat.le_of_ble_eq_true rfl) (Nat.le_of_ble_eq_true rfl) rfl (Nat.le_of_ble_eq_true rfl) dX11_among_32 35 rfl rfl hen_j (kk_j kk_) (kx_n he_j)
      exact Sm_bn
    refine s_aload_n C rfl 0 rfl dX11_among_35 36 rfl ?_
    refine x_gr C 9 (RX11, TX11, 3) rfl 1 (Nat.le_of_ble_eq_true rfl) q2641 (Or.inl rfl) rfl 10 rfl dX11_among_36 39 rfl (fun x6 => ?_)
    refine s_aload_n C rfl 1 rfl dX11_among_39 40 rfl ?_
    refine x_wj [vj_ x3] 43 (fun kk_ => ?_) (fun x7 m4 k1 n1 => ?_)
    · refine x_csr (kd := 8) (fun hb_ hb0_ => ?_) ?_
      · exact x_callA (enc := en_j) (owner := "MasterTree$Filter") C 19 1 [vr_ v1] 8 (ctX9_among C.2.2.2.2.2.2.2.2.1 N m1 x6 v1) hb_ hb0_ rfl rfl q2772 q2688 q2701 q2702 q139 q2703 q2687 ⟨by decide +kernel, by decide +kernel, by decide +kernel⟩ (Nat.le_of_ble_eq_true rfl) (Nat.le_of_ble_eq_true rfl) rfl (Nat.le_of_ble_eq_true rfl) dX11_among_40 43 rfl rfl hen_j (kk_j kk_) (kx_n he_j)
      refine x_csr (kd := 9) (fun hb_ hb0_ => ?_) ?_
      · exact x_callA (enc := en_j) (owner := "MasterTree$Filter") C 13 1 [vr_ v1] 9 (ctX10_among C.2.2.2.2.2.2.2.2.1 N m1 x6 v1) hb_ hb0_ rfl rfl q2772 q2688 q2689 q2690 q140 q2691 q2687 ⟨by decide +kernel, by decide +kernel, by decide +kernel⟩ (Nat.le_of_ble_eq_true rfl) (Nat.le_of_ble_eq_true rfl) rfl (Nat.le_of_ble_eq_true rfl) dX11_among_40 43 rfl rfl hen_j (kk_j kk_) (kx_n he_j)
      exact Sm_bn
    refine s_lor C dX11_among_43 44 rfl ?_
    refine Sm_sub [] rfl ?_
    exact wX11_among_d0_b44 C hret h0 hin N _ _ _ _
  · refine s_aload_n C rfl 0 rfl dX11_among_7 8 rfl ?_
    refine x_gr C 9 (RX11, TX11, 3) rfl 0 (Nat.le_of_ble_eq_true rfl) q2640 (Or.inl rfl) rfl 10 rfl dX11_among_8 11 rfl (fun x10 => ?_)
    refine s_aload_n C rfl 1 rfl dX11_among_11 12 rfl ?_
    refine x_wj [] 15 (fun kk_ => ?_) (fun x11 m7 k1 n1 => ?_)
    · refine x_csr (kd := 8) (fun hb_ hb0_ => ?_) ?_
      · exact x_callA (enc := en_j) (owner := "MasterTree$Filter") C 19 1 [vr_ v1] 8 (ctX9_among C.2.2.2.2.2.2.2.2.1 N m x10 v1) hb_ hb0_ rfl rfl q2772 q2688 q2701 q2702 q139 q2703 q2687 ⟨by decide +kernel, by decide +kernel, by decide +kernel⟩ (Nat.le_of_ble_eq_true rfl) (Nat.le_of_ble_eq_true rfl) rfl (Nat.le_of_ble_eq_true rfl) dX11_among_12 15 rfl rfl hen_j (kk_j kk_) (kx_n he_j)
      refine x_csr (kd := 9) (fun hb_ hb0_ => ?_) ?_
      · exact x_callA (enc := en_j) (owner := "MasterTree$Filter") C 13 1 [vr_ v1] 9 (ctX10_among C.2.2.2.2.2.2.2.2.1 N m x10 v1) hb_ hb0_ rfl rfl q2772 q2688 q2689 q2690 q140 q2691 q2687 ⟨by decide +kernel, by decide +kernel, by decide +kernel⟩ (Nat.le_of_ble_eq_true rfl) (Nat.le_of_ble_eq_true rfl) rfl (Nat.le_of_ble_eq_true rfl) dX11_among_12 15 rfl rfl hen_j (kk_j kk_) (kx_n he_j)
      exact Sm_bn
    refine s_aload_n C rfl 0 rfl dX11_among_15 16 rfl ?_
    refine x_gr C 9 (RX11, TX11, 3) rfl 1 (Nat.le_of_ble_eq_true rfl) q2641 (Or.inl rfl) rfl 10 rfl dX11_among_16 19 rfl (fun x14 => ?_)
    refine s_aload_n C rfl 1 rfl dX11_among_19 20 rfl ?_
    refine x_wj [vj_ x11] 23 (fun kk_ => ?_) (fun x15 m10 k1 n1 => ?_)
    · refine x_csr (kd := 8) (fun hb_ hb0_ => ?_) ?_
      · exact x_callA (enc := en_j) (owner := "MasterTree$Filter") C 19 1 [vr_ v1] 8 (ctX9_among C.2.2.2.2.2.2.2.2.1 N m7 x14 v1) hb_ hb0_ rfl rfl q2772 q2688 q2701 q2702 q139 q2703 q2687 ⟨by decide +kernel, by decide +kernel, by decide +kernel⟩ (Nat.le_of_ble_eq_true rfl) (Nat.le_of_ble_eq_true rfl) rfl (Nat.le_of_ble_eq_true rfl) dX11_among_20 23 rfl rfl hen_j (kk_j kk_) (kx_n he_j)
      refine x_csr (kd := 9) (fun hb_ hb0_ => ?_) ?_
      · exact x_callA (enc := en_j) (owner := "MasterTree$Filter") C 13 1 [vr_ v1] 9 (ctX10_among C.2.2.2.2.2.2.2.2.1 N m7 x14 v1) hb_ hb0_ rfl rfl q2772 q2688 q2689 q2690 q140 q2691 q2687 ⟨by decide +kernel, by decide +kernel, by decide +kernel⟩ (Nat.le_of_ble_eq_true rfl) (Nat.le_of_ble_eq_true rfl) rfl (Nat.le_of_ble_eq_true rfl) dX11_among_20 23 rfl rfl hen_j (kk_j kk_) (kx_n he_j)
      exact Sm_bn
    refine s_land C dX11_among_23 24 rfl ?_
    refine s_goto C (off := 20) 44 dX11_among_24 rfl ?_
    refine Sm_sub [] rfl ?_
    exact wX11_among_d0_b44 C hret h0 hin N _ _ _ _
theorem hdX11_among_d0 : ((⟨"MasterTree$Combined", "among", "(LMasterTree$Master;)J"⟩ : MethodName)).cls ≠ "java/lang/invoke/MethodHandle" ∧ ((⟨"MasterTree$Combined", "among", "(LMasterTree$Master;)J"⟩ : MethodName)).cls ≠ "java/lang/invoke/VarHandle" ∧ (parseMethodDescriptor ((⟨"MasterTree$Combined", "among", "(LMasterTree$Master;)J"⟩ : MethodName)).desc).map (fun d => d.parameters.length) = some 1 := ⟨by decide +kernel, by decide +kernel, by decide +kernel⟩
theorem ctX11_among_d0 {l : Launch} {g : GG} (hst : l.stackTraces = false) (N : Nat) (m : Mm) (v0 : Option Nat) (v1 : Option Nat) : ∀ v m' k n, fX11_among_d0 (gE_ g) N m v0 v1 = some (v, m', k, n) → Ct_ l g (⟨"MasterTree$Combined", "among", "(LMasterTree$Master;)J"⟩ : MethodName) (ws_ (⟨"MasterTree$Combined", "among", "(LMasterTree$Master;)J"⟩ : MethodName) cX11_among 2 (Option.some Jvm.ClassFile.FieldType.long)) 20 [vr_ v0, vr_ v1] m (en_j v) m' k n :=
  Ct_of (by decide +kernel) rfl hst (Nat.le_of_ble_eq_true rfl) rfl (fun E C hret h0 hin => wX11_among_d0 C hret h0 hin N m v0 v1 0 0)
theorem wX2_liveOnes_b26 {l : Launch} {g : GG} {E : Me_} (C : Cx_ l g E "MasterTree$Master" cX2_liveOnes 4 12) (hret : (eT_ E).sig.returnType = (Option.some Jvm.ClassFile.FieldType.long)) (h0 : ∀ x ∈ (eC_ E).exceptionTable.toList, False) (hin : (eT_ E).name = "liveOnes") (N : Nat) {k4 : Mm → Option Nat → Int64 → Int32 → Rs (Int64)} (hk4 : ∀ (m : Mm) (v0 : Option Nat) (v1 : Int64) (v3 : Int32) (k n : Nat), Sm_ l g E 4 en_j (k4 m v0 v1 v3) k n 4 [(0, vr_ v0), (1, vj_ v1), (3, vi_ v3)] [] m) : ∀ (m : Mm) (v0 : Option Nat) (v3 : Int32) (s0 : Int64) (s1 : Int64) (k n : Nat), Sm_ l g E 4 en_j (fX2_liveOnes_b26 (gE_ g) N k4 m v0 v3 s0 s1) k n 26 [(0, vr_ v0), (3, vi_ v3)] [vj_ s1, vj_ s0] m := by
  intro m v0 v3 s0 s1 k n
  unfold fX2_liveOnes_b26
  refine s_lor C dX2_liveOnes_26 27 rfl ?_
  refine s_lstore_n C rfl (Nat.le_of_ble_eq_true rfl) [0, 1] rfl rfl dX2_liveOnes_27 28 rfl ?_
  refine s_iinc C 1 rfl 2 rfl (Nat.le_of_ble_eq_true rfl) [0, 1] rfl rfl dX2_liveOnes_28 31 rfl ?_
  refine s_goto C (off := -27) 4 dX2_liveOnes_31 rfl ?_
  refine Sm_sub [2, 1, 0] rfl ?_
  exact hk4 _ _ _ _ _ _
theorem wX2_liveOnes_b4 {l : Launch} {g : GG} {E : Me_} (C : Cx_ l g E "MasterTree$Master" cX2_liveOnes 4 12) (hret : (eT_ E).sig.returnType = (Option.some Jvm.ClassFile.FieldType.long)) (h0 : ∀ x ∈ (eC_ E).exceptionTable.toList, False) (hin : (eT_ E).name = "liveOnes") (N : Nat) : ∀ (F : Nat) (m : Mm) (v0 : Option Nat) (v1 : Int64) (v3 : Int32) (k n : Nat), Sm_ l g E 4 en_j (fX2_liveOnes_b4 (gE_ g) N F m v0 v1 v3) k n 4 [(0, vr_ v0), (1, vj_ v1), (3, vi_ v3)] [] m := by
  intro F
  induction F with
  | zero => intros; exact Sm_none
  | succ F ih =>
    intro m v0 v1 v3 k n
    unfold fX2_liveOnes_b4
    refine s_iload_n C rfl 2 rfl dX2_liveOnes_4 5 rfl ?_
    refine s_bipush C 48 rfl dX2_liveOnes_5 7 rfl ?_
    refine s_icmp_ge C dX2_liveOnes_7 34 rfl 10 rfl (fun c_ => ?_) (fun c_ => ?_)
    · refine s_lload_n C rfl 1 rfl dX2_liveOnes_10 11 rfl ?_
      refine s_aload_n C rfl 0 rfl dX2_liveOnes_11 12 rfl ?_
      refine s_iload_n C rfl 2 rfl dX2_liveOnes_12 13 rfl ?_
      refine x_ck (fun hb_ hb0_ => ?_)
      refine x_callV (enc := en_i) C 11 1 [vi_ v3] 2 (ctX2_isLive C.2.2.2.2.2.2.2.2.1 N m v0 v3) hb_ hb0_ rfl rfl q1594 q972 q973 q85 q974 hdX2_isLive (Nat.le_of_ble_eq_true rfl) (Nat.le_of_ble_eq_true rfl) rfl (Nat.le_of_ble_eq_true rfl) dX2_liveOnes_13 16 rfl rfl hen_i (kk_i (fun x1 m1 k1 n1 => ?_)) (kx_n he_i)
      refine s_if_eq C dX2_liveOnes_16 25 rfl 19 rfl (fun c_ => ?_) (fun c_ => ?_)
      · refine s_lconst C 0 rfl dX2_liveOnes_25 26 rfl ?_
        refine Sm_sub [0, 2] rfl ?_
        exact wX2_liveOnes_b26 C hret h0 hin N (fun m v0 v1 v3 k n => ih m v0 v1 v3 k n) _ _ _ _ _ _ _
      · refine s_lconst C 1 rfl dX2_liveOnes_19 20 rfl ?_
        refine s_iload_n C rfl 2 rfl dX2_liveOnes_20 21 rfl ?_
        refine s_lshl C dX2_liveOnes_21 22 rfl ?_
        refine s_goto C (off := 4) 26 dX2_liveOnes_22 rfl ?_
        refine Sm_sub [0, 2] rfl ?_
        exact wX2_liveOnes_b26 C hret h0 hin N (fun m v0 v1 v3 k n => ih m v0 v1 v3 k n) _ _ _ _ _ _ _
    · refine s_lload_n C rfl 1 rfl dX2_liveOnes_34 35 rfl ?_
      exact x_lret C hret rfl dX2_liveOnes_35
theorem wX2_liveOnes {l : Launch} {g : GG} {E : Me_} (C : Cx_ l g E "MasterTree$Master" cX2_liveOnes 4 12) (hret : (eT_ E).sig.returnType = (Option.some Jvm.ClassFile.FieldType.long)) (h0 : ∀ x ∈ (eC_ E).exceptionTable.toList, False) (hin : (eT_ E).name = "liveOnes") (N : Nat) : ∀ (m : Mm) (v0 : Option Nat) (k n : Nat), Sm_ l g E 4 en_j (fX2_liveOnes (gE_ g) N m v0) k n 0 [(0, vr_ v0)] [] m := by
  intro m v0 k n
  unfold fX2_liveOnes
  refine s_lconst C 0 rfl dX2_liveOnes_0 1 rfl ?_
  refine s_lstore_n C rfl (Nat.le_of_ble_eq_true rfl) [0] rfl rfl dX2_liveOnes_1 2 rfl ?_
  refine s_iconst C 0 rfl dX2_liveOnes_2 3 rfl ?_
  refine s_istore_n C rfl (Nat.le_of_ble_eq_true rfl) [0, 1] rfl rfl dX2_liveOnes_3 4 rfl ?_
  refine Sm_sub [2, 1, 0] rfl ?_
  exact wX2_liveOnes_b4 C hret h0 hin N N _ _ _ _ _ _
theorem hdX2_liveOnes : ((⟨"MasterTree$Master", "liveOnes", "()J"⟩ : MethodName)).cls ≠ "java/lang/invoke/MethodHandle" ∧ ((⟨"MasterTree$Master", "liveOnes", "()J"⟩ : MethodName)).cls ≠ "java/lang/invoke/VarHandle" ∧ (parseMethodDescriptor ((⟨"MasterTree$Master", "liveOnes", "()J"⟩ : MethodName)).desc).map (fun d => d.parameters.length) = some 0 := ⟨by decide +kernel, by decide +kernel, by decide +kernel⟩
theorem ctX2_liveOnes {l : Launch} {g : GG} (hst : l.stackTraces = false) (N : Nat) (m : Mm) (v0 : Option Nat) : ∀ v m' k n, fX2_liveOnes (gE_ g) N m v0 = some (v, m', k, n) → Ct_ l g (⟨"MasterTree$Master", "liveOnes", "()J"⟩ : MethodName) (ws_ (⟨"MasterTree$Master", "liveOnes", "()J"⟩ : MethodName) cX2_liveOnes 4 (Option.some Jvm.ClassFile.FieldType.long)) 12 [vr_ v0] m (en_j v) m' k n :=
  Ct_of (by decide +kernel) rfl hst (Nat.le_of_ble_eq_true rfl) rfl (fun E C hret h0 hin => wX2_liveOnes C hret h0 hin N m v0 0 0)
theorem wX12_among_d0 {l : Launch} {g : GG} {E : Me_} (C : Cx_ l g E "MasterTree$Not" cX12_among 2 20) (hret : (eT_ E).sig.returnType = (Option.some Jvm.ClassFile.FieldType.long)) (h0 : ∀ x ∈ (eC_ E).exceptionTable.toList, False) (hin : (eT_ E).name = "among") (N : Nat) : ∀ (m : Mm) (v0 : Option Nat) (v1 : Option Nat) (k n : Nat), Sm_ l g E 2 en_j (fX12_among_d0 (gE_ g) N m v0 v1) k n 0 [(0, vr_ v0), (1, vr_ v1)] [] m := by
  intro m v0 v1 k n
  unfold fX12_among_d0
  refine s_aload_n C rfl 1 rfl dX12_among_0 1 rfl ?_
  refine x_ck (fun hb_ hb0_ => ?_)
  refine x_callV (enc := en_j) C 12 0 [] 2 (ctX2_liveOnes C.2.2.2.2.2.2.2.2.1 N m v1) hb_ hb0_ rfl rfl q2775 q2776 q2777 q85 q2778 hdX2_liveOnes (Nat.le_of_ble_eq_true rfl) (Nat.le_of_ble_eq_true rfl) rfl (Nat.le_of_ble_eq_true rfl) dX12_among_1 4 rfl rfl hen_j (kk_j (fun x1 m1 k1 n1 => ?_)) (kx_n he_j)
  refine s_aload_n C rfl 0 rfl dX12_among_4 5 rfl ?_
  refine x_gr C 10 (RX12, TX12, 1) rfl 0 (Nat.le_of_ble_eq_true rfl) q2666 (Or.inl rfl) rfl 11 rfl dX12_among_5 8 rfl (fun x2 => ?_)
  refine s_aload_n C rfl 1 rfl dX12_among_8 9 rfl ?_
  refine x_wj [vj_ x1] 12 (fun kk_ => ?_) (fun x3 m2 k1 n1 => ?_)
  · refine x_csr (kd := 8) (fun hb_ hb0_ => ?_) ?_
    · exact x_callA (enc := en_j) (owner := "MasterTree$Filter") C 19 1 [vr_ v1] 8 (ctX9_among C.2.2.2.2.2.2.2.2.1 N m1 x2 v1) hb_ hb0_ rfl rfl q2779 q2688 q2701 q2702 q139 q2703 q2687 ⟨by decide +kernel, by decide +kernel, by decide +kernel⟩ (Nat.le_of_ble_eq_true rfl) (Nat.le_of_ble_eq_true rfl) rfl (Nat.le_of_ble_eq_true rfl) dX12_among_9 12 rfl rfl hen_j (kk_j kk_) (kx_n he_j)
    refine x_csr (kd := 9) (fun hb_ hb0_ => ?_) ?_
    · exact x_callA (enc := en_j) (owner := "MasterTree$Filter") C 13 1 [vr_ v1] 9 (ctX10_among C.2.2.2.2.2.2.2.2.1 N m1 x2 v1) hb_ hb0_ rfl rfl q2779 q2688 q2689 q2690 q140 q2691 q2687 ⟨by decide +kernel, by decide +kernel, by decide +kernel⟩ (Nat.le_of_ble_eq_true rfl) (Nat.le_of_ble_eq_true rfl) rfl (Nat.le_of_ble_eq_true rfl) dX12_among_9 12 rfl rfl hen_j (kk_j kk_) (kx_n he_j)
    exact Sm_bn
  refine s_ldc2 C (-1) q2780 dX12_among_12 15 rfl ?_
  refine s_lxor C dX12_among_15 16 rfl ?_
  refine s_land C dX12_among_16 17 rfl ?_
  exact x_lret C hret rfl dX12_among_17
theorem hdX12_among_d0 : ((⟨"MasterTree$Not", "among", "(LMasterTree$Master;)J"⟩ : MethodName)).cls ≠ "java/lang/invoke/MethodHandle" ∧ ((⟨"MasterTree$Not", "among", "(LMasterTree$Master;)J"⟩ : MethodName)).cls ≠ "java/lang/invoke/VarHandle" ∧ (parseMethodDescriptor ((⟨"MasterTree$Not", "among", "(LMasterTree$Master;)J"⟩ : MethodName)).desc).map (fun d => d.parameters.length) = some 1 := ⟨by decide +kernel, by decide +kernel, by decide +kernel⟩
theorem ctX12_among_d0 {l : Launch} {g : GG} (hst : l.stackTraces = false) (N : Nat) (m : Mm) (v0 : Option Nat) (v1 : Option Nat) : ∀ v m' k n, fX12_among_d0 (gE_ g) N m v0 v1 = some (v, m', k, n) → Ct_ l g (⟨"MasterTree$Not", "among", "(LMasterTree$Master;)J"⟩ : MethodName) (ws_ (⟨"MasterTree$Not", "among", "(LMasterTree$Master;)J"⟩ : MethodName) cX12_among 2 (Option.some Jvm.ClassFile.FieldType.long)) 20 [vr_ v0, vr_ v1] m (en_j v) m' k n :=
  Ct_of (by decide +kernel) rfl hst (Nat.le_of_ble_eq_true rfl) rfl (fun E C hret h0 hin => wX12_among_d0 C hret h0 hin N m v0 v1 0 0)
theorem wX11_among_d1_b44 {l : Launch} {g : GG} {E : Me_} (C : Cx_ l g E "MasterTree$Combined" cX11_among 2 21) (hret : (eT_ E).sig.returnType = (Option.some Jvm.ClassFile.FieldType.long)) (h0 : ∀ x ∈ (eC_ E).exceptionTable.toList, False) (hin : (eT_ E).name = "among") (N : Nat) : ∀ (m : Mm) (s0 : Int64) (k n : Nat), Sm_ l g E 2 en_j (fX11_among_d1_b44 (gE_ g) N m s0) k n 44 [] [vj_ s0] m := by
  intro m s0 k n
  unfold fX11_among_d1_b44
  exact x_lret C hret rfl dX11_among_44
theorem wX11_among_d1 {l : Launch} {g : GG} {E : Me_} (C : Cx_ l g E "MasterTree$Combined" cX11_among 2 21) (hret : (eT_ E).sig.returnType = (Option.some Jvm.ClassFile.FieldType.long)) (h0 : ∀ x ∈ (eC_ E).exceptionTable.toList, False) (hin : (eT_ E).name = "among") (N : Nat) : ∀ (m : Mm) (v0 : Option Nat) (v1 : Option Nat) (k n : Nat), Sm_ l g E 2 en_j (fX11_among_d1 (gE_ g) N m v0 v1) k n 0 [(0, vr_ v0), (1, vr_ v1)] [] m := by
  intro m v0 v1 k n
  unfold fX11_among_d1
  refine s_aload_n C rfl 0 rfl dX11_among_0 1 rfl ?_
  refine x_gi C 9 (RX11, TX11, 3) rfl 2 (Nat.le_of_ble_eq_true rfl) q2642 (Or.inl rfl) rfl 10 rfl dX11_among_1 4 rfl (fun x1 => ?_)
  refine s_if_eq C dX11_among_4 27 rfl 7 rfl (fun c_ => ?_) (fun c_ => ?_)
  · refine s_aload_n C rfl 0 rfl dX11_among_27 28 rfl ?_
    refine x_gr C 9 (RX11, TX11, 3) rfl 0 (Nat.le_of_ble_eq_true rfl) q2640 (Or.inl rfl) rfl 10 rfl dX11_among_28 31 rfl (fun x2 => ?_)
    refine s_aload_n C rfl 1 rfl dX11_among_31 32 rfl ?_
    refine x_wj [] 35 (fun kk_ => ?_) (fun x3 m1 k1 n1 => ?_)
    · refine x_csr (kd := 8) (fun hb_ hb0_ => ?_) ?_
      · exact x_callA (enc := en_j) (owner := "MasterTree$Filter") C 19 1 [vr_ v1] 8 (ctX9_among C.2.2.2.2.2.2.2.2.1 N m x2 v1) hb_ hb0_ rfl rfl q2772 q2688 q2701 q2702 q139 q2703 q2687 ⟨by decide +kernel, by decide +kernel, by decide +kernel⟩ (Nat.le_of_ble_eq_true rfl) (Nat.le_of_ble_eq_true rfl) rfl (Nat.le_of_ble_eq_true rfl) dX11_among_32 35 rfl rfl hen_j (kk_j kk_) (kx_n he_j)
      refine x_csr (kd := 9) (fun hb_ hb0_ => ?_) ?_
      · exact x_callA (enc := en_j) (owner := "MasterTree$Filter") C 13 1 [vr_ v1] 9 (ctX10_among C.2.2.2.2.2.2.2.2.1 N m x2 v1) hb_ hb0_ rfl rfl q2772 q2688 q2689 q2690 q140 q2691 q2687 ⟨by decide +kernel, by decide +kernel, by decide +kernel⟩ (Nat.le_of_ble_eq_true rfl) (Nat.le_of_ble_eq_true rfl) rfl (Nat.le_of_ble_eq_true rfl) dX11_among_32 35 rfl rfl hen_j (kk_j kk_) (kx_n he_j)
      refine x_csr (kd := 10) (fun hb_ hb0_ => ?_) ?_
      · exact x_callA (enc := en_j) (owner := "MasterTree$Filter") C 20 1 [vr_ v1] 10 (ctX11_among_d0 C.2.2.2.2.2.2.2.2.1 N m x2 v1) hb_ hb0_ rfl rfl q2772 q2688 q2769 q2770 q141 q2771 q2687 ⟨by decide +kernel, by decide +kernel, by decide +kernel⟩ (Nat.le_of_ble_eq_true rfl) (Nat.le_of_ble_eq_true rfl) rfl (Nat.le_of_ble_eq_true rfl) dX11_among_32 35 rfl rfl hen_j (kk_j kk_) (kx_n he_j)
      refine x_csr (kd := 11) (fun hb_ hb0_ => ?_) ?_
      · exact x_callA (enc := en_j) (owner := "MasterTree$Filter") C 20 1 [vr_ v1] 11 (ctX12_among_d0 C.2.2.2.2.2.2.2.2.1 N m x2 v1) hb_ hb0_ rfl rfl q2772 q2688 q2781 q2773 q142 q2774 q2687 ⟨by decide +kernel, by decide +kernel, by decide +kernel⟩ (Nat.le_of_ble_eq_true rfl) (Nat.le_of_ble_eq_true rfl) rfl (Nat.le_of_ble_eq_true rfl) dX11_among_32 35 rfl rfl hen_j (kk_j kk_) (kx_n he_j)
      exact Sm_bn
    refine s_aload_n C rfl 0 rfl dX11_among_35 36 rfl ?_
    refine x_gr C 9 (RX11, TX11, 3) rfl 1 (Nat.le_of_ble_eq_true rfl) q2641 (Or.inl rfl) rfl 10 rfl dX11_among_36 39 rfl (fun x8 => ?_)
    refine s_aload_n C rfl 1 rfl dX11_among_39 40 rfl ?_
    refine x_wj [vj_ x3] 43 (fun kk_ => ?_) (fun x9 m6 k1 n1 => ?_)
    · refine x_csr (kd := 8) (fun hb_ hb0_ => ?_) ?_
      · exact x_callA (enc := en_j) (owner := "MasterTree$Filter") C 19 1 [vr_ v1] 8 (ctX9_among C.2.2.2.2.2.2.2.2.1 N m1 x8 v1) hb_ hb0_ rfl rfl q2772 q2688 q2701 q2702 q139 q2703 q2687 ⟨by decide +kernel, by decide +kernel, by decide +kernel⟩ (Nat.le_of_ble_eq_true rfl) (Nat.le_of_ble_eq_true rfl) rfl (Nat.le_of_ble_eq_true rfl) dX11_among_40 43 rfl rfl hen_j (kk_j kk_) (kx_n he_j)
      refine x_csr (kd := 9) (fun hb_ hb0_ => ?_) ?_
      · exact x_callA (enc := en_j) (owner := "MasterTree$Filter") C 13 1 [vr_ v1] 9 (ctX10_among C.2.2.2.2.2.2.2.2.1 N m1 x8 v1) hb_ hb0_ rfl rfl q2772 q2688 q2689 q2690 q140 q2691 q2687 ⟨by decide +kernel, by decide +kernel, by decide +kernel⟩ (Nat.le_of_ble_eq_true rfl) (Nat.le_of_ble_eq_true rfl) rfl (Nat.le_of_ble_eq_true rfl) dX11_among_40 43 rfl rfl hen_j (kk_j kk_) (kx_n he_j)
      refine x_csr (kd := 10) (fun hb_ hb0_ => ?_) ?_
      · exact x_callA (enc := en_j) (owner := "MasterTree$Filter") C 20 1 [vr_ v1] 10 (ctX11_among_d0 C.2.2.2.2.2.2.2.2.1 N m1 x8 v1) hb_ hb0_ rfl rfl q2772 q2688 q2769 q2770 q141 q2771 q2687 ⟨by decide +kernel, by decide +kernel, by decide +kernel⟩ (Nat.le_of_ble_eq_true rfl) (Nat.le_of_ble_eq_true rfl) rfl (Nat.le_of_ble_eq_true rfl) dX11_among_40 43 rfl rfl hen_j (kk_j kk_) (kx_n he_j)
      refine x_csr (kd := 11) (fun hb_ hb0_ => ?_) ?_
      · exact x_callA (enc := en_j) (owner := "MasterTree$Filter") C 20 1 [vr_ v1] 11 (ctX12_among_d0 C.2.2.2.2.2.2.2.2.1 N m1 x8 v1) hb_ hb0_ rfl rfl q2772 q2688 q2781 q2773 q142 q2774 q2687 ⟨by decide +kernel, by decide +kernel, by decide +kernel⟩ (Nat.le_of_ble_eq_true rfl) (Nat.le_of_ble_eq_true rfl) rfl (Nat.le_of_ble_eq_true rfl) dX11_among_40 43 rfl rfl hen_j (kk_j kk_) (kx_n he_j)
      exact Sm_bn
    refine s_lor C dX11_among_43 44 rfl ?_
    refine Sm_sub [] rfl ?_
    exact wX11_among_d1_b44 C hret h0 hin N _ _ _ _
  · refine s_aload_n C rfl 0 rfl dX11_among_7 8 rfl ?_
    refine x_gr C 9 (RX11, TX11, 3) rfl 0 (Nat.le_of_ble_eq_true rfl) q2640 (Or.inl rfl) rfl 10 rfl dX11_among_8 11 rfl (fun x14 => ?_)
    refine s_aload_n C rfl 1 rfl dX11_among_11 12 rfl ?_
    refine x_wj [] 15 (fun kk_ => ?_) (fun x15 m11 k1 n1 => ?_)
    · refine x_csr (kd := 8) (fun hb_ hb0_ => ?_) ?_
      · exact x_callA (enc := en_j) (owner := "MasterTree$Filter") C 19 1 [vr_ v1] 8 (ctX9_among C.2.2.2.2.2.2.2.2.1 N m x14 v1) hb_ hb0_ rfl rfl q2772 q2688 q2701 q2702 q139 q2703 q2687 ⟨by decide +kernel, by decide +kernel, by decide +kernel⟩ (Nat.le_of_ble_eq_true rfl) (Nat.le_of_ble_eq_true rfl) rfl (Nat.le_of_ble_eq_true rfl) dX11_among_12 15 rfl rfl hen_j (kk_j kk_) (kx_n he_j)
      refine x_csr (kd := 9) (fun hb_ hb0_ => ?_) ?_
      · exact x_callA (enc := en_j) (owner := "MasterTree$Filter") C 13 1 [vr_ v1] 9 (ctX10_among C.2.2.2.2.2.2.2.2.1 N m x14 v1) hb_ hb0_ rfl rfl q2772 q2688 q2689 q2690 q140 q2691 q2687 ⟨by decide +kernel, by decide +kernel, by decide +kernel⟩ (Nat.le_of_ble_eq_true rfl) (Nat.le_of_ble_eq_true rfl) rfl (Nat.le_of_ble_eq_true rfl) dX11_among_12 15 rfl rfl hen_j (kk_j kk_) (kx_n he_j)
      refine x_csr (kd := 10) (fun hb_ hb0_ => ?_) ?_
      · exact x_callA (enc := en_j) (owner := "MasterTree$Filter") C 20 1 [vr_ v1] 10 (ctX11_among_d0 C.2.2.2.2.2.2.2.2.1 N m x14 v1) hb_ hb0_ rfl rfl q2772 q2688 q2769 q2770 q141 q2771 q2687 ⟨by decide +kernel, by decide +kernel, by decide +kernel⟩ (Nat.le_of_ble_eq_true rfl) (Nat.le_of_ble_eq_true rfl) rfl (Nat.le_of_ble_eq_true rfl) dX11_among_12 15 rfl rfl hen_j (kk_j kk_) (kx_n he_j)
      refine x_csr (kd := 11) (fun hb_ hb0_ => ?_) ?_
      · exact x_callA (enc := en_j) (owner := "MasterTree$Filter") C 20 1 [vr_ v1] 11 (ctX12_among_d0 C.2.2.2.2.2.2.2.2.1 N m x14 v1) hb_ hb0_ rfl rfl q2772 q2688 q2781 q2773 q142 q2774 q2687 ⟨by decide +kernel, by decide +kernel, by decide +kernel⟩ (Nat.le_of_ble_eq_true rfl) (Nat.le_of_ble_eq_true rfl) rfl (Nat.le_of_ble_eq_true rfl) dX11_among_12 15 rfl rfl hen_j (kk_j kk_) (kx_n he_j)
      exact Sm_bn
    refine s_aload_n C rfl 0 rfl dX11_among_15 16 rfl ?_
    refine x_gr C 9 (RX11, TX11, 3) rfl 1 (Nat.le_of_ble_eq_true rfl) q2641 (Or.inl rfl) rfl 10 rfl dX11_among_16 19 rfl (fun x20 => ?_)
    refine s_aload_n C rfl 1 rfl dX11_among_19 20 rfl ?_
    refine x_wj [vj_ x15] 23 (fun kk_ => ?_) (fun x21 m16 k1 n1 => ?_)
    · refine x_csr (kd := 8) (fun hb_ hb0_ => ?_) ?_
      · exact x_callA (enc := en_j) (owner := "MasterTree$Filter") C 19 1 [vr_ v1] 8 (ctX9_among C.2.2.2.2.2.2.2.2.1 N m11 x20 v1) hb_ hb0_ rfl rfl q2772 q2688 q2701 q2702 q139 q2703 q2687 ⟨by decide +kernel, by decide +kernel, by decide +kernel⟩ (Nat.le_of_ble_eq_true rfl) (Nat.le_of_ble_eq_true rfl) rfl (Nat.le_of_ble_eq_true rfl) dX11_among_20 23 rfl rfl hen_j (kk_j kk_) (kx_n he_j)
      refine x_csr (kd := 9) (fun hb_ hb0_ => ?_) ?_
      · exact x_callA (enc := en_j) (owner := "MasterTree$Filter") C 13 1 [vr_ v1] 9 (ctX10_among C.2.2.2.2.2.2.2.2.1 N m11 x20 v1) hb_ hb0_ rfl rfl q2772 q2688 q2689 q2690 q140 q2691 q2687 ⟨by decide +kernel, by decide +kernel, by decide +kernel⟩ (Nat.le_of_ble_eq_true rfl) (Nat.le_of_ble_eq_true rfl) rfl (Nat.le_of_ble_eq_true rfl) dX11_among_20 23 rfl rfl hen_j (kk_j kk_) (kx_n he_j)
      refine x_csr (kd := 10) (fun hb_ hb0_ => ?_) ?_
      · exact x_callA (enc := en_j) (owner := "MasterTree$Filter") C 20 1 [vr_ v1] 10 (ctX11_among_d0 C.2.2.2.2.2.2.2.2.1 N m11 x20 v1) hb_ hb0_ rfl rfl q2772 q2688 q2769 q2770 q141 q2771 q2687 ⟨by decide +kernel, by decide +kernel, by decide +kernel⟩ (Nat.le_of_ble_eq_true rfl) (Nat.le_of_ble_eq_true rfl) rfl (Nat.le_of_ble_eq_true rfl) dX11_among_20 23 rfl rfl hen_j (kk_j kk_) (kx_n he_j)
      refine x_csr (kd := 11) (fun hb_ hb0_ => ?_) ?_
      · exact x_callA (enc := en_j) (owner := "MasterTree$Filter") C 20 1 [vr_ v1] 11 (ctX12_among_d0 C.2.2.2.2.2.2.2.2.1 N m11 x20 v1) hb_ hb0_ rfl rfl q2772 q2688 q2781 q2773 q142 q2774 q2687 ⟨by decide +kernel, by decide +kernel, by decide +kernel⟩ (Nat.le_of_ble_eq_true rfl) (Nat.le_of_ble_eq_true rfl) rfl (Nat.le_of_ble_eq_true rfl) dX11_among_20 23 rfl rfl hen_j (kk_j kk_) (kx_n he_j)
      exact Sm_bn
    refine s_land C dX11_among_23 24 rfl ?_
    refine s_goto C (off := 20) 44 dX11_among_24 rfl ?_
    refine Sm_sub [] rfl ?_
    exact wX11_among_d1_b44 C hret h0 hin N _ _ _ _
theorem hdX11_among_d1 : ((⟨"MasterTree$Combined", "among", "(LMasterTree$Master;)J"⟩ : MethodName)).cls ≠ "java/lang/invoke/MethodHandle" ∧ ((⟨"MasterTree$Combined", "among", "(LMasterTree$Master;)J"⟩ : MethodName)).cls ≠ "java/lang/invoke/VarHandle" ∧ (parseMethodDescriptor ((⟨"MasterTree$Combined", "among", "(LMasterTree$Master;)J"⟩ : MethodName)).desc).map (fun d => d.parameters.length) = some 1 := ⟨by decide +kernel, by decide +kernel, by decide +kernel⟩
theorem ctX11_among_d1 {l : Launch} {g : GG} (hst : l.stackTraces = false) (N : Nat) (m : Mm) (v0 : Option Nat) (v1 : Option Nat) : ∀ v m' k n, fX11_among_d1 (gE_ g) N m v0 v1 = some (v, m', k, n) → Ct_ l g (⟨"MasterTree$Combined", "among", "(LMasterTree$Master;)J"⟩ : MethodName) (ws_ (⟨"MasterTree$Combined", "among", "(LMasterTree$Master;)J"⟩ : MethodName) cX11_among 2 (Option.some Jvm.ClassFile.FieldType.long)) 21 [vr_ v0, vr_ v1] m (en_j v) m' k n :=
  Ct_of (by decide +kernel) rfl hst (Nat.le_of_ble_eq_true rfl) rfl (fun E C hret h0 hin => wX11_among_d1 C hret h0 hin N m v0 v1 0 0)
theorem wX12_among_d1 {l : Launch} {g : GG} {E : Me_} (C : Cx_ l g E "MasterTree$Not" cX12_among 2 21) (hret : (eT_ E).sig.returnType = (Option.some Jvm.ClassFile.FieldType.long)) (h0 : ∀ x ∈ (eC_ E).exceptionTable.toList, False) (hin : (eT_ E).name = "among") (N : Nat) : ∀ (m : Mm) (v0 : Option Nat) (v1 : Option Nat) (k n : Nat), Sm_ l g E 2 en_j (fX12_among_d1 (gE_ g) N m v0 v1) k n 0 [(0, vr_ v0), (1, vr_ v1)] [] m := by
  intro m v0 v1 k n
  unfold fX12_among_d1
  refine s_aload_n C rfl 1 rfl dX12_among_0 1 rfl ?_
  refine x_ck (fun hb_ hb0_ => ?_)
  refine x_callV (enc := en_j) C 12 0 [] 2 (ctX2_liveOnes C.2.2.2.2.2.2.2.2.1 N m v1) hb_ hb0_ rfl rfl q2775 q2776 q2777 q85 q2778 hdX2_liveOnes (Nat.le_of_ble_eq_true rfl) (Nat.le_of_ble_eq_true rfl) rfl (Nat.le_of_ble_eq_true rfl) dX12_among_1 4 rfl rfl hen_j (kk_j (fun x1 m1 k1 n1 => ?_)) (kx_n he_j)
  refine s_aload_n C rfl 0 rfl dX12_among_4 5 rfl ?_
  refine x_gr C 10 (RX12, TX12, 1) rfl 0 (Nat.le_of_ble_eq_true rfl) q2666 (Or.inl rfl) rfl 11 rfl dX12_among_5 8 rfl (fun x2 => ?_)
  refine s_aload_n C rfl 1 rfl dX12_among_8 9 rfl ?_
  refine x_wj [vj_ x1] 12 (fun kk_ => ?_) (fun x3 m2 k1 n1 => ?_)
  · refine x_csr (kd := 8) (fun hb_ hb0_ => ?_) ?_
    · exact x_callA (enc := en_j) (owner := "MasterTree$Filter") C 19 1 [vr_ v1] 8 (ctX9_among C.2.2.2.2.2.2.2.2.1 N m1 x2 v1) hb_ hb0_ rfl rfl q2779 q2688 q2701 q2702 q139 q2703 q2687 ⟨by decide +kernel, by decide +kernel, by decide +kernel⟩ (Nat.le_of_ble_eq_true rfl) (Nat.le_of_ble_eq_true rfl) rfl (Nat.le_of_ble_eq_true rfl) dX12_among_9 12 rfl rfl hen_j (kk_j kk_) (kx_n he_j)
    refine x_csr (kd := 9) (fun hb_ hb0_ => ?_) ?_
    · exact x_callA (enc := en_j) (owner := "MasterTree$Filter") C 13 1 [vr_ v1] 9 (ctX10_among C.2.2.2.2.2.2.2.2.1 N m1 x2 v1) hb_ hb0_ rfl rfl q2779 q2688 q2689 q2690 q140 q2691 q2687 ⟨by decide +kernel, by decide +kernel, by decide +kernel⟩ (Nat.le_of_ble_eq_true rfl) (Nat.le_of_ble_eq_true rfl) rfl (Nat.le_of_ble_eq_true rfl) dX12_among_9 12 rfl rfl hen_j (kk_j kk_) (kx_n he_j)
    refine x_csr (kd := 10) (fun hb_ hb0_ => ?_) ?_
    · exact x_callA (enc := en_j) (owner := "MasterTree$Filter") C 20 1 [vr_ v1] 10 (ctX11_among_d0 C.2.2.2.2.2.2.2.2.1 N m1 x2 v1) hb_ hb0_ rfl rfl q2779 q2688 q2769 q2770 q141 q2771 q2687 ⟨by decide +kernel, by decide +kernel, by decide +kernel⟩ (Nat.le_of_ble_eq_true rfl) (Nat.le_of_ble_eq_true rfl) rfl (Nat.le_of_ble_eq_true rfl) dX12_among_9 12 rfl rfl hen_j (kk_j kk_) (kx_n he_j)
    refine x_csr (kd := 11) (fun hb_ hb0_ => ?_) ?_
    · exact x_callA (enc := en_j) (owner := "MasterTree$Filter") C 20 1 [vr_ v1] 11 (ctX12_among_d0 C.2.2.2.2.2.2.2.2.1 N m1 x2 v1) hb_ hb0_ rfl rfl q2779 q2688 q2781 q2773 q142 q2774 q2687 ⟨by decide +kernel, by decide +kernel, by decide +kernel⟩ (Nat.le_of_ble_eq_true rfl) (Nat.le_of_ble_eq_true rfl) rfl (Nat.le_of_ble_eq_true rfl) dX12_among_9 12 rfl rfl hen_j (kk_j kk_) (kx_n he_j)
    exact Sm_bn
  refine s_ldc2 C (-1) q2780 dX12_among_12 15 rfl ?_
  refine s_lxor C dX12_among_15 16 rfl ?_
  refine s_land C dX12_among_16 17 rfl ?_
  exact x_lret C hret rfl dX12_among_17
theorem hdX12_among_d1 : ((⟨"MasterTree$Not", "among", "(LMasterTree$Master;)J"⟩ : MethodName)).cls ≠ "java/lang/invoke/MethodHandle" ∧ ((⟨"MasterTree$Not", "among", "(LMasterTree$Master;)J"⟩ : MethodName)).cls ≠ "java/lang/invoke/VarHandle" ∧ (parseMethodDescriptor ((⟨"MasterTree$Not", "among", "(LMasterTree$Master;)J"⟩ : MethodName)).desc).map (fun d => d.parameters.length) = some 1 := ⟨by decide +kernel, by decide +kernel, by decide +kernel⟩
theorem ctX12_among_d1 {l : Launch} {g : GG} (hst : l.stackTraces = false) (N : Nat) (m : Mm) (v0 : Option Nat) (v1 : Option Nat) : ∀ v m' k n, fX12_among_d1 (gE_ g) N m v0 v1 = some (v, m', k, n) → Ct_ l g (⟨"MasterTree$Not", "among", "(LMasterTree$Master;)J"⟩ : MethodName) (ws_ (⟨"MasterTree$Not", "among", "(LMasterTree$Master;)J"⟩ : MethodName) cX12_among 2 (Option.some Jvm.ClassFile.FieldType.long)) 21 [vr_ v0, vr_ v1] m (en_j v) m' k n :=
  Ct_of (by decide +kernel) rfl hst (Nat.le_of_ble_eq_true rfl) rfl (fun E C hret h0 hin => wX12_among_d1 C hret h0 hin N m v0 v1 0 0)
theorem wX11_among_d2_b44 {l : Launch} {g : GG} {E : Me_} (C : Cx_ l g E "MasterTree$Combined" cX11_among 2 22) (hret : (eT_ E).sig.returnType = (Option.some Jvm.ClassFile.FieldType.long)) (h0 : ∀ x ∈ (eC_ E).exceptionTable.toList, False) (hin : (eT_ E).name = "among") (N : Nat) : ∀ (m : Mm) (s0 : Int64) (k n : Nat), Sm_ l g E 2 en_j (fX11_among_d2_b44 (gE_ g) N m s0) k n 44 [] [vj_ s0] m := by
  intro m s0 k n
  unfold fX11_among_d2_b44
  exact x_lret C hret rfl dX11_among_44
theorem wX11_among_d2 {l : Launch} {g : GG} {E : Me_} (C : Cx_ l g E "MasterTree$Combined" cX11_among 2 22) (hret : (eT_ E).sig.returnType = (Option.some Jvm.ClassFile.FieldType.long)) (h0 : ∀ x ∈ (eC_ E).exceptionTable.toList, False) (hin : (eT_ E).name = "among") (N : Nat) : ∀ (m : Mm) (v0 : Option Nat) (v1 : Option Nat) (k n : Nat), Sm_ l g E 2 en_j (fX11_among_d2 (gE_ g) N m v0 v1) k n 0 [(0, vr_ v0), (1, vr_ v1)] [] m := by
  intro m v0 v1 k n
  unfold fX11_among_d2
  refine s_aload_n C rfl 0 rfl dX11_among_0 1 rfl ?_
  refine x_gi C 9 (RX11, TX11, 3) rfl 2 (Nat.le_of_ble_eq_true rfl) q2642 (Or.inl rfl) rfl 10 rfl dX11_among_1 4 rfl (fun x1 => ?_)
  refine s_if_eq C dX11_among_4 27 rfl 7 rfl (fun c_ => ?_) (fun c_ => ?_)
  · refine s_aload_n C rfl 0 rfl dX11_among_27 28 rfl ?_
    refine x_gr C 9 (RX11, TX11, 3) rfl 0 (Nat.le_of_ble_eq_true rfl) q2640 (Or.inl rfl) rfl 10 rfl dX11_among_28 31 rfl (fun x2 => ?_)
    refine s_aload_n C rfl 1 rfl dX11_among_31 32 rfl ?_
    refine x_wj [] 35 (fun kk_ => ?_) (fun x3 m1 k1 n1 => ?_)
    · refine x_csr (kd := 8) (fun hb_ hb0_ => ?_) ?_
      · exact x_callA (enc := en_j) (owner := "MasterTree$Filter") C 19 1 [vr_ v1] 8 (ctX9_among C.2.2.2.2.2.2.2.2.1 N m x2 v1) hb_ hb0_ rfl rfl q2772 q2688 q2701 q2702 q139 q2703 q2687 ⟨by decide +kernel, by decide +kernel, by decide +kernel⟩ (Nat.le_of_ble_eq_true rfl) (Nat.le_of_ble_eq_true rfl) rfl (Nat.le_of_ble_eq_true rfl) dX11_among_32 35 rfl rfl hen_j (kk_j kk_) (kx_n he_j)
      refine x_csr (kd := 9) (fun hb_ hb0_ => ?_) ?_
      · exact x_callA (enc := en_j) (owner := "MasterTree$Filter") C 13 1 [vr_ v1] 9 (ctX10_among C.2.2.2.2.2.2.2.2.1 N m x2 v1) hb_ hb0_ rfl rfl q2772 q2688 q2689 q2690 q140 q2691 q2687 ⟨by decide +kernel, by decide +kernel, by decide +kernel⟩ (Nat.le_of_ble_eq_true rfl) (Nat.le_of_ble_eq_true rfl) rfl (Nat.le_of_ble_eq_true rfl) dX11_among_32 35 rfl rfl hen_j (kk_j kk_) (kx_n he_j)
      refine x_csr (kd := 10) (fun hb_ hb0_ => ?_) ?_
      · exact x_callA (enc := en_j) (owner := "MasterTree$Filter") C 21 1 [vr_ v1] 10 (ctX11_among_d1 C.2.2.2.2.2.2.2.2.1 N m x2 v1) hb_ hb0_ rfl rfl q2772 q2688 q2769 q2770 q141 q2771 q2687 ⟨by decide +kernel, by decide +kernel, by decide +kernel⟩ (Nat.le_of_ble_eq_true rfl) (Nat.le_of_ble_eq_true rfl) rfl (Nat.le_of_ble_eq_true rfl) dX11_among_32 35 rfl rfl hen_j (kk_j kk_) (kx_n he_j)
      refine x_csr (kd := 11) (fun hb_ hb0_ => ?_) ?_
      · exact x_callA (enc := en_j) (owner := "MasterTree$Filter") C 21 1 [vr_ v1] 11 (ctX12_among_d1 C.2.2.2.2.2.2.2.2.1 N m x2 v1) hb_ hb0_ rfl rfl q2772 q2688 q2781 q2773 q142 q2774 q2687 ⟨by decide +kernel, by decide +kernel, by decide +kernel⟩ (Nat.le_of_ble_eq_true rfl) (Nat.le_of_ble_eq_true rfl) rfl (Nat.le_of_ble_eq_true rfl) dX11_among_32 35 rfl rfl hen_j (kk_j kk_) (kx_n he_j)
      exact Sm_bn
    refine s_aload_n C rfl 0 rfl dX11_among_35 36 rfl ?_
    refine x_gr C 9 (RX11, TX11, 3) rfl 1 (Nat.le_of_ble_eq_true rfl) q2641 (Or.inl rfl) rfl 10 rfl dX11_among_36 39 rfl (fun x8 => ?_)
    refine s_aload_n C rfl 1 rfl dX11_among_39 40 rfl ?_
    refine x_wj [vj_ x3] 43 (fun kk_ => ?_) (fun x9 m6 k1 n1 => ?_)
    · refine x_csr (kd := 8) (fun hb_ hb0_ => ?_) ?_
      · exact x_callA (enc := en_j) (owner := "MasterTree$Filter") C 19 1 [vr_ v1] 8 (ctX9_among C.2.2.2.2.2.2.2.2.1 N m1 x8 v1) hb_ hb0_ rfl rfl q2772 q2688 q2701 q2702 q139 q2703 q2687 ⟨by decide +kernel, by decide +kernel, by decide +kernel⟩ (Nat.le_of_ble_eq_true rfl) (Nat.le_of_ble_eq_true rfl) rfl (Nat.le_of_ble_eq_true rfl) dX11_among_40 43 rfl rfl hen_j (kk_j kk_) (kx_n he_j)
      refine x_csr (kd := 9) (fun hb_ hb0_ => ?_) ?_
      · exact x_callA (enc := en_j) (owner := "MasterTree$Filter") C 13 1 [vr_ v1] 9 (ctX10_among C.2.2.2.2.2.2.2.2.1 N m1 x8 v1) hb_ hb0_ rfl rfl q2772 q2688 q2689 q2690 q140 q2691 q2687 ⟨by decide +kernel, by decide +kernel, by decide +kernel⟩ (Nat.le_of_ble_eq_true rfl) (Nat.le_of_ble_eq_true rfl) rfl (Nat.le_of_ble_eq_true rfl) dX11_among_40 43 rfl rfl hen_j (kk_j kk_) (kx_n he_j)
      refine x_csr (kd := 10) (fun hb_ hb0_ => ?_) ?_
      · exact x_callA (enc := en_j) (owner := "MasterTree$Filter") C 21 1 [vr_ v1] 10 (ctX11_among_d1 C.2.2.2.2.2.2.2.2.1 N m1 x8 v1) hb_ hb0_ rfl rfl q2772 q2688 q2769 q2770 q141 q2771 q2687 ⟨by decide +kernel, by decide +kernel, by decide +kernel⟩ (Nat.le_of_ble_eq_true rfl) (Nat.le_of_ble_eq_true rfl) rfl (Nat.le_of_ble_eq_true rfl) dX11_among_40 43 rfl rfl hen_j (kk_j kk_) (kx_n he_j)
      refine x_csr (kd := 11) (fun hb_ hb0_ => ?_) ?_
      · exact x_callA (enc := en_j) (owner := "MasterTree$Filter") C 21 1 [vr_ v1] 11 (ctX12_among_d1 C.2.2.2.2.2.2.2.2.1 N m1 x8 v1) hb_ hb0_ rfl rfl q2772 q2688 q2781 q2773 q142 q2774 q2687 ⟨by decide +kernel, by decide +kernel, by decide +kernel⟩ (Nat.le_of_ble_eq_true rfl) (Nat.le_of_ble_eq_true rfl) rfl (Nat.le_of_ble_eq_true rfl) dX11_among_40 43 rfl rfl hen_j (kk_j kk_) (kx_n he_j)
      exact Sm_bn
    refine s_lor C dX11_among_43 44 rfl ?_
    refine Sm_sub [] rfl ?_
    exact wX11_among_d2_b44 C hret h0 hin N _ _ _ _
  · refine s_aload_n C rfl 0 rfl dX11_among_7 8 rfl ?_
    refine x_gr C 9 (RX11, TX11, 3) rfl 0 (Nat.le_of_ble_eq_true rfl) q2640 (Or.inl rfl) rfl 10 rfl dX11_among_8 11 rfl (fun x14 => ?_)
    refine s_aload_n C rfl 1 rfl dX11_among_11 12 rfl ?_
    refine x_wj [] 15 (fun kk_ => ?_) (fun x15 m11 k1 n1 => ?_)
    · refine x_csr (kd := 8) (fun hb_ hb0_ => ?_) ?_
      · exact x_callA (enc := en_j) (owner := "MasterTree$Filter") C 19 1 [vr_ v1] 8 (ctX9_among C.2.2.2.2.2.2.2.2.1 N m x14 v1) hb_ hb0_ rfl rfl q2772 q2688 q2701 q2702 q139 q2703 q2687 ⟨by decide +kernel, by decide +kernel, by decide +kernel⟩ (Nat.le_of_ble_eq_true rfl) (Nat.le_of_ble_eq_true rfl) rfl (Nat.le_of_ble_eq_true rfl) dX11_among_12 15 rfl rfl hen_j (kk_j kk_) (kx_n he_j)
      refine x_csr (kd := 9) (fun hb_ hb0_ => ?_) ?_
      · exact x_callA (enc := en_j) (owner := "MasterTree$Filter") C 13 1 [vr_ v1] 9 (ctX10_among C.2.2.2.2.2.2.2.2.1 N m x14 v1) hb_ hb0_ rfl rfl q2772 q2688 q2689 q2690 q140 q2691 q2687 ⟨by decide +kernel, by decide +kernel, by decide +kernel⟩ (Nat.le_of_ble_eq_true rfl) (Nat.le_of_ble_eq_true rfl) rfl (Nat.le_of_ble_eq_true rfl) dX11_among_12 15 rfl rfl hen_j (kk_j kk_) (kx_n he_j)
      refine x_csr (kd := 10) (fun hb_ hb0_ => ?_) ?_
      · exact x_callA (enc := en_j) (owner := "MasterTree$Filter") C 21 1 [vr_ v1] 10 (ctX11_among_d1 C.2.2.2.2.2.2.2.2.1 N m x14 v1) hb_ hb0_ rfl rfl q2772 q2688 q2769 q2770 q141 q2771 q2687 ⟨by decide +kernel, by decide +kernel, by decide +kernel⟩ (Nat.le_of_ble_eq_true rfl) (Nat.le_of_ble_eq_true rfl) rfl (Nat.le_of_ble_eq_true rfl) dX11_among_12 15 rfl rfl hen_j (kk_j kk_) (kx_n he_j)
      refine x_csr (kd := 11) (fun hb_ hb0_ => ?_) ?_
      · exact x_callA (enc := en_j) (owner := "MasterTree$Filter") C 21 1 [vr_ v1] 11 (ctX12_among_d1 C.2.2.2.2.2.2.2.2.1 N m x14 v1) hb_ hb0_ rfl rfl q2772 q2688 q2781 q2773 q142 q2774 q2687 ⟨by decide +kernel, by decide +kernel, by decide +kernel⟩ (Nat.le_of_ble_eq_true rfl) (Nat.le_of_ble_eq_true rfl) rfl (Nat.le_of_ble_eq_true rfl) dX11_among_12 15 rfl rfl hen_j (kk_j kk_) (kx_n he_j)
      exact Sm_bn
    refine s_aload_n C rfl 0 rfl dX11_among_15 16 rfl ?_
    refine x_gr C 9 (RX11, TX11, 3) rfl 1 (Nat.le_of_ble_eq_true rfl) q2641 (Or.inl rfl) rfl 10 rfl dX11_among_16 19 rfl (fun x20 => ?_)
    refine s_aload_n C rfl 1 rfl dX11_among_19 20 rfl ?_
    refine x_wj [vj_ x15] 23 (fun kk_ => ?_) (fun x21 m16 k1 n1 => ?_)
    · refine x_csr (kd := 8) (fun hb_ hb0_ => ?_) ?_
      · exact x_callA (enc := en_j) (owner := "MasterTree$Filter") C 19 1 [vr_ v1] 8 (ctX9_among C.2.2.2.2.2.2.2.2.1 N m11 x20 v1) hb_ hb0_ rfl rfl q2772 q2688 q2701 q2702 q139 q2703 q2687 ⟨by decide +kernel, by decide +kernel, by decide +kernel⟩ (Nat.le_of_ble_eq_true rfl) (Nat.le_of_ble_eq_true rfl) rfl (Nat.le_of_ble_eq_true rfl) dX11_among_20 23 rfl rfl hen_j (kk_j kk_) (kx_n he_j)
      refine x_csr (kd := 9) (fun hb_ hb0_ => ?_) ?_
      · exact x_callA (enc := en_j) (owner := "MasterTree$Filter") C 13 1 [vr_ v1] 9 (ctX10_among C.2.2.2.2.2.2.2.2.1 N m11 x20 v1) hb_ hb0_ rfl rfl q2772 q2688 q2689 q2690 q140 q2691 q2687 ⟨by decide +kernel, by decide +kernel, by decide +kernel⟩ (Nat.le_of_ble_eq_true rfl) (Nat.le_of_ble_eq_true rfl) rfl (Nat.le_of_ble_eq_true rfl) dX11_among_20 23 rfl rfl hen_j (kk_j kk_) (kx_n he_j)
      refine x_csr (kd := 10) (fun hb_ hb0_ => ?_) ?_
      · exact x_callA (enc := en_j) (owner := "MasterTree$Filter") C 21 1 [vr_ v1] 10 (ctX11_among_d1 C.2.2.2.2.2.2.2.2.1 N m11 x20 v1) hb_ hb0_ rfl rfl q2772 q2688 q2769 q2770 q141 q2771 q2687 ⟨by decide +kernel, by decide +kernel, by decide +kernel⟩ (Nat.le_of_ble_eq_true rfl) (Nat.le_of_ble_eq_true rfl) rfl (Nat.le_of_ble_eq_true rfl) dX11_among_20 23 rfl rfl hen_j (kk_j kk_) (kx_n he_j)
      refine x_csr (kd := 11) (fun hb_ hb0_ => ?_) ?_
      · exact x_callA (enc := en_j) (owner := "MasterTree$Filter") C 21 1 [vr_ v1] 11 (ctX12_among_d1 C.2.2.2.2.2.2.2.2.1 N m11 x20 v1) hb_ hb0_ rfl rfl q2772 q2688 q2781 q2773 q142 q2774 q2687 ⟨by decide +kernel, by decide +kernel, by decide +kernel⟩ (Nat.le_of_ble_eq_true rfl) (Nat.le_of_ble_eq_true rfl) rfl (Nat.le_of_ble_eq_true rfl) dX11_among_20 23 rfl rfl hen_j (kk_j kk_) (kx_n he_j)
      exact Sm_bn
    refine s_land C dX11_among_23 24 rfl ?_
    refine s_goto C (off := 20) 44 dX11_among_24 rfl ?_
    refine Sm_sub [] rfl ?_
    exact wX11_among_d2_b44 C hret h0 hin N _ _ _ _
theorem hdX11_among_d2 : ((⟨"MasterTree$Combined", "among", "(LMasterTree$Master;)J"⟩ : MethodName)).cls ≠ "java/lang/invoke/MethodHandle" ∧ ((⟨"MasterTree$Combined", "among", "(LMasterTree$Master;)J"⟩ : MethodName)).cls ≠ "java/lang/invoke/VarHandle" ∧ (parseMethodDescriptor ((⟨"MasterTree$Combined", "among", "(LMasterTree$Master;)J"⟩ : MethodName)).desc).map (fun d => d.parameters.length) = some 1 := ⟨by decide +kernel, by decide +kernel, by decide +kernel⟩
theorem ctX11_among_d2 {l : Launch} {g : GG} (hst : l.stackTraces = false) (N : Nat) (m : Mm) (v0 : Option Nat) (v1 : Option Nat) : ∀ v m' k n, fX11_among_d2 (gE_ g) N m v0 v1 = some (v, m', k, n) → Ct_ l g (⟨"MasterTree$Combined", "among", "(LMasterTree$Master;)J"⟩ : MethodName) (ws_ (⟨"MasterTree$Combined", "among", "(LMasterTree$Master;)J"⟩ : MethodName) cX11_among 2 (Option.some Jvm.ClassFile.FieldType.long)) 22 [vr_ v0, vr_ v1] m (en_j v) m' k n :=
  Ct_of (by decide +kernel) rfl hst (Nat.le_of_ble_eq_true rfl) rfl (fun E C hret h0 hin => wX11_among_d2 C hret h0 hin N m v0 v1 0 0)
theorem wX12_among_d2 {l : Launch} {g : GG} {E : Me_} (C : Cx_ l g E "MasterTree$Not" cX12_among 2 22) (hret : (eT_ E).sig.returnType = (Option.some Jvm.ClassFile.FieldType.long)) (h0 : ∀ x ∈ (eC_ E).exceptionTable.toList, False) (hin : (eT_ E).name = "among") (N : Nat) : ∀ (m : Mm) (v0 : Option Nat) (v1 : Option Nat) (k n : Nat), Sm_ l g E 2 en_j (fX12_among_d2 (gE_ g) N m v0 v1) k n 0 [(0, vr_ v0), (1, vr_ v1)] [] m := by
  intro m v0 v1 k n
  unfold fX12_among_d2
  refine s_aload_n C rfl 1 rfl dX12_among_0 1 rfl ?_
  refine x_ck (fun hb_ hb0_ => ?_)
  refine x_callV (enc := en_j) C 12 0 [] 2 (ctX2_liveOnes C.2.2.2.2.2.2.2.2.1 N m v1) hb_ hb0_ rfl rfl q2775 q2776 q2777 q85 q2778 hdX2_liveOnes (Nat.le_of_ble_eq_true rfl) (Nat.le_of_ble_eq_true rfl) rfl (Nat.le_of_ble_eq_true rfl) dX12_among_1 4 rfl rfl hen_j (kk_j (fun x1 m1 k1 n1 => ?_)) (kx_n he_j)
  refine s_aload_n C rfl 0 rfl dX12_among_4 5 rfl ?_
  refine x_gr C 10 (RX12, TX12, 1) rfl 0 (Nat.le_of_ble_eq_true rfl) q2666 (Or.inl rfl) rfl 11 rfl dX12_among_5 8 rfl (fun x2 => ?_)
  refine s_aload_n C rfl 1 rfl dX12_among_8 9 rfl ?_
  refine x_wj [vj_ x1] 12 (fun kk_ => ?_) (fun x3 m2 k1 n1 => ?_)
  · refine x_csr (kd := 8) (fun hb_ hb0_ => ?_) ?_
    · exact x_callA (enc := en_j) (owner := "MasterTree$Filter") C 19 1 [vr_ v1] 8 (ctX9_among C.2.2.2.2.2.2.2.2.1 N m1 x2 v1) hb_ hb0_ rfl rfl q2779 q2688 q2701 q2702 q139 q2703 q2687 ⟨by decide +kernel, by decide +kernel, by decide +kernel⟩ (Nat.le_of_ble_eq_true rfl) (Nat.le_of_ble_eq_true rfl) rfl (Nat.le_of_ble_eq_true rfl) dX12_among_9 12 rfl rfl hen_j (kk_j kk_) (kx_n he_j)
    refine x_csr (kd := 9) (fun hb_ hb0_ => ?_) ?_
    · exact x_callA (enc := en_j) (owner := "MasterTree$Filter") C 13 1 [vr_ v1] 9 (ctX10_among C.2.2.2.2.2.2.2.2.1 N m1 x2 v1) hb_ hb0_ rfl rfl q2779 q2688 q2689 q2690 q140 q2691 q2687 ⟨by decide +kernel, by decide +kernel, by decide +kernel⟩ (Nat.le_of_ble_eq_true rfl) (Nat.le_of_ble_eq_true rfl) rfl (Nat.le_of_ble_eq_true rfl) dX12_among_9 12 rfl rfl hen_j (kk_j kk_) (kx_n he_j)
    refine x_csr (kd := 10) (fun hb_ hb0_ => ?_) ?_
    · exact x_callA (enc := en_j) (owner := "MasterTree$Filter") C 21 1 [vr_ v1] 10 (ctX11_among_d1 C.2.2.2.2.2.2.2.2.1 N m1 x2 v1) hb_ hb0_ rfl rfl q2779 q2688 q2769 q2770 q141 q2771 q2687 ⟨by decide +kernel, by decide +kernel, by decide +kernel⟩ (Nat.le_of_ble_eq_true rfl) (Nat.le_of_ble_eq_true rfl) rfl (Nat.le_of_ble_eq_true rfl) dX12_among_9 12 rfl rfl hen_j (kk_j kk_) (kx_n he_j)
    refine x_csr (kd := 11) (fun hb_ hb0_ => ?_) ?_
    · exact x_callA (enc := en_j) (owner := "MasterTree$Filter") C 21 1 [vr_ v1] 11 (ctX12_among_d1 C.2.2.2.2.2.2.2.2.1 N m1 x2 v1) hb_ hb0_ rfl rfl q2779 q2688 q2781 q2773 q142 q2774 q2687 ⟨by decide +kernel, by decide +kernel, by decide +kernel⟩ (Nat.le_of_ble_eq_true rfl) (Nat.le_of_ble_eq_true rfl) rfl (Nat.le_of_ble_eq_true rfl) dX12_among_9 12 rfl rfl hen_j (kk_j kk_) (kx_n he_j)
    exact Sm_bn
  refine s_ldc2 C (-1) q2780 dX12_among_12 15 rfl ?_
  refine s_lxor C dX12_among_15 16 rfl ?_
  refine s_land C dX12_among_16 17 rfl ?_
  exact x_lret C hret rfl dX12_among_17
theorem hdX12_among_d2 : ((⟨"MasterTree$Not", "among", "(LMasterTree$Master;)J"⟩ : MethodName)).cls ≠ "java/lang/invoke/MethodHandle" ∧ ((⟨"MasterTree$Not", "among", "(LMasterTree$Master;)J"⟩ : MethodName)).cls ≠ "java/lang/invoke/VarHandle" ∧ (parseMethodDescriptor ((⟨"MasterTree$Not", "among", "(LMasterTree$Master;)J"⟩ : MethodName)).desc).map (fun d => d.parameters.length) = some 1 := ⟨by decide +kernel, by decide +kernel, by decide +kernel⟩
theorem ctX12_among_d2 {l : Launch} {g : GG} (hst : l.stackTraces = false) (N : Nat) (m : Mm) (v0 : Option Nat) (v1 : Option Nat) : ∀ v m' k n, fX12_among_d2 (gE_ g) N m v0 v1 = some (v, m', k, n) → Ct_ l g (⟨"MasterTree$Not", "among", "(LMasterTree$Master;)J"⟩ : MethodName) (ws_ (⟨"MasterTree$Not", "among", "(LMasterTree$Master;)J"⟩ : MethodName) cX12_among 2 (Option.some Jvm.ClassFile.FieldType.long)) 22 [vr_ v0, vr_ v1] m (en_j v) m' k n :=
  Ct_of (by decide +kernel) rfl hst (Nat.le_of_ble_eq_true rfl) rfl (fun E C hret h0 hin => wX12_among_d2 C hret h0 hin N m v0 v1 0 0)
theorem wX11_among_d3_b44 {l : Launch} {g : GG} {E : Me_} (C : Cx_ l g E "MasterTree$Combined" cX11_among 2 23) (hret : (eT_ E).sig.returnType = (Option.some Jvm.ClassFile.FieldType.long)) (h0 : ∀ x ∈ (eC_ E).exceptionTable.toList, False) (hin : (eT_ E).name = "among") (N : Nat) : ∀ (m : Mm) (s0 : Int64) (k n : Nat), Sm_ l g E 2 en_j (fX11_among_d3_b44 (gE_ g) N m s0) k n 44 [] [vj_ s0] m := by
  intro m s0 k n
  unfold fX11_among_d3_b44
  exact x_lret C hret rfl dX11_among_44
theorem wX11_among_d3 {l : Launch} {g : GG} {E : Me_} (C : Cx_ l g E "MasterTree$Combined" cX11_among 2 23) (hret : (eT_ E).sig.returnType = (Option.some Jvm.ClassFile.FieldType.long)) (h0 : ∀ x ∈ (eC_ E).exceptionTable.toList, False) (hin : (eT_ E).name = "among") (N : Nat) : ∀ (m : Mm) (v0 : Option Nat) (v1 : Option Nat) (k n : Nat), Sm_ l g E 2 en_j (fX11_among_d3 (gE_ g) N m v0 v1) k n 0 [(0, vr_ v0), (1, vr_ v1)] [] m := by
  intro m v0 v1 k n
  unfold fX11_among_d3
  refine s_aload_n C rfl 0 rfl dX11_among_0 1 rfl ?_
  refine x_gi C 9 (RX11, TX11, 3) rfl 2 (Nat.le_of_ble_eq_true rfl) q2642 (Or.inl rfl) rfl 10 rfl dX11_among_1 4 rfl (fun x1 => ?_)
  refine s_if_eq C dX11_among_4 27 rfl 7 rfl (fun c_ => ?_) (fun c_ => ?_)
  · refine s_aload_n C rfl 0 rfl dX11_among_27 28 rfl ?_
    refine x_gr C 9 (RX11, TX11, 3) rfl 0 (Nat.le_of_ble_eq_true rfl) q2640 (Or.inl rfl) rfl 10 rfl dX11_among_28 31 rfl (fun x2 => ?_)
    refine s_aload_n C rfl 1 rfl dX11_among_31 32 rfl ?_
    refine x_wj [] 35 (fun kk_ => ?_) (fun x3 m1 k1 n1 => ?_)
    · refine x_csr (kd := 8) (fun hb_ hb0_ => ?_) ?_
      · exact x_callA (enc := en_j) (owner := "MasterTree$Filter") C 19 1 [vr_ v1] 8 (ctX9_among C.2.2.2.2.2.2.2.2.1 N m x2 v1) hb_ hb0_ rfl rfl q2772 q2688 q2701 q2702 q139 q2703 q2687 ⟨by decide +kernel, by decide +kernel, by decide +kernel⟩ (Nat.le_of_ble_eq_true rfl) (Nat.le_of_ble_eq_true rfl) rfl (Nat.le_of_ble_eq_true rfl) dX11_among_32 35 rfl rfl hen_j (kk_j kk_) (kx_n he_j)
      refine x_csr (kd := 9) (fun hb_ hb0_ => ?_) ?_
      · exact x_callA (enc := en_j) (owner := "MasterTree$Filter") C 13 1 [vr_ v1] 9 (ctX10_among C.2.2.2.2.2.2.2.2.1 N m x2 v1) hb_ hb0_ rfl rfl q2772 q2688 q2689 q2690 q140 q2691 q2687 ⟨by decide +kernel, by decide +kernel, by decide +kernel⟩ (Nat.le_of_ble_eq_true rfl) (Nat.le_of_ble_eq_true rfl) rfl (Nat.le_of_ble_eq_true rfl) dX11_among_32 35 rfl rfl hen_j (kk_j kk_) (kx_n he_j)
      refine x_csr (kd := 10) (fun hb_ hb0_ => ?_) ?_
      · exact x_callA (enc := en_j) (owner := "MasterTree$Filter") C 22 1 [vr_ v1] 10 (ctX11_among_d2 C.2.2.2.2.2.2.2.2.1 N m x2 v1) hb_ hb0_ rfl rfl q2772 q2688 q2769 q2770 q141 q2771 q2687 ⟨by decide +kernel, by decide +kernel, by decide +kernel⟩ (Nat.le_of_ble_eq_true rfl) (Nat.le_of_ble_eq_true rfl) rfl (Nat.le_of_ble_eq_true rfl) dX11_among_32 35 rfl rfl hen_j (kk_j kk_) (kx_n he_j)
      refine x_csr (kd := 11) (fun hb_ hb0_ => ?_) ?_
      · exact x_callA (enc := en_j) (owner := "MasterTree$Filter") C 22 1 [vr_ v1] 11 (ctX12_among_d2 C.2.2.2.2.2.2.2.2.1 N m x2 v1) hb_ hb0_ rfl rfl q2772 q2688 q2781 q2773 q142 q2774 q2687 ⟨by decide +kernel, by decide +kernel, by decide +kernel⟩ (Nat.le_of_ble_eq_true rfl) (Nat.le_of_ble_eq_true rfl) rfl (Nat.le_of_ble_eq_true rfl) dX11_among_32 35 rfl rfl hen_j (kk_j kk_) (kx_n he_j)
      exact Sm_bn
    refine s_aload_n C rfl 0 rfl dX11_among_35 36 rfl ?_
    refine x_gr C 9 (RX11, TX11, 3) rfl 1 (Nat.le_of_ble_eq_true rfl) q2641 (Or.inl rfl) rfl 10 rfl dX11_among_36 39 rfl (fun x8 => ?_)
    refine s_aload_n C rfl 1 rfl dX11_among_39 40 rfl ?_
    refine x_wj [vj_ x3] 43 (fun kk_ => ?_) (fun x9 m6 k1 n1 => ?_)
    · refine x_csr (kd := 8) (fun hb_ hb0_ => ?_) ?_
      · exact x_callA (enc := en_j) (owner := "MasterTree$Filter") C 19 1 [vr_ v1] 8 (ctX9_among C.2.2.2.2.2.2.2.2.1 N m1 x8 v1) hb_ hb0_ rfl rfl q2772 q2688 q2701 q2702 q139 q2703 q2687 ⟨by decide +kernel, by decide +kernel, by decide +kernel⟩ (Nat.le_of_ble_eq_true rfl) (Nat.le_of_ble_eq_true rfl) rfl (Nat.le_of_ble_eq_true rfl) dX11_among_40 43 rfl rfl hen_j (kk_j kk_) (kx_n he_j)
      refine x_csr (kd := 9) (fun hb_ hb0_ => ?_) ?_
      · exact x_callA (enc := en_j) (owner := "MasterTree$Filter") C 13 1 [vr_ v1] 9 (ctX10_among C.2.2.2.2.2.2.2.2.1 N m1 x8 v1) hb_ hb0_ rfl rfl q2772 q2688 q2689 q2690 q140 q2691 q2687 ⟨by decide +kernel, by decide +kernel, by decide +kernel⟩ (Nat.le_of_ble_eq_true rfl) (Nat.le_of_ble_eq_true rfl) rfl (Nat.le_of_ble_eq_true rfl) dX11_among_40 43 rfl rfl hen_j (kk_j kk_) (kx_n he_j)
      refine x_csr (kd := 10) (fun hb_ hb0_ => ?_) ?_
      · exact x_callA (enc := en_j) (owner := "MasterTree$Filter") C 22 1 [vr_ v1] 10 (ctX11_among_d2 C.2.2.2.2.2.2.2.2.1 N m1 x8 v1) hb_ hb0_ rfl rfl q2772 q2688 q2769 q2770 q141 q2771 q2687 ⟨by decide +kernel, by decide +kernel, by decide +kernel⟩ (Nat.le_of_ble_eq_true rfl) (Nat.le_of_ble_eq_true rfl) rfl (Nat.le_of_ble_eq_true rfl) dX11_among_40 43 rfl rfl hen_j (kk_j kk_) (kx_n he_j)
      refine x_csr (kd := 11) (fun hb_ hb0_ => ?_) ?_
      · exact x_callA (enc := en_j) (owner := "MasterTree$Filter") C 22 1 [vr_ v1] 11 (ctX12_among_d2 C.2.2.2.2.2.2.2.2.1 N m1 x8 v1) hb_ hb0_ rfl rfl q2772 q2688 q2781 q2773 q142 q2774 q2687 ⟨by decide +kernel, by decide +kernel, by decide +kernel⟩ (Nat.le_of_ble_eq_true rfl) (Nat.le_of_ble_eq_true rfl) rfl (Nat.le_of_ble_eq_true rfl) dX11_among_40 43 rfl rfl hen_j (kk_j kk_) (kx_n he_j)
      exact Sm_bn
    refine s_lor C dX11_among_43 44 rfl ?_
    refine Sm_sub [] rfl ?_
    exact wX11_among_d3_b44 C hret h0 hin N _ _ _ _
  · refine s_aload_n C rfl 0 rfl dX11_among_7 8 rfl ?_
    refine x_gr C 9 (RX11, TX11, 3) rfl 0 (Nat.le_of_ble_eq_true rfl) q2640 (Or.inl rfl) rfl 10 rfl dX11_among_8 11 rfl (fun x14 => ?_)
    refine s_aload_n C rfl 1 rfl dX11_among_11 12 rfl ?_
    refine x_wj [] 15 (fun kk_ => ?_) (fun x15 m11 k1 n1 => ?_)
    · refine x_csr (kd := 8) (fun hb_ hb0_ => ?_) ?_
      · exact x_callA (enc := en_j) (owner := "MasterTree$Filter") C 19 1 [vr_ v1] 8 (ctX9_among C.2.2.2.2.2.2.2.2.1 N m x14 v1) hb_ hb0_ rfl rfl q2772 q2688 q2701 q2702 q139 q2703 q2687 ⟨by decide +kernel, by decide +kernel, by decide +kernel⟩ (Nat.le_of_ble_eq_true rfl) (Nat.le_of_ble_eq_true rfl) rfl (Nat.le_of_ble_eq_true rfl) dX11_among_12 15 rfl rfl hen_j (kk_j kk_) (kx_n he_j)
      refine x_csr (kd := 9) (fun hb_ hb0_ => ?_) ?_
      · exact x_callA (enc := en_j) (owner := "MasterTree$Filter") C 13 1 [vr_ v1] 9 (ctX10_among C.2.2.2.2.2.2.2.2.1 N m x14 v1) hb_ hb0_ rfl rfl q2772 q2688 q2689 q2690 q140 q2691 q2687 ⟨by decide +kernel, by decide +kernel, by decide +kernel⟩ (Nat.le_of_ble_eq_true rfl) (Nat.le_of_ble_eq_true rfl) rfl (Nat.le_of_ble_eq_true rfl) dX11_among_12 15 rfl rfl hen_j (kk_j kk_) (kx_n he_j)
      refine x_csr (kd := 10) (fun hb_ hb0_ => ?_) ?_
      · exact x_callA (enc := en_j) (owner := "MasterTree$Filter") C 22 1 [vr_ v1] 10 (ctX11_among_d2 C.2.2.2.2.2.2.2.2.1 N m x14 v1) hb_ hb0_ rfl rfl q2772 q2688 q2769 q2770 q141 q2771 q2687 ⟨by decide +kernel, by decide +kernel, by decide +kernel⟩ (Nat.le_of_ble_eq_true rfl) (Nat.le_of_ble_eq_true rfl) rfl (Nat.le_of_ble_eq_true rfl) dX11_among_12 15 rfl rfl hen_j (kk_j kk_) (kx_n he_j)
      refine x_csr (kd := 11) (fun hb_ hb0_ => ?_) ?_
      · exact x_callA (enc := en_j) (owner := "MasterTree$Filter") C 22 1 [vr_ v1] 11 (ctX12_among_d2 C.2.2.2.2.2.2.2.2.1 N m x14 v1) hb_ hb0_ rfl rfl q2772 q2688 q2781 q2773 q142 q2774 q2687 ⟨by decide +kernel, by decide +kernel, by decide +kernel⟩ (Nat.le_of_ble_eq_true rfl) (Nat.le_of_ble_eq_true rfl) rfl (Nat.le_of_ble_eq_true rfl) dX11_among_12 15 rfl rfl hen_j (kk_j kk_) (kx_n he_j)
      exact Sm_bn
    refine s_aload_n C rfl 0 rfl dX11_among_15 16 rfl ?_
    refine x_gr C 9 (RX11, TX11, 3) rfl 1 (Nat.le_of_ble_eq_true rfl) q2641 (Or.inl rfl) rfl 10 rfl dX11_among_16 19 rfl (fun x20 => ?_)
    refine s_aload_n C rfl 1 rfl dX11_among_19 20 rfl ?_
    refine x_wj [vj_ x15] 23 (fun kk_ => ?_) (fun x21 m16 k1 n1 => ?_)
    · refine x_csr (kd := 8) (fun hb_ hb0_ => ?_) ?_
      · exact x_callA (enc := en_j) (owner := "MasterTree$Filter") C 19 1 [vr_ v1] 8 (ctX9_among C.2.2.2.2.2.2.2.2.1 N m11 x20 v1) hb_ hb0_ rfl rfl q2772 q2688 q2701 q2702 q139 q2703 q2687 ⟨by decide +kernel, by decide +kernel, by decide +kernel⟩ (Nat.le_of_ble_eq_true rfl) (Nat.le_of_ble_eq_true rfl) rfl (Nat.le_of_ble_eq_true rfl) dX11_among_20 23 rfl rfl hen_j (kk_j kk_) (kx_n he_j)
      refine x_csr (kd := 9) (fun hb_ hb0_ => ?_) ?_
      · exact x_callA (enc := en_j) (owner := "MasterTree$Filter") C 13 1 [vr_ v1] 9 (ctX10_among C.2.2.2.2.2.2.2.2.1 N m11 x20 v1) hb_ hb0_ rfl rfl q2772 q2688 q2689 q2690 q140 q2691 q2687 ⟨by decide +kernel, by decide +kernel, by decide +kernel⟩ (Nat.le_of_ble_eq_true rfl) (Nat.le_of_ble_eq_true rfl) rfl (Nat.le_of_ble_eq_true rfl) dX11_among_20 23 rfl rfl hen_j (kk_j kk_) (kx_n he_j)
      refine x_csr (kd := 10) (fun hb_ hb0_ => ?_) ?_
      · exact x_callA (enc := en_j) (owner := "MasterTree$Filter") C 22 1 [vr_ v1] 10 (ctX11_among_d2 C.2.2.2.2.2.2.2.2.1 N m11 x20 v1) hb_ hb0_ rfl rfl q2772 q2688 q2769 q2770 q141 q2771 q2687 ⟨by decide +kernel, by decide +kernel, by decide +kernel⟩ (Nat.le_of_ble_eq_true rfl) (Nat.le_of_ble_eq_true rfl) rfl (Nat.le_of_ble_eq_true rfl) dX11_among_20 23 rfl rfl hen_j (kk_j kk_) (kx_n he_j)
      refine x_csr (kd := 11) (fun hb_ hb0_ => ?_) ?_
      · exact x_callA (enc := en_j) (owner := "MasterTree$Filter") C 22 1 [vr_ v1] 11 (ctX12_among_d2 C.2.2.2.2.2.2.2.2.1 N m11 x20 v1) hb_ hb0_ rfl rfl q2772 q2688 q2781 q2773 q142 q2774 q2687 ⟨by decide +kernel, by decide +kernel, by decide +kernel⟩ (Nat.le_of_ble_eq_true rfl) (Nat.le_of_ble_eq_true rfl) rfl (Nat.le_of_ble_eq_true rfl) dX11_among_20 23 rfl rfl hen_j (kk_j kk_) (kx_n he_j)
      exact Sm_bn
    refine s_land C dX11_among_23 24 rfl ?_
    refine s_goto C (off := 20) 44 dX11_among_24 rfl ?_
    refine Sm_sub [] rfl ?_
    exact wX11_among_d3_b44 C hret h0 hin N _ _ _ _
theorem hdX11_among_d3 : ((⟨"MasterTree$Combined", "among", "(LMasterTree$Master;)J"⟩ : MethodName)).cls ≠ "java/lang/invoke/MethodHandle" ∧ ((⟨"MasterTree$Combined", "among", "(LMasterTree$Master;)J"⟩ : MethodName)).cls ≠ "java/lang/invoke/VarHandle" ∧ (parseMethodDescriptor ((⟨"MasterTree$Combined", "among", "(LMasterTree$Master;)J"⟩ : MethodName)).desc).map (fun d => d.parameters.length) = some 1 := ⟨by decide +kernel, by decide +kernel, by decide +kernel⟩
theorem ctX11_among_d3 {l : Launch} {g : GG} (hst : l.stackTraces = false) (N : Nat) (m : Mm) (v0 : Option Nat) (v1 : Option Nat) : ∀ v m' k n, fX11_among_d3 (gE_ g) N m v0 v1 = some (v, m', k, n) → Ct_ l g (⟨"MasterTree$Combined", "among", "(LMasterTree$Master;)J"⟩ : MethodName) (ws_ (⟨"MasterTree$Combined", "among", "(LMasterTree$Master;)J"⟩ : MethodName) cX11_among 2 (Option.some Jvm.ClassFile.FieldType.long)) 23 [vr_ v0, vr_ v1] m (en_j v) m' k n :=
  Ct_of (by decide +kernel) rfl hst (Nat.le_of_ble_eq_true rfl) rfl (fun E C hret h0 hin => wX11_among_d3 C hret h0 hin N m v0 v1 0 0)
theorem wX12_among_d3 {l : Launch} {g : GG} {E : Me_} (C : Cx_ l g E "MasterTree$Not" cX12_among 2 23) (hret : (eT_ E).sig.returnType = (Option.some Jvm.ClassFile.FieldType.long)) (h0 : ∀ x ∈ (eC_ E).exceptionTable.toList, False) (hin : (eT_ E).name = "among") (N : Nat) : ∀ (m : Mm) (v0 : Option Nat) (v1 : Option Nat) (k n : Nat), Sm_ l g E 2 en_j (fX12_among_d3 (gE_ g) N m v0 v1) k n 0 [(0, vr_ v0), (1, vr_ v1)] [] m := by
  intro m v0 v1 k n
  unfold fX12_among_d3
  refine s_aload_n C rfl 1 rfl dX12_among_0 1 rfl ?_
  refine x_ck (fun hb_ hb0_ => ?_)
  refine x_callV (enc := en_j) C 12 0 [] 2 (ctX2_liveOnes C.2.2.2.2.2.2.2.2.1 N m v1) hb_ hb0_ rfl rfl q2775 q2776 q2777 q85 q2778 hdX2_liveOnes (Nat.le_of_ble_eq_true rfl) (Nat.le_of_ble_eq_true rfl) rfl (Nat.le_of_ble_eq_true rfl) dX12_among_1 4 rfl rfl hen_j (kk_j (fun x1 m1 k1 n1 => ?_)) (kx_n he_j)
  refine s_aload_n C rfl 0 rfl dX12_among_4 5 rfl ?_
  refine x_gr C 10 (RX12, TX12, 1) rfl 0 (Nat.le_of_ble_eq_true rfl) q2666 (Or.inl rfl) rfl 11 rfl dX12_among_5 8 rfl (fun x2 => ?_)
  refine s_aload_n C rfl 1 rfl dX12_among_8 9 rfl ?_
  refine x_wj [vj_ x1] 12 (fun kk_ => ?_) (fun x3 m2 k1 n1 => ?_)
  · refine x_csr (kd := 8) (fun hb_ hb0_ => ?_) ?_
    · exact x_callA (enc := en_j) (owner := "MasterTree$Filter") C 19 1 [vr_ v1] 8 (ctX9_among C.2.2.2.2.2.2.2.2.1 N m1 x2 v1) hb_ hb0_ rfl rfl q2779 q2688 q2701 q2702 q139 q2703 q2687 ⟨by decide +kernel, by decide +kernel, by decide +kernel⟩ (Nat.le_of_ble_eq_true rfl) (Nat.le_of_ble_eq_true rfl) rfl (Nat.le_of_ble_eq_true rfl) dX12_among_9 12 rfl rfl hen_j (kk_j kk_) (kx_n he_j)
    refine x_csr (kd := 9) (fun hb_ hb0_ => ?_) ?_
    · exact x_callA (enc := en_j) (owner := "MasterTree$Filter") C 13 1 [vr_ v1] 9 (ctX10_among C.2.2.2.2.2.2.2.2.1 N m1 x2 v1) hb_ hb0_ rfl rfl q2779 q2688 q2689 q2690 q140 q2691 q2687 ⟨by decide +kernel, by decide +kernel, by decide +kernel⟩ (Nat.le_of_ble_eq_true rfl) (Nat.le_of_ble_eq_true rfl) rfl (Nat.le_of_ble_eq_true rfl) dX12_among_9 12 rfl rfl hen_j (kk_j kk_) (kx_n he_j)
    refine x_csr (kd := 10) (fun hb_ hb0_ => ?_) ?_
    · exact x_callA (enc := en_j) (owner := "MasterTree$Filter") C 22 1 [vr_ v1] 10 (ctX11_among_d2 C.2.2.2.2.2.2.2.2.1 N m1 x2 v1) hb_ hb0_ rfl rfl q2779 q2688 q2769 q2770 q141 q2771 q2687 ⟨by decide +kernel, by decide +kernel, by decide +kernel⟩ (Nat.le_of_ble_eq_true rfl) (Nat.le_of_ble_eq_true rfl) rfl (Nat.le_of_ble_eq_true rfl) dX12_among_9 12 rfl rfl hen_j (kk_j kk_) (kx_n he_j)
    refine x_csr (kd := 11) (fun hb_ hb0_ => ?_) ?_
    · exact x_callA (enc := en_j) (owner := "MasterTree$Filter") C 22 1 [vr_ v1] 11 (ctX12_among_d2 C.2.2.2.2.2.2.2.2.1 N m1 x2 v1) hb_ hb0_ rfl rfl q2779 q2688 q2781 q2773 q142 q2774 q2687 ⟨by decide +kernel, by decide +kernel, by decide +kernel⟩ (Nat.le_of_ble_eq_true rfl) (Nat.le_of_ble_eq_true rfl) rfl (Nat.le_of_ble_eq_true rfl) dX12_among_9 12 rfl rfl hen_j (kk_j kk_) (kx_n he_j)
    exact Sm_bn
  refine s_ldc2 C (-1) q2780 dX12_among_12 15 rfl ?_
  refine s_lxor C dX12_among_15 16 rfl ?_
  refine s_land C dX12_among_16 17 rfl ?_
  exact x_lret C hret rfl dX12_among_17
theorem hdX12_among_d3 : ((⟨"MasterTree$Not", "among", "(LMasterTree$Master;)J"⟩ : MethodName)).cls ≠ "java/lang/invoke/MethodHandle" ∧ ((⟨"MasterTree$Not", "among", "(LMasterTree$Master;)J"⟩ : MethodName)).cls ≠ "java/lang/invoke/VarHandle" ∧ (parseMethodDescriptor ((⟨"MasterTree$Not", "among", "(LMasterTree$Master;)J"⟩ : MethodName)).desc).map (fun d => d.parameters.length) = some 1 := ⟨by decide +kernel, by decide +kernel, by decide +kernel⟩
theorem ctX12_among_d3 {l : Launch} {g : GG} (hst : l.stackTraces = false) (N : Nat) (m : Mm) (v0 : Option Nat) (v1 : Option Nat) : ∀ v m' k n, fX12_among_d3 (gE_ g) N m v0 v1 = some (v, m', k, n) → Ct_ l g (⟨"MasterTree$Not", "among", "(LMasterTree$Master;)J"⟩ : MethodName) (ws_ (⟨"MasterTree$Not", "among", "(LMasterTree$Master;)J"⟩ : MethodName) cX12_among 2 (Option.some Jvm.ClassFile.FieldType.long)) 23 [vr_ v0, vr_ v1] m (en_j v) m' k n :=
  Ct_of (by decide +kernel) rfl hst (Nat.le_of_ble_eq_true rfl) rfl (fun E C hret h0 hin => wX12_among_d3 C hret h0 hin N m v0 v1 0 0)
theorem wX11_among_d4_b44 {l : Launch} {g : GG} {E : Me_} (C : Cx_ l g E "MasterTree$Combined" cX11_among 2 24) (hret : (eT_ E).sig.returnType = (Option.some Jvm.ClassFile.FieldType.long)) (h0 : ∀ x ∈ (eC_ E).exceptionTable.toList, False) (hin : (eT_ E).name = "among") (N : Nat) : ∀ (m : Mm) (s0 : Int64) (k n : Nat), Sm_ l g E 2 en_j (fX11_among_d4_b44 (gE_ g) N m s0) k n 44 [] [vj_ s0] m := by
  intro m s0 k n
  unfold fX11_among_d4_b44
  exact x_lret C hret rfl dX11_among_44
theorem wX11_among_d4 {l : Launch} {g : GG} {E : Me_} (C : Cx_ l g E "MasterTree$Combined" cX11_among 2 24) (hret : (eT_ E).sig.returnType = (Option.some Jvm.ClassFile.FieldType.long)) (h0 : ∀ x ∈ (eC_ E).exceptionTable.toList, False) (hin : (eT_ E).name = "among") (N : Nat) : ∀ (m : Mm) (v0 : Option Nat) (v1 : Option Nat) (k n : Nat), Sm_ l g E 2 en_j (fX11_among_d4 (gE_ g) N m v0 v1) k n 0 [(0, vr_ v0), (1, vr_ v1)] [] m := by
  intro m v0 v1 k n
  unfold fX11_among_d4
  refine s_aload_n C rfl 0 rfl dX11_among_0 1 rfl ?_
  refine x_gi C 9 (RX11, TX11, 3) rfl 2 (Nat.le_of_ble_eq_true rfl) q2642 (Or.inl rfl) rfl 10 rfl dX11_among_1 4 rfl (fun x1 => ?_)
  refine s_if_eq C dX11_among_4 27 rfl 7 rfl (fun c_ => ?_) (fun c_ => ?_)
  · refine s_aload_n C rfl 0 rfl dX11_among_27 28 rfl ?_
    refine x_gr C 9 (RX11, TX11, 3) rfl 0 (Nat.le_of_ble_eq_true rfl) q2640 (Or.inl rfl) rfl 10 rfl dX11_among_28 31 rfl (fun x2 => ?_)
    refine s_aload_n C rfl 1 rfl dX11_among_31 32 rfl ?_
    refine x_wj [] 35 (fun kk_ => ?_) (fun x3 m1 k1 n1 => ?_)
    · refine x_csr (kd := 8) (fun hb_ hb0_ => ?_) ?_
      · exact x_callA (enc := en_j) (owner := "MasterTree$Filter") C 19 1 [vr_ v1] 8 (ctX9_among C.2.2.2.2.2.2.2.2.1 N m x2 v1) hb_ hb0_ rfl rfl q2772 q2688 q2701 q2702 q139 q2703 q2687 ⟨by decide +kernel, by decide +kernel, by decide +kernel⟩ (Nat.le_of_ble_eq_true rfl) (Nat.le_of_ble_eq_true rfl) rfl (Nat.le_of_ble_eq_true rfl) dX11_among_32 35 rfl rfl hen_j (kk_j kk_) (kx_n he_j)
      refine x_csr (kd := 9) (fun hb_ hb0_ => ?_) ?_
      · exact x_callA (enc := en_j) (owner := "MasterTree$Filter") C 13 1 [vr_ v1] 9 (ctX10_among C.2.2.2.2.2.2.2.2.1 N m x2 v1) hb_ hb0_ rfl rfl q2772 q2688 q2689 q2690 q140 q2691 q2687 ⟨by decide +kernel, by decide +kernel, by decide +kernel⟩ (Nat.le_of_ble_eq_true rfl) (Nat.le_of_ble_eq_true rfl) rfl (Nat.le_of_ble_eq_true rfl) dX11_among_32 35 rfl rfl hen_j (kk_j kk_) (kx_n he_j)
      refine x_csr (kd := 10) (fun hb_ hb0_ => ?_) ?_
      · exact x_callA (enc := en_j) (owner := "MasterTree$Filter") C 23 1 [vr_ v1] 10 (ctX11_among_d3 C.2.2.2.2.2.2.2.2.1 N m x2 v1) hb_ hb0_ rfl rfl q2772 q2688 q2769 q2770 q141 q2771 q2687 ⟨by decide +kernel, by decide +kernel, by decide +kernel⟩ (Nat.le_of_ble_eq_true rfl) (Nat.le_of_ble_eq_true rfl) rfl (Nat.le_of_ble_eq_true rfl) dX11_among_32 35 rfl rfl hen_j (kk_j kk_) (kx_n he_j)
      refine x_csr (kd := 11) (fun hb_ hb0_ => ?_) ?_
      · exact x_callA (enc := en_j) (owner := "MasterTree$Filter") C 23 1 [vr_ v1] 11 (ctX12_among_d3 C.2.2.2.2.2.2.2.2.1 N m x2 v1) hb_ hb0_ rfl rfl q2772 q2688 q2781 q2773 q142 q2774 q2687 ⟨by decide +kernel, by decide +kernel, by decide +kernel⟩ (Nat.le_of_ble_eq_true rfl) (Nat.le_of_ble_eq_true rfl) rfl (Nat.le_of_ble_eq_true rfl) dX11_among_32 35 rfl rfl hen_j (kk_j kk_) (kx_n he_j)
      exact Sm_bn
    refine s_aload_n C rfl 0 rfl dX11_among_35 36 rfl ?_
    refine x_gr C 9 (RX11, TX11, 3) rfl 1 (Nat.le_of_ble_eq_true rfl) q2641 (Or.inl rfl) rfl 10 rfl dX11_among_36 39 rfl (fun x8 => ?_)
    refine s_aload_n C rfl 1 rfl dX11_among_39 40 rfl ?_
    refine x_wj [vj_ x3] 43 (fun kk_ => ?_) (fun x9 m6 k1 n1 => ?_)
    · refine x_csr (kd := 8) (fun hb_ hb0_ => ?_) ?_
      · exact x_callA (enc := en_j) (owner := "MasterTree$Filter") C 19 1 [vr_ v1] 8 (ctX9_among C.2.2.2.2.2.2.2.2.1 N m1 x8 v1) hb_ hb0_ rfl rfl q2772 q2688 q2701 q2702 q139 q2703 q2687 ⟨by decide +kernel, by decide +kernel, by decide +kernel⟩ (Nat.le_of_ble_eq_true rfl) (Nat.le_of_ble_eq_true rfl) rfl (Nat.le_of_ble_eq_true rfl) dX11_among_40 43 rfl rfl hen_j (kk_j kk_) (kx_n he_j)
      refine x_csr (kd := 9) (fun hb_ hb0_ => ?_) ?_
      · exact x_callA (enc := en_j) (owner := "MasterTree$Filter") C 13 1 [vr_ v1] 9 (ctX10_among C.2.2.2.2.2.2.2.2.1 N m1 x8 v1) hb_ hb0_ rfl rfl q2772 q2688 q2689 q2690 q140 q2691 q2687 ⟨by decide +kernel, by decide +kernel, by decide +kernel⟩ (Nat.le_of_ble_eq_true rfl) (Nat.le_of_ble_eq_true rfl) rfl (Nat.le_of_ble_eq_true rfl) dX11_among_40 43 rfl rfl hen_j (kk_j kk_) (kx_n he_j)
      refine x_csr (kd := 10) (fun hb_ hb0_ => ?_) ?_
      · exact x_callA (enc := en_j) (owner := "MasterTree$Filter") C 23 1 [vr_ v1] 10 (ctX11_among_d3 C.2.2.2.2.2.2.2.2.1 N m1 x8 v1) hb_ hb0_ rfl rfl q2772 q2688 q2769 q2770 q141 q2771 q2687 ⟨by decide +kernel, by decide +kernel, by decide +kernel⟩ (Nat.le_of_ble_eq_true rfl) (Nat.le_of_ble_eq_true rfl) rfl (Nat.le_of_ble_eq_true rfl) dX11_among_40 43 rfl rfl hen_j (kk_j kk_) (kx_n he_j)
      refine x_csr (kd := 11) (fun hb_ hb0_ => ?_) ?_
      · exact x_callA (enc := en_j) (owner := "MasterTree$Filter") C 23 1 [vr_ v1] 11 (ctX12_among_d3 C.2.2.2.2.2.2.2.2.1 N m1 x8 v1) hb_ hb0_ rfl rfl q2772 q2688 q2781 q2773 q142 q2774 q2687 ⟨by decide +kernel, by decide +kernel, by decide +kernel⟩ (Nat.le_of_ble_eq_true rfl) (Nat.le_of_ble_eq_true rfl) rfl (Nat.le_of_ble_eq_true rfl) dX11_among_40 43 rfl rfl hen_j (kk_j kk_) (kx_n he_j)
      exact Sm_bn
    refine s_lor C dX11_among_43 44 rfl ?_
    refine Sm_sub [] rfl ?_
    exact wX11_among_d4_b44 C hret h0 hin N _ _ _ _
  · refine s_aload_n C rfl 0 rfl dX11_among_7 8 rfl ?_
    refine x_gr C 9 (RX11, TX11, 3) rfl 0 (Nat.le_of_ble_eq_true rfl) q2640 (Or.inl rfl) rfl 10 rfl dX11_among_8 11 rfl (fun x14 => ?_)
    refine s_aload_n C rfl 1 rfl dX11_among_11 12 rfl ?_
    refine x_wj [] 15 (fun kk_ => ?_) (fun x15 m11 k1 n1 => ?_)
    · refine x_csr (kd := 8) (fun hb_ hb0_ => ?_) ?_
      · exact x_callA (enc := en_j) (owner := "MasterTree$Filter") C 19 1 [vr_ v1] 8 (ctX9_among C.2.2.2.2.2.2.2.2.1 N m x14 v1) hb_ hb0_ rfl rfl q2772 q2688 q2701 q2702 q139 q2703 q2687 ⟨by decide +kernel, by decide +kernel, by decide +kernel⟩ (Nat.le_of_ble_eq_true rfl) (Nat.le_of_ble_eq_true rfl) rfl (Nat.le_of_ble_eq_true rfl) dX11_among_12 15 rfl rfl hen_j (kk_j kk_) (kx_n he_j)
      refine x_csr (kd := 9) (fun hb_ hb0_ => ?_) ?_
      · exact x_callA (enc := en_j) (owner := "MasterTree$Filter") C 13 1 [vr_ v1] 9 (ctX10_among C.2.2.2.2.2.2.2.2.1 N m x14 v1) hb_ hb0_ rfl rfl q2772 q2688 q2689 q2690 q140 q2691 q2687 ⟨by decide +kernel, by decide +kernel, by decide +kernel⟩ (Nat.le_of_ble_eq_true rfl) (Nat.le_of_ble_eq_true rfl) rfl (Nat.le_of_ble_eq_true rfl) dX11_among_12 15 rfl rfl hen_j (kk_j kk_) (kx_n he_j)
      refine x_csr (kd := 10) (fun hb_ hb0_ => ?_) ?_
      · exact x_callA (enc := en_j) (owner := "MasterTree$Filter") C 23 1 [vr_ v1] 10 (ctX11_among_d3 C.2.2.2.2.2.2.2.2.1 N m x14 v1) hb_ hb0_ rfl rfl q2772 q2688 q2769 q2770 q141 q2771 q2687 ⟨by decide +kernel, by decide +kernel, by decide +kernel⟩ (Nat.le_of_ble_eq_true rfl) (Nat.le_of_ble_eq_true rfl) rfl (Nat.le_of_ble_eq_true rfl) dX11_among_12 15 rfl rfl hen_j (kk_j kk_) (kx_n he_j)
      refine x_csr (kd := 11) (fun hb_ hb0_ => ?_) ?_
      · exact x_callA (enc := en_j) (owner := "MasterTree$Filter") C 23 1 [vr_ v1] 11 (ctX12_among_d3 C.2.2.2.2.2.2.2.2.1 N m x14 v1) hb_ hb0_ rfl rfl q2772 q2688 q2781 q2773 q142 q2774 q2687 ⟨by decide +kernel, by decide +kernel, by decide +kernel⟩ (Nat.le_of_ble_eq_true rfl) (Nat.le_of_ble_eq_true rfl) rfl (Nat.le_of_ble_eq_true rfl) dX11_among_12 15 rfl rfl hen_j (kk_j kk_) (kx_n he_j)
      exact Sm_bn
    refine s_aload_n C rfl 0 rfl dX11_among_15 16 rfl ?_
    refine x_gr C 9 (RX11, TX11, 3) rfl 1 (Nat.le_of_ble_eq_true rfl) q2641 (Or.inl rfl) rfl 10 rfl dX11_among_16 19 rfl (fun x20 => ?_)
    refine s_aload_n C rfl 1 rfl dX11_among_19 20 rfl ?_
    refine x_wj [vj_ x15] 23 (fun kk_ => ?_) (fun x21 m16 k1 n1 => ?_)
    · refine x_csr (kd := 8) (fun hb_ hb0_ => ?_) ?_
      · exact x_callA (enc := en_j) (owner := "MasterTree$Filter") C 19 1 [vr_ v1] 8 (ctX9_among C.2.2.2.2.2.2.2.2.1 N m11 x20 v1) hb_ hb0_ rfl rfl q2772 q2688 q2701 q2702 q139 q2703 q2687 ⟨by decide +kernel, by decide +kernel, by decide +kernel⟩ (Nat.le_of_ble_eq_true rfl) (Nat.le_of_ble_eq_true rfl) rfl (Nat.le_of_ble_eq_true rfl) dX11_among_20 23 rfl rfl hen_j (kk_j kk_) (kx_n he_j)
      refine x_csr (kd := 9) (fun hb_ hb0_ => ?_) ?_
      · exact x_callA (enc := en_j) (owner := "MasterTree$Filter") C 13 1 [vr_ v1] 9 (ctX10_among C.2.2.2.2.2.2.2.2.1 N m11 x20 v1) hb_ hb0_ rfl rfl q2772 q2688 q2689 q2690 q140 q2691 q2687 ⟨by decide +kernel, by decide +kernel, by decide +kernel⟩ (Nat.le_of_ble_eq_true rfl) (Nat.le_of_ble_eq_true rfl) rfl (Nat.le_of_ble_eq_true rfl) dX11_among_20 23 rfl rfl hen_j (kk_j kk_) (kx_n he_j)
      refine x_csr (kd := 10) (fun hb_ hb0_ => ?_) ?_
      · exact x_callA (enc := en_j) (owner := "MasterTree$Filter") C 23 1 [vr_ v1] 10 (ctX11_among_d3 C.2.2.2.2.2.2.2.2.1 N m11 x20 v1) hb_ hb0_ rfl rfl q2772 q2688 q2769 q2770 q141 q2771 q2687 ⟨by decide +kernel, by decide +kernel, by decide +kernel⟩ (Nat.le_of_ble_eq_true rfl) (Nat.le_of_ble_eq_true rfl) rfl (Nat.le_of_ble_eq_true rfl) dX11_among_20 23 rfl rfl hen_j (kk_j kk_) (kx_n he_j)
      refine x_csr (kd := 11) (fun hb_ hb0_ => ?_) ?_
      · exact x_callA (enc := en_j) (owner := "MasterTree$Filter") C 23 1 [vr_ v1] 11 (ctX12_among_d3 C.2.2.2.2.2.2.2.2.1 N m11 x20 v1) hb_ hb0_ rfl rfl q2772 q2688 q2781 q2773 q142 q2774 q2687 ⟨by decide +kernel, by decide +kernel, by decide +kernel⟩ (Nat.le_of_ble_eq_true rfl) (Nat.le_of_ble_eq_true rfl) rfl (Nat.le_of_ble_eq_true rfl) dX11_among_20 23 rfl rfl hen_j (kk_j kk_) (kx_n he_j)
      exact Sm_bn
    refine s_land C dX11_among_23 24 rfl ?_
    refine s_goto C (off := 20) 44 dX11_among_24 rfl ?_
    refine Sm_sub [] rfl ?_
    exact wX11_among_d4_b44 C hret h0 hin N _ _ _ _
theorem hdX11_among_d4 : ((⟨"MasterTree$Combined", "among", "(LMasterTree$Master;)J"⟩ : MethodName)).cls ≠ "java/lang/invoke/MethodHandle" ∧ ((⟨"MasterTree$Combined", "among", "(LMasterTree$Master;)J"⟩ : MethodName)).cls ≠ "java/lang/invoke/VarHandle" ∧ (parseMethodDescriptor ((⟨"MasterTree$Combined", "among", "(LMasterTree$Master;)J"⟩ : MethodName)).desc).map (fun d => d.parameters.length) = some 1 := ⟨by decide +kernel, by decide +kernel, by decide +kernel⟩
theorem ctX11_among_d4 {l : Launch} {g : GG} (hst : l.stackTraces = false) (N : Nat) (m : Mm) (v0 : Option Nat) (v1 : Option Nat) : ∀ v m' k n, fX11_among_d4 (gE_ g) N m v0 v1 = some (v, m', k, n) → Ct_ l g (⟨"MasterTree$Combined", "among", "(LMasterTree$Master;)J"⟩ : MethodName) (ws_ (⟨"MasterTree$Combined", "among", "(LMasterTree$Master;)J"⟩ : MethodName) cX11_among 2 (Option.some Jvm.ClassFile.FieldType.long)) 24 [vr_ v0, vr_ v1] m (en_j v) m' k n :=
  Ct_of (by decide +kernel) rfl hst (Nat.le_of_ble_eq_true rfl) rfl (fun E C hret h0 hin => wX11_among_d4 C hret h0 hin N m v0 v1 0 0)
theorem wX12_among_d4 {l : Launch} {g : GG} {E : Me_} (C : Cx_ l g E "MasterTree$Not" cX12_among 2 24) (hret : (eT_ E).sig.returnType = (Option.some Jvm.ClassFile.FieldType.long)) (h0 : ∀ x ∈ (eC_ E).exceptionTable.toList, False) (hin : (eT_ E).name = "among") (N : Nat) : ∀ (m : Mm) (v0 : Option Nat) (v1 : Option Nat) (k n : Nat), Sm_ l g E 2 en_j (fX12_among_d4 (gE_ g) N m v0 v1) k n 0 [(0, vr_ v0), (1, vr_ v1)] [] m := by
  intro m v0 v1 k n
  unfold fX12_among_d4
  refine s_aload_n C rfl 1 rfl dX12_among_0 1 rfl ?_
  refine x_ck (fun hb_ hb0_ => ?_)
  refine x_callV (enc := en_j) C 12 0 [] 2 (ctX2_liveOnes C.2.2.2.2.2.2.2.2.1 N m v1) hb_ hb0_ rfl rfl q2775 q2776 q2777 q85 q2778 hdX2_liveOnes (Nat.le_of_ble_eq_true rfl) (Nat.le_of_ble_eq_true rfl) rfl (Nat.le_of_ble_eq_true rfl) dX12_among_1 4 rfl rfl hen_j (kk_j (fun x1 m1 k1 n1 => ?_)) (kx_n he_j)
  refine s_aload_n C rfl 0 rfl dX12_among_4 5 rfl ?_
  refine x_gr C 10 (RX12, TX12, 1) rfl 0 (Nat.le_of_ble_eq_true rfl) q2666 (Or.inl rfl) rfl 11 rfl dX12_among_5 8 rfl (fun x2 => ?_)
  refine s_aload_n C rfl 1 rfl dX12_among_8 9 rfl ?_
  refine x_wj [vj_ x1] 12 (fun kk_ => ?_) (fun x3 m2 k1 n1 => ?_)
  · refine x_csr (kd := 8) (fun hb_ hb0_ => ?_) ?_
    · exact x_callA (enc := en_j) (owner := "MasterTree$Filter") C 19 1 [vr_ v1] 8 (ctX9_among C.2.2.2.2.2.2.2.2.1 N m1 x2 v1) hb_ hb0_ rfl rfl q2779 q2688 q2701 q2702 q139 q2703 q2687 ⟨by decide +kernel, by decide +kernel, by decide +kernel⟩ (Nat.le_of_ble_eq_true rfl) (Nat.le_of_ble_eq_true rfl) rfl (Nat.le_of_ble_eq_true rfl) dX12_among_9 12 rfl rfl hen_j (kk_j kk_) (kx_n he_j)
    refine x_csr (kd := 9) (fun hb_ hb0_ => ?_) ?_
    · exact x_callA (enc := en_j) (owner := "MasterTree$Filter") C 13 1 [vr_ v1] 9 (ctX10_among C.2.2.2.2.2.2.2.2.1 N m1 x2 v1) hb_ hb0_ rfl rfl q2779 q2688 q2689 q2690 q140 q2691 q2687 ⟨by decide +kernel, by decide +kernel, by decide +kernel⟩ (Nat.le_of_ble_eq_true rfl) (Nat.le_of_ble_eq_true rfl) rfl (Nat.le_of_ble_eq_true rfl) dX12_among_9 12 rfl rfl hen_j (kk_j kk_) (kx_n he_j)
    refine x_csr (kd := 10) (fun hb_ hb0_ => ?_) ?_
    · exact x_callA (enc := en_j) (owner := "MasterTree$Filter") C 23 1 [vr_ v1] 10 (ctX11_among_d3 C.2.2.2.2.2.2.2.2.1 N m1 x2 v1) hb_ hb0_ rfl rfl q2779 q2688 q2769 q2770 q141 q2771 q2687 ⟨by decide +kernel, by decide +kernel, by decide +kernel⟩ (Nat.le_of_ble_eq_true rfl) (Nat.le_of_ble_eq_true rfl) rfl (Nat.le_of_ble_eq_true rfl) dX12_among_9 12 rfl rfl hen_j (kk_j kk_) (kx_n he_j)
    refine x_csr (kd := 11) (fun hb_ hb0_ => ?_) ?_
    · exact x_callA (enc := en_j) (owner := "MasterTree$Filter") C 23 1 [vr_ v1] 11 (ctX12_among_d3 C.2.2.2.2.2.2.2.2.1 N m1 x2 v1) hb_ hb0_ rfl rfl q2779 q2688 q2781 q2773 q142 q2774 q2687 ⟨by decide +kernel, by decide +kernel, by decide +kernel⟩ (Nat.le_of_ble_eq_true rfl) (Nat.le_of_ble_eq_true rfl) rfl (Nat.le_of_ble_eq_true rfl) dX12_among_9 12 rfl rfl hen_j (kk_j kk_) (kx_n he_j)
    exact Sm_bn
  refine s_ldc2 C (-1) q2780 dX12_among_12 15 rfl ?_
  refine s_lxor C dX12_among_15 16 rfl ?_
  refine s_land C dX12_among_16 17 rfl ?_
  exact x_lret C hret rfl dX12_among_17
theorem hdX12_among_d4 : ((⟨"MasterTree$Not", "among", "(LMasterTree$Master;)J"⟩ : MethodName)).cls ≠ "java/lang/invoke/MethodHandle" ∧ ((⟨"MasterTree$Not", "among", "(LMasterTree$Master;)J"⟩ : MethodName)).cls ≠ "java/lang/invoke/VarHandle" ∧ (parseMethodDescriptor ((⟨"MasterTree$Not", "among", "(LMasterTree$Master;)J"⟩ : MethodName)).desc).map (fun d => d.parameters.length) = some 1 := ⟨by decide +kernel, by decide +kernel, by decide +kernel⟩
theorem ctX12_among_d4 {l : Launch} {g : GG} (hst : l.stackTraces = false) (N : Nat) (m : Mm) (v0 : Option Nat) (v1 : Option Nat) : ∀ v m' k n, fX12_among_d4 (gE_ g) N m v0 v1 = some (v, m', k, n) → Ct_ l g (⟨"MasterTree$Not", "among", "(LMasterTree$Master;)J"⟩ : MethodName) (ws_ (⟨"MasterTree$Not", "among", "(LMasterTree$Master;)J"⟩ : MethodName) cX12_among 2 (Option.some Jvm.ClassFile.FieldType.long)) 24 [vr_ v0, vr_ v1] m (en_j v) m' k n :=
  Ct_of (by decide +kernel) rfl hst (Nat.le_of_ble_eq_true rfl) rfl (fun E C hret h0 hin => wX12_among_d4 C hret h0 hin N m v0 v1 0 0)
