set_option maxRecDepth 100000
abbrev cJ2_init : ByteArray := prog_59_method_2_code
def yJ2_init : MethodName := ⟨RJ2, "<init>", "()V"⟩
def dkwJ2_init_0 : List UInt8 := [42, 183, 0, 1, 42, 178, 0, 39, 181, 0, 9, 177]
abbrev dktJ2_init_0 : List UInt8 := dkwJ2_init_0 ++ []
theorem dksJ2_init_0 : cJ2_init.data.toList.drop 0 = dktJ2_init_0 := by decide +kernel
theorem dJ2_init_0 : decode cJ2_init 0 = .ok (.aload_n 0, 1) := dk_42 (dk_at dksJ2_init_0 0 rfl rfl)
theorem dJ2_init_1 : decode cJ2_init 1 = .ok (.invokespecial 1, 3) := dk_183 0 1 (dk_at dksJ2_init_0 1 rfl rfl)
theorem dJ2_init_4 : decode cJ2_init 4 = .ok (.aload_n 0, 1) := dk_42 (dk_at dksJ2_init_0 4 rfl rfl)
theorem dJ2_init_5 : decode cJ2_init 5 = .ok (.getstatic 39, 3) := dk_178 0 39 (dk_at dksJ2_init_0 5 rfl rfl)
theorem dJ2_init_8 : decode cJ2_init 8 = .ok (.putfield 9, 3) := dk_181 0 9 (dk_at dksJ2_init_0 8 rfl rfl)
theorem dJ2_init_11 : decode cJ2_init 11 = .ok (.return_, 1) := dk_177 (dk_at dksJ2_init_0 11 rfl rfl)
def fJ2_init (e : Nat → Nat) (N : Nat) (m : Mm) (v0 : Option Nat) : Rs (Unit) := ok_ v0 (bd_ (fJ1_init_t13 e N m v0) (fun _ m1 => pr_ m1 v0 13 1 (some (e 0)) (fun m2 => rt_ () m2)))
def fJ3_init_t15 (e : Nat → Nat) (N : Nat) (m : Mm) (v0 : Option Nat) : Rs (Unit) := ok_ v0 (rt_ () m)
abbrev cJ4_init : ByteArray := prog_79_method_1_code
def yJ4_init : MethodName := ⟨RJ4, "<init>", "()V"⟩
def dkwJ4_init_0 : List UInt8 := [42, 183, 0, 1, 42, 3, 181, 0, 7, 42, 3, 181, 0, 13, 42, 1, 181, 0, 16, 177]
abbrev dktJ4_init_0 : List UInt8 := dkwJ4_init_0 ++ []
theorem dksJ4_init_0 : cJ4_init.data.toList.drop 0 = dktJ4_init_0 := by decide +kernel
theorem dJ4_init_0 : decode cJ4_init 0 = .ok (.aload_n 0, 1) := dk_42 (dk_at dksJ4_init_0 0 rfl rfl)
theorem dJ4_init_1 : decode cJ4_init 1 = .ok (.invokespecial 1, 3) := dk_183 0 1 (dk_at dksJ4_init_0 1 rfl rfl)
theorem dJ4_init_4 : decode cJ4_init 4 = .ok (.aload_n 0, 1) := dk_42 (dk_at dksJ4_init_0 4 rfl rfl)
theorem dJ4_init_5 : decode cJ4_init 5 = .ok (.iconst 0, 1) := dk_3 (dk_at dksJ4_init_0 5 rfl rfl)
theorem dJ4_init_6 : decode cJ4_init 6 = .ok (.putfield 7, 3) := dk_181 0 7 (dk_at dksJ4_init_0 6 rfl rfl)
theorem dJ4_init_9 : decode cJ4_init 9 = .ok (.aload_n 0, 1) := dk_42 (dk_at dksJ4_init_0 9 rfl rfl)
theorem dJ4_init_10 : decode cJ4_init 10 = .ok (.iconst 0, 1) := dk_3 (dk_at dksJ4_init_0 10 rfl rfl)
theorem dJ4_init_11 : decode cJ4_init 11 = .ok (.putfield 13, 3) := dk_181 0 13 (dk_at dksJ4_init_0 11 rfl rfl)
theorem dJ4_init_14 : decode cJ4_init 14 = .ok (.aload_n 0, 1) := dk_42 (dk_at dksJ4_init_0 14 rfl rfl)
theorem dJ4_init_15 : decode cJ4_init 15 = .ok (.aconst_null, 1) := dk_1 (dk_at dksJ4_init_0 15 rfl rfl)
theorem dJ4_init_16 : decode cJ4_init 16 = .ok (.putfield 16, 3) := dk_181 0 16 (dk_at dksJ4_init_0 16 rfl rfl)
theorem dJ4_init_19 : decode cJ4_init 19 = .ok (.return_, 1) := dk_177 (dk_at dksJ4_init_0 19 rfl rfl)
def fJ4_init (e : Nat → Nat) (N : Nat) (m : Mm) (v0 : Option Nat) : Rs (Unit) := ok_ v0 (bd_ (fJ3_init_t15 e N m v0) (fun _ m1 => pi_ m1 v0 15 4 0 (fun m2 => pi_ m2 v0 15 5 0 (fun m3 => pr_ m3 v0 15 2 none (fun m4 => rt_ () m4)))))
abbrev cX3_init : ByteArray := prog_7_method_1_code
def yX3_init : MethodName := ⟨RX3, "<init>", "(ILjava/util/List;)V"⟩
def dkwX3_init_2 : List UInt8 := [44, 181, 0, 35, 177]
abbrev dktX3_init_2 : List UInt8 := dkwX3_init_2 ++ []
def dkwX3_init_1 : List UInt8 := [89, 183, 0, 24, 181, 0, 25, 42, 187, 0, 22, 89, 183, 0, 24, 181, 0, 29, 42, 27, 181, 0, 32, 42]
abbrev dktX3_init_1 : List UInt8 := dkwX3_init_1 ++ dktX3_init_2
def dkwX3_init_0 : List UInt8 := [42, 183, 0, 3, 42, 187, 0, 9, 89, 183, 0, 11, 181, 0, 12, 42, 2, 181, 0, 18, 42, 187, 0, 22]
abbrev dktX3_init_0 : List UInt8 := dkwX3_init_0 ++ dktX3_init_1
theorem dksX3_init_0 : cX3_init.data.toList.drop 0 = dktX3_init_0 := by decide +kernel
theorem dksX3_init_1 : cX3_init.data.toList.drop 24 = dktX3_init_1 := dk_seg dksX3_init_0 24 rfl rfl
theorem dksX3_init_2 : cX3_init.data.toList.drop 48 = dktX3_init_2 := dk_seg dksX3_init_1 24 rfl rfl
theorem dX3_init_0 : decode cX3_init 0 = .ok (.aload_n 0, 1) := dk_42 (dk_at dksX3_init_0 0 rfl rfl)
theorem dX3_init_1 : decode cX3_init 1 = .ok (.invokespecial 3, 3) := dk_183 0 3 (dk_at dksX3_init_0 1 rfl rfl)
theorem dX3_init_4 : decode cX3_init 4 = .ok (.aload_n 0, 1) := dk_42 (dk_at dksX3_init_0 4 rfl rfl)
theorem dX3_init_5 : decode cX3_init 5 = .ok (.new 9, 3) := dk_187 0 9 (dk_at dksX3_init_0 5 rfl rfl)
theorem dX3_init_8 : decode cX3_init 8 = .ok (.dup, 1) := dk_89 (dk_at dksX3_init_0 8 rfl rfl)
theorem dX3_init_9 : decode cX3_init 9 = .ok (.invokespecial 11, 3) := dk_183 0 11 (dk_at dksX3_init_0 9 rfl rfl)
theorem dX3_init_12 : decode cX3_init 12 = .ok (.putfield 12, 3) := dk_181 0 12 (dk_at dksX3_init_0 12 rfl rfl)
theorem dX3_init_15 : decode cX3_init 15 = .ok (.aload_n 0, 1) := dk_42 (dk_at dksX3_init_0 15 rfl rfl)
theorem dX3_init_16 : decode cX3_init 16 = .ok (.iconst (-1), 1) := dk_2 (dk_at dksX3_init_0 16 rfl rfl)
theorem dX3_init_17 : decode cX3_init 17 = .ok (.putfield 18, 3) := dk_181 0 18 (dk_at dksX3_init_0 17 rfl rfl)
theorem dX3_init_20 : decode cX3_init 20 = .ok (.aload_n 0, 1) := dk_42 (dk_at dksX3_init_0 20 rfl rfl)
theorem dX3_init_21 : decode cX3_init 21 = .ok (.new 22, 3) := dk_187 0 22 (dk_at dksX3_init_0 21 rfl rfl)
theorem dX3_init_24 : decode cX3_init 24 = .ok (.dup, 1) := dk_89 (dk_at dksX3_init_1 0 rfl rfl)
theorem dX3_init_25 : decode cX3_init 25 = .ok (.invokespecial 24, 3) := dk_183 0 24 (dk_at dksX3_init_1 1 rfl rfl)
theorem dX3_init_28 : decode cX3_init 28 = .ok (.putfield 25, 3) := dk_181 0 25 (dk_at dksX3_init_1 4 rfl rfl)
theorem dX3_init_31 : decode cX3_init 31 = .ok (.aload_n 0, 1) := dk_42 (dk_at dksX3_init_1 7 rfl rfl)
theorem dX3_init_32 : decode cX3_init 32 = .ok (.new 22, 3) := dk_187 0 22 (dk_at dksX3_init_1 8 rfl rfl)
theorem dX3_init_35 : decode cX3_init 35 = .ok (.dup, 1) := dk_89 (dk_at dksX3_init_1 11 rfl rfl)
theorem dX3_init_36 : decode cX3_init 36 = .ok (.invokespecial 24, 3) := dk_183 0 24 (dk_at dksX3_init_1 12 rfl rfl)
theorem dX3_init_39 : decode cX3_init 39 = .ok (.putfield 29, 3) := dk_181 0 29 (dk_at dksX3_init_1 15 rfl rfl)
theorem dX3_init_42 : decode cX3_init 42 = .ok (.aload_n 0, 1) := dk_42 (dk_at dksX3_init_1 18 rfl rfl)
theorem dX3_init_43 : decode cX3_init 43 = .ok (.iload_n 1, 1) := dk_27 (dk_at dksX3_init_1 19 rfl rfl)
theorem dX3_init_44 : decode cX3_init 44 = .ok (.putfield 32, 3) := dk_181 0 32 (dk_at dksX3_init_1 20 rfl rfl)
theorem dX3_init_47 : decode cX3_init 47 = .ok (.aload_n 0, 1) := dk_42 (dk_at dksX3_init_1 23 rfl rfl)
theorem dX3_init_48 : decode cX3_init 48 = .ok (.aload_n 2, 1) := dk_44 (dk_at dksX3_init_2 0 rfl rfl)
theorem dX3_init_49 : decode cX3_init 49 = .ok (.putfield 35, 3) := dk_181 0 35 (dk_at dksX3_init_2 1 rfl rfl)
theorem dX3_init_52 : decode cX3_init 52 = .ok (.return_, 1) := dk_177 (dk_at dksX3_init_2 4 rfl rfl)
def fX3_init (e : Nat → Nat) (N : Nat) (m : Mm) (v0 : Option Nat) (v1 : Int32) (v2 : Option Nat) : Rs (Unit) := ok_ v0 (nw_ m 13 3 (fun x1 m1 => bd_ (fJ2_init e N m1 (some x1)) (fun _ m2 => pr_ m2 v0 3 2 (some x1) (fun m3 => pi_ m3 v0 3 6 (-1) (fun m4 => nw_ m4 15 9 (fun x2 m5 => bd_ (fJ4_init e N m5 (some x2)) (fun _ m6 => pr_ m6 v0 3 7 (some x2) (fun m7 => nw_ m7 15 9 (fun x3 m8 => bd_ (fJ4_init e N m8 (some x3)) (fun _ m9 => pr_ m9 v0 3 8 (some x3) (fun m10 => pi_ m10 v0 3 0 v1 (fun m11 => pr_ m11 v0 3 1 v2 (fun m12 => rt_ () m12)))))))))))))
abbrev cX2_takes : ByteArray := prog_21_method_5_code
def yX2_takes : MethodName := ⟨RX2, "takes", "(LMasterTree$Change;)V"⟩
def dkwX2_takes_6 : List UInt8 := [177]
abbrev dktX2_takes_6 : List UInt8 := dkwX2_takes_6 ++ []
def dkwX2_takes_5 : List UInt8 := [165, 0, 13, 43, 180, 0, 155, 178, 0, 164, 166, 0, 14, 42, 180, 0, 12, 42, 180, 0, 24, 184, 0, 167]
abbrev dktX2_takes_5 : List UInt8 := dkwX2_takes_5 ++ dktX2_takes_6
def dkwX2_takes_4 : List UInt8 := [44, 180, 0, 149, 182, 0, 125, 44, 182, 0, 152, 42, 44, 4, 182, 0, 145, 43, 180, 0, 155, 178, 0, 159]
abbrev dktX2_takes_4 : List UInt8 := dkwX2_takes_4 ++ dktX2_takes_5
def dkwX2_takes_3 : List UInt8 := [180, 0, 48, 183, 0, 54, 83, 42, 180, 0, 20, 43, 180, 0, 142, 50, 77, 42, 44, 3, 182, 0, 145, 43]
abbrev dktX2_takes_3 : List UInt8 := dkwX2_takes_3 ++ dktX2_takes_4
def dkwX2_takes_2 : List UInt8 := [180, 0, 142, 50, 199, 0, 27, 42, 180, 0, 20, 43, 180, 0, 142, 187, 0, 18, 89, 43, 180, 0, 142, 42]
abbrev dktX2_takes_2 : List UInt8 := dkwX2_takes_2 ++ dktX2_takes_3
def dkwX2_takes_1 : List UInt8 := [96, 79, 42, 42, 180, 0, 132, 43, 180, 0, 135, 184, 0, 136, 181, 0, 132, 42, 180, 0, 20, 43]
abbrev dktX2_takes_1 : List UInt8 := dkwX2_takes_1 ++ dktX2_takes_2
def dkwX2_takes_0 : List UInt8 := [43, 42, 180, 0, 12, 182, 0, 125, 42, 180, 0, 30, 42, 180, 0, 44, 50, 43, 180, 0, 129, 92, 46, 4]
abbrev dktX2_takes_0 : List UInt8 := dkwX2_takes_0 ++ dktX2_takes_1
theorem dksX2_takes_0 : cX2_takes.data.toList.drop 0 = dktX2_takes_0 := by decide +kernel
theorem dksX2_takes_1 : cX2_takes.data.toList.drop 24 = dktX2_takes_1 := dk_seg dksX2_takes_0 24 rfl rfl
theorem dksX2_takes_2 : cX2_takes.data.toList.drop 46 = dktX2_takes_2 := dk_seg dksX2_takes_1 22 rfl rfl
theorem dksX2_takes_3 : cX2_takes.data.toList.drop 70 = dktX2_takes_3 := dk_seg dksX2_takes_2 24 rfl rfl
theorem dksX2_takes_4 : cX2_takes.data.toList.drop 94 = dktX2_takes_4 := dk_seg dksX2_takes_3 24 rfl rfl
theorem dksX2_takes_5 : cX2_takes.data.toList.drop 118 = dktX2_takes_5 := dk_seg dksX2_takes_4 24 rfl rfl
theorem dksX2_takes_6 : cX2_takes.data.toList.drop 142 = dktX2_takes_6 := dk_seg dksX2_takes_5 24 rfl rfl
theorem dX2_takes_0 : decode cX2_takes 0 = .ok (.aload_n 1, 1) := dk_43 (dk_at dksX2_takes_0 0 rfl rfl)
theorem dX2_takes_1 : decode cX2_takes 1 = .ok (.aload_n 0, 1) := dk_42 (dk_at dksX2_takes_0 1 rfl rfl)
theorem dX2_takes_2 : decode cX2_takes 2 = .ok (.getfield 12, 3) := dk_180 0 12 (dk_at dksX2_takes_0 2 rfl rfl)
theorem dX2_takes_5 : decode cX2_takes 5 = .ok (.invokevirtual 125, 3) := dk_182 0 125 (dk_at dksX2_takes_0 5 rfl rfl)
theorem dX2_takes_8 : decode cX2_takes 8 = .ok (.aload_n 0, 1) := dk_42 (dk_at dksX2_takes_0 8 rfl rfl)
theorem dX2_takes_9 : decode cX2_takes 9 = .ok (.getfield 30, 3) := dk_180 0 30 (dk_at dksX2_takes_0 9 rfl rfl)
theorem dX2_takes_12 : decode cX2_takes 12 = .ok (.aload_n 0, 1) := dk_42 (dk_at dksX2_takes_0 12 rfl rfl)
theorem dX2_takes_13 : decode cX2_takes 13 = .ok (.getfield 44, 3) := dk_180 0 44 (dk_at dksX2_takes_0 13 rfl rfl)
theorem dX2_takes_16 : decode cX2_takes 16 = .ok (.aaload, 1) := dk_50 (dk_at dksX2_takes_0 16 rfl rfl)
theorem dX2_takes_17 : decode cX2_takes 17 = .ok (.aload_n 1, 1) := dk_43 (dk_at dksX2_takes_0 17 rfl rfl)
theorem dX2_takes_18 : decode cX2_takes 18 = .ok (.getfield 129, 3) := dk_180 0 129 (dk_at dksX2_takes_0 18 rfl rfl)
theorem dX2_takes_21 : decode cX2_takes 21 = .ok (.dup2, 1) := dk_92 (dk_at dksX2_takes_0 21 rfl rfl)
theorem dX2_takes_22 : decode cX2_takes 22 = .ok (.iaload, 1) := dk_46 (dk_at dksX2_takes_0 22 rfl rfl)
theorem dX2_takes_23 : decode cX2_takes 23 = .ok (.iconst 1, 1) := dk_4 (dk_at dksX2_takes_0 23 rfl rfl)
theorem dX2_takes_24 : decode cX2_takes 24 = .ok (.iadd, 1) := dk_96 (dk_at dksX2_takes_1 0 rfl rfl)
theorem dX2_takes_25 : decode cX2_takes 25 = .ok (.iastore, 1) := dk_79 (dk_at dksX2_takes_1 1 rfl rfl)
theorem dX2_takes_26 : decode cX2_takes 26 = .ok (.aload_n 0, 1) := dk_42 (dk_at dksX2_takes_1 2 rfl rfl)
theorem dX2_takes_27 : decode cX2_takes 27 = .ok (.aload_n 0, 1) := dk_42 (dk_at dksX2_takes_1 3 rfl rfl)
theorem dX2_takes_28 : decode cX2_takes 28 = .ok (.getfield 132, 3) := dk_180 0 132 (dk_at dksX2_takes_1 4 rfl rfl)
theorem dX2_takes_31 : decode cX2_takes 31 = .ok (.aload_n 1, 1) := dk_43 (dk_at dksX2_takes_1 7 rfl rfl)
theorem dX2_takes_32 : decode cX2_takes 32 = .ok (.getfield 135, 3) := dk_180 0 135 (dk_at dksX2_takes_1 8 rfl rfl)
theorem dX2_takes_35 : decode cX2_takes 35 = .ok (.invokestatic 136, 3) := dk_184 0 136 (dk_at dksX2_takes_1 11 rfl rfl)
theorem dX2_takes_38 : decode cX2_takes 38 = .ok (.putfield 132, 3) := dk_181 0 132 (dk_at dksX2_takes_1 14 rfl rfl)
theorem dX2_takes_41 : decode cX2_takes 41 = .ok (.aload_n 0, 1) := dk_42 (dk_at dksX2_takes_1 17 rfl rfl)
theorem dX2_takes_42 : decode cX2_takes 42 = .ok (.getfield 20, 3) := dk_180 0 20 (dk_at dksX2_takes_1 18 rfl rfl)
theorem dX2_takes_45 : decode cX2_takes 45 = .ok (.aload_n 1, 1) := dk_43 (dk_at dksX2_takes_1 21 rfl rfl)
theorem dX2_takes_46 : decode cX2_takes 46 = .ok (.getfield 142, 3) := dk_180 0 142 (dk_at dksX2_takes_2 0 rfl rfl)
theorem dX2_takes_49 : decode cX2_takes 49 = .ok (.aaload, 1) := dk_50 (dk_at dksX2_takes_2 3 rfl rfl)
theorem dX2_takes_50 : decode cX2_takes 50 = .ok (.ifnonnull 27, 3) := dk_199 0 27 (dk_at dksX2_takes_2 4 rfl rfl)
theorem dX2_takes_53 : decode cX2_takes 53 = .ok (.aload_n 0, 1) := dk_42 (dk_at dksX2_takes_2 7 rfl rfl)
theorem dX2_takes_54 : decode cX2_takes 54 = .ok (.getfield 20, 3) := dk_180 0 20 (dk_at dksX2_takes_2 8 rfl rfl)
theorem dX2_takes_57 : decode cX2_takes 57 = .ok (.aload_n 1, 1) := dk_43 (dk_at dksX2_takes_2 11 rfl rfl)
theorem dX2_takes_58 : decode cX2_takes 58 = .ok (.getfield 142, 3) := dk_180 0 142 (dk_at dksX2_takes_2 12 rfl rfl)
theorem dX2_takes_61 : decode cX2_takes 61 = .ok (.new 18, 3) := dk_187 0 18 (dk_at dksX2_takes_2 15 rfl rfl)
theorem dX2_takes_64 : decode cX2_takes 64 = .ok (.dup, 1) := dk_89 (dk_at dksX2_takes_2 18 rfl rfl)
theorem dX2_takes_65 : decode cX2_takes 65 = .ok (.aload_n 1, 1) := dk_43 (dk_at dksX2_takes_2 19 rfl rfl)
theorem dX2_takes_66 : decode cX2_takes 66 = .ok (.getfield 142, 3) := dk_180 0 142 (dk_at dksX2_takes_2 20 rfl rfl)
theorem dX2_takes_69 : decode cX2_takes 69 = .ok (.aload_n 0, 1) := dk_42 (dk_at dksX2_takes_2 23 rfl rfl)
theorem dX2_takes_70 : decode cX2_takes 70 = .ok (.getfield 48, 3) := dk_180 0 48 (dk_at dksX2_takes_3 0 rfl rfl)
theorem dX2_takes_73 : decode cX2_takes 73 = .ok (.invokespecial 54, 3) := dk_183 0 54 (dk_at dksX2_takes_3 3 rfl rfl)
theorem dX2_takes_76 : decode cX2_takes 76 = .ok (.aastore, 1) := dk_83 (dk_at dksX2_takes_3 6 rfl rfl)
theorem dX2_takes_77 : decode cX2_takes 77 = .ok (.aload_n 0, 1) := dk_42 (dk_at dksX2_takes_3 7 rfl rfl)
theorem dX2_takes_78 : decode cX2_takes 78 = .ok (.getfield 20, 3) := dk_180 0 20 (dk_at dksX2_takes_3 8 rfl rfl)
theorem dX2_takes_81 : decode cX2_takes 81 = .ok (.aload_n 1, 1) := dk_43 (dk_at dksX2_takes_3 11 rfl rfl)
theorem dX2_takes_82 : decode cX2_takes 82 = .ok (.getfield 142, 3) := dk_180 0 142 (dk_at dksX2_takes_3 12 rfl rfl)
theorem dX2_takes_85 : decode cX2_takes 85 = .ok (.aaload, 1) := dk_50 (dk_at dksX2_takes_3 15 rfl rfl)
theorem dX2_takes_86 : decode cX2_takes 86 = .ok (.astore_n 2, 1) := dk_77 (dk_at dksX2_takes_3 16 rfl rfl)
theorem dX2_takes_87 : decode cX2_takes 87 = .ok (.aload_n 0, 1) := dk_42 (dk_at dksX2_takes_3 17 rfl rfl)
theorem dX2_takes_88 : decode cX2_takes 88 = .ok (.aload_n 2, 1) := dk_44 (dk_at dksX2_takes_3 18 rfl rfl)
theorem dX2_takes_89 : decode cX2_takes 89 = .ok (.iconst 0, 1) := dk_3 (dk_at dksX2_takes_3 19 rfl rfl)
theorem dX2_takes_90 : decode cX2_takes 90 = .ok (.invokevirtual 145, 3) := dk_182 0 145 (dk_at dksX2_takes_3 20 rfl rfl)
theorem dX2_takes_93 : decode cX2_takes 93 = .ok (.aload_n 1, 1) := dk_43 (dk_at dksX2_takes_3 23 rfl rfl)
theorem dX2_takes_94 : decode cX2_takes 94 = .ok (.aload_n 2, 1) := dk_44 (dk_at dksX2_takes_4 0 rfl rfl)
theorem dX2_takes_95 : decode cX2_takes 95 = .ok (.getfield 149, 3) := dk_180 0 149 (dk_at dksX2_takes_4 1 rfl rfl)
theorem dX2_takes_98 : decode cX2_takes 98 = .ok (.invokevirtual 125, 3) := dk_182 0 125 (dk_at dksX2_takes_4 4 rfl rfl)
theorem dX2_takes_101 : decode cX2_takes 101 = .ok (.aload_n 2, 1) := dk_44 (dk_at dksX2_takes_4 7 rfl rfl)
theorem dX2_takes_102 : decode cX2_takes 102 = .ok (.invokevirtual 152, 3) := dk_182 0 152 (dk_at dksX2_takes_4 8 rfl rfl)
theorem dX2_takes_105 : decode cX2_takes 105 = .ok (.aload_n 0, 1) := dk_42 (dk_at dksX2_takes_4 11 rfl rfl)
theorem dX2_takes_106 : decode cX2_takes 106 = .ok (.aload_n 2, 1) := dk_44 (dk_at dksX2_takes_4 12 rfl rfl)
theorem dX2_takes_107 : decode cX2_takes 107 = .ok (.iconst 1, 1) := dk_4 (dk_at dksX2_takes_4 13 rfl rfl)
theorem dX2_takes_108 : decode cX2_takes 108 = .ok (.invokevirtual 145, 3) := dk_182 0 145 (dk_at dksX2_takes_4 14 rfl rfl)
theorem dX2_takes_111 : decode cX2_takes 111 = .ok (.aload_n 1, 1) := dk_43 (dk_at dksX2_takes_4 17 rfl rfl)
theorem dX2_takes_112 : decode cX2_takes 112 = .ok (.getfield 155, 3) := dk_180 0 155 (dk_at dksX2_takes_4 18 rfl rfl)
theorem dX2_takes_115 : decode cX2_takes 115 = .ok (.getstatic 159, 3) := dk_178 0 159 (dk_at dksX2_takes_4 21 rfl rfl)
theorem dX2_takes_118 : decode cX2_takes 118 = .ok (.if_acmp .eq 13, 3) := dk_165 0 13 (dk_at dksX2_takes_5 0 rfl rfl)
theorem dX2_takes_121 : decode cX2_takes 121 = .ok (.aload_n 1, 1) := dk_43 (dk_at dksX2_takes_5 3 rfl rfl)
theorem dX2_takes_122 : decode cX2_takes 122 = .ok (.getfield 155, 3) := dk_180 0 155 (dk_at dksX2_takes_5 4 rfl rfl)
theorem dX2_takes_125 : decode cX2_takes 125 = .ok (.getstatic 164, 3) := dk_178 0 164 (dk_at dksX2_takes_5 7 rfl rfl)
theorem dX2_takes_128 : decode cX2_takes 128 = .ok (.if_acmp .ne 14, 3) := dk_166 0 14 (dk_at dksX2_takes_5 10 rfl rfl)
theorem dX2_takes_131 : decode cX2_takes 131 = .ok (.aload_n 0, 1) := dk_42 (dk_at dksX2_takes_5 13 rfl rfl)
theorem dX2_takes_132 : decode cX2_takes 132 = .ok (.getfield 12, 3) := dk_180 0 12 (dk_at dksX2_takes_5 14 rfl rfl)
theorem dX2_takes_135 : decode cX2_takes 135 = .ok (.aload_n 0, 1) := dk_42 (dk_at dksX2_takes_5 17 rfl rfl)
theorem dX2_takes_136 : decode cX2_takes 136 = .ok (.getfield 24, 3) := dk_180 0 24 (dk_at dksX2_takes_5 18 rfl rfl)
theorem dX2_takes_139 : decode cX2_takes 139 = .ok (.invokestatic 167, 3) := dk_184 0 167 (dk_at dksX2_takes_5 21 rfl rfl)
theorem dX2_takes_142 : decode cX2_takes 142 = .ok (.return_, 1) := dk_177 (dk_at dksX2_takes_6 0 rfl rfl)
def fX2_takes_b142 (e : Nat → Nat) (N : Nat) (m : Mm) : Rs (Unit) := rt_ () m
def fX2_takes_b131 (e : Nat → Nat) (N : Nat) (m : Mm) (v0 : Option Nat) : Rs (Unit) := gr_ m v0 2 5 (fun x1 => gr_ m v0 2 7 (fun x2 => bd_ (fX1_findsParents e N m x1 x2) (fun _ m1 => fX2_takes_b142 e N m1)))
def fX2_takes_b77 (e : Nat → Nat) (N : Nat) (m : Mm) (v0 : Option Nat) (v1 : Option Nat) : Rs (Unit) := gr_ m v0 2 6 (fun x1 => gi_ m v1 7 4 (fun x2 => ar_ m x1 205 x2 (fun x3 => ck_ m v0 2 (bd_ (fX2_indexes e N m v0 x3 0) (fun _ m1 => gr_ m1 x3 3 2 (fun x4 => ck_ m1 v1 7 (bd_ (fX7_comesInto e N m1 v1 x4) (fun _ m2 => ck_ m2 x3 3 (bd_ (fX3_does e N m2 x3) (fun _ m3 => ck_ m3 v0 2 (bd_ (fX2_indexes e N m3 v0 x3 1) (fun _ m4 => gr_ m4 v1 7 3 (fun x5 => if x5 = (some (e 6)) then (fX2_takes_b131 e N m4 v0) else (gr_ m4 v1 7 3 (fun x6 => if x6 = (some (e 13)) then (fX2_takes_b131 e N m4 v0) else (fX2_takes_b142 e N m4))))))))))))))))
def fX2_takes (e : Nat → Nat) (N : Nat) (m : Mm) (v0 : Option Nat) (v1 : Option Nat) : Rs (Unit) := gr_ m v0 2 5 (fun x1 => ck_ m v1 7 (bd_ (fX7_comesInto e N m v1 x1) (fun _ m1 => gr_ m1 v0 2 8 (fun x2 => gi_ m1 v0 2 0 (fun x3 => ar_ m1 x2 206 x3 (fun x4 => gi_ m1 v1 7 1 (fun x5 => ai_ m1 x4 200 x5 (fun x6 => bi_ m1 x4 200 x5 (x6 + 1) (fun m2 => gi_ m2 v0 2 4 (fun x7 => gi_ m2 v1 7 0 (fun x8 => pi_ m2 v0 2 4 (if (x7 : Int32) < x8 then x8 else x7) (fun m3 => gr_ m3 v0 2 6 (fun x9 => gi_ m3 v1 7 4 (fun x10 => ar_ m3 x9 205 x10 (fun x11 => if x11 = none then (gr_ m3 v0 2 6 (fun x12 => gi_ m3 v1 7 4 (fun x13 => nw_ m3 3 9 (fun x14 m4 => gi_ m4 v1 7 4 (fun x15 => gr_ m4 v0 2 1 (fun x16 => bd_ (fX3_init e N m4 (some x14) x15 x16) (fun _ m5 => bk_ m5 (some x14) [3] (br_ m5 x12 205 x13 (some x14) (fun m6 => fX2_takes_b77 e N m6 v0 v1))))))))) else (fX2_takes_b77 e N m3 v0 v1))))))))))))))))
abbrev cX1_makes : ByteArray := prog_1_method_20_code
def yX1_makes : MethodName := ⟨RX1, "makes", "(LMasterTree$Master;LMasterTree$Kind;IIIILjava/util/List;)V"⟩
def dkwX1_makes_2 : List UInt8 := [21, 6, 25, 7, 183, 0, 222, 182, 0, 225, 177]
abbrev dktX1_makes_2 : List UInt8 := dkwX1_makes_2 ++ []
def dkwX1_makes_1 : List UInt8 := [180, 0, 125, 43, 180, 0, 218, 43, 180, 0, 125, 50, 43, 180, 0, 125, 46, 44, 29, 21, 4, 21, 5]
abbrev dktX1_makes_1 : List UInt8 := dkwX1_makes_1 ++ dktX1_makes_2
def dkwX1_makes_0 : List UInt8 := [42, 89, 180, 0, 204, 4, 96, 181, 0, 204, 43, 187, 0, 19, 89, 43, 180, 0, 215, 4, 96, 43]
abbrev dktX1_makes_0 : List UInt8 := dkwX1_makes_0 ++ dktX1_makes_1
theorem dksX1_makes_0 : cX1_makes.data.toList.drop 0 = dktX1_makes_0 := by decide +kernel
theorem dksX1_makes_1 : cX1_makes.data.toList.drop 22 = dktX1_makes_1 := dk_seg dksX1_makes_0 22 rfl rfl
theorem dksX1_makes_2 : cX1_makes.data.toList.drop 45 = dktX1_makes_2 := dk_seg dksX1_makes_1 23 rfl rfl
theorem dX1_makes_0 : decode cX1_makes 0 = .ok (.aload_n 0, 1) := dk_42 (dk_at dksX1_makes_0 0 rfl rfl)
theorem dX1_makes_1 : decode cX1_makes 1 = .ok (.dup, 1) := dk_89 (dk_at dksX1_makes_0 1 rfl rfl)
theorem dX1_makes_2 : decode cX1_makes 2 = .ok (.getfield 204, 3) := dk_180 0 204 (dk_at dksX1_makes_0 2 rfl rfl)
theorem dX1_makes_5 : decode cX1_makes 5 = .ok (.iconst 1, 1) := dk_4 (dk_at dksX1_makes_0 5 rfl rfl)
theorem dX1_makes_6 : decode cX1_makes 6 = .ok (.iadd, 1) := dk_96 (dk_at dksX1_makes_0 6 rfl rfl)
theorem dX1_makes_7 : decode cX1_makes 7 = .ok (.putfield 204, 3) := dk_181 0 204 (dk_at dksX1_makes_0 7 rfl rfl)
theorem dX1_makes_10 : decode cX1_makes 10 = .ok (.aload_n 1, 1) := dk_43 (dk_at dksX1_makes_0 10 rfl rfl)
theorem dX1_makes_11 : decode cX1_makes 11 = .ok (.new 19, 3) := dk_187 0 19 (dk_at dksX1_makes_0 11 rfl rfl)
theorem dX1_makes_14 : decode cX1_makes 14 = .ok (.dup, 1) := dk_89 (dk_at dksX1_makes_0 14 rfl rfl)
theorem dX1_makes_15 : decode cX1_makes 15 = .ok (.aload_n 1, 1) := dk_43 (dk_at dksX1_makes_0 15 rfl rfl)
theorem dX1_makes_16 : decode cX1_makes 16 = .ok (.getfield 215, 3) := dk_180 0 215 (dk_at dksX1_makes_0 16 rfl rfl)
theorem dX1_makes_19 : decode cX1_makes 19 = .ok (.iconst 1, 1) := dk_4 (dk_at dksX1_makes_0 19 rfl rfl)
theorem dX1_makes_20 : decode cX1_makes 20 = .ok (.iadd, 1) := dk_96 (dk_at dksX1_makes_0 20 rfl rfl)
theorem dX1_makes_21 : decode cX1_makes 21 = .ok (.aload_n 1, 1) := dk_43 (dk_at dksX1_makes_0 21 rfl rfl)
theorem dX1_makes_22 : decode cX1_makes 22 = .ok (.getfield 125, 3) := dk_180 0 125 (dk_at dksX1_makes_1 0 rfl rfl)
theorem dX1_makes_25 : decode cX1_makes 25 = .ok (.aload_n 1, 1) := dk_43 (dk_at dksX1_makes_1 3 rfl rfl)
theorem dX1_makes_26 : decode cX1_makes 26 = .ok (.getfield 218, 3) := dk_180 0 218 (dk_at dksX1_makes_1 4 rfl rfl)
theorem dX1_makes_29 : decode cX1_makes 29 = .ok (.aload_n 1, 1) := dk_43 (dk_at dksX1_makes_1 7 rfl rfl)
theorem dX1_makes_30 : decode cX1_makes 30 = .ok (.getfield 125, 3) := dk_180 0 125 (dk_at dksX1_makes_1 8 rfl rfl)
theorem dX1_makes_33 : decode cX1_makes 33 = .ok (.aaload, 1) := dk_50 (dk_at dksX1_makes_1 11 rfl rfl)
theorem dX1_makes_34 : decode cX1_makes 34 = .ok (.aload_n 1, 1) := dk_43 (dk_at dksX1_makes_1 12 rfl rfl)
theorem dX1_makes_35 : decode cX1_makes 35 = .ok (.getfield 125, 3) := dk_180 0 125 (dk_at dksX1_makes_1 13 rfl rfl)
theorem dX1_makes_38 : decode cX1_makes 38 = .ok (.iaload, 1) := dk_46 (dk_at dksX1_makes_1 16 rfl rfl)
theorem dX1_makes_39 : decode cX1_makes 39 = .ok (.aload_n 2, 1) := dk_44 (dk_at dksX1_makes_1 17 rfl rfl)
theorem dX1_makes_40 : decode cX1_makes 40 = .ok (.iload_n 3, 1) := dk_29 (dk_at dksX1_makes_1 18 rfl rfl)
theorem dX1_makes_41 : decode cX1_makes 41 = .ok (.iload 4, 2) := dk_21 4 (dk_at dksX1_makes_1 19 rfl rfl)
theorem dX1_makes_43 : decode cX1_makes 43 = .ok (.iload 5, 2) := dk_21 5 (dk_at dksX1_makes_1 21 rfl rfl)
theorem dX1_makes_45 : decode cX1_makes 45 = .ok (.iload 6, 2) := dk_21 6 (dk_at dksX1_makes_2 0 rfl rfl)
theorem dX1_makes_47 : decode cX1_makes 47 = .ok (.aload 7, 2) := dk_25 7 (dk_at dksX1_makes_2 2 rfl rfl)
theorem dX1_makes_49 : decode cX1_makes 49 = .ok (.invokespecial 222, 3) := dk_183 0 222 (dk_at dksX1_makes_2 4 rfl rfl)
theorem dX1_makes_52 : decode cX1_makes 52 = .ok (.invokevirtual 225, 3) := dk_182 0 225 (dk_at dksX1_makes_2 7 rfl rfl)
theorem dX1_makes_55 : decode cX1_makes 55 = .ok (.return_, 1) := dk_177 (dk_at dksX1_makes_2 10 rfl rfl)
def fX1_makes (e : Nat → Nat) (N : Nat) (m : Mm) (v0 : Option Nat) (v1 : Option Nat) (v2 : Option Nat) (v3 : Int32) (v4 : Int32) (v5 : Int32) (v6 : Int32) (v7 : Option Nat) : Rs (Unit) := gi_ m v0 1 7 (fun x1 => pi_ m v0 1 7 (x1 + 1) (fun m1 => nw_ m1 7 9 (fun x2 m2 => gi_ m2 v1 2 4 (fun x3 => gi_ m2 v1 2 0 (fun x4 => gr_ m2 v1 2 8 (fun x5 => gi_ m2 v1 2 0 (fun x6 => ar_ m2 x5 206 x6 (fun x7 => gi_ m2 v1 2 0 (fun x8 => ai_ m2 x7 200 x8 (fun x9 => bd_ (fX7_init e N m2 (some x2) (x3 + 1) x4 x9 v2 v3 v4 v5 v6 v7) (fun _ m3 => ck_ m3 v1 2 (bd_ (fX2_takes e N m3 v1 (some x2)) (fun _ m4 => rt_ () m4)))))))))))))
abbrev cX2_isLive : ByteArray := prog_21_method_2_code
def yX2_isLive : MethodName := ⟨RX2, "isLive", "(I)Z"⟩
def dkwX2_isLive_1 : List UInt8 := [50, 182, 0, 57, 153, 0, 7, 4, 167, 0, 4, 3, 172]
abbrev dktX2_isLive_1 : List UInt8 := dkwX2_isLive_1 ++ []
def dkwX2_isLive_0 : List UInt8 := [27, 155, 0, 34, 27, 16, 48, 162, 0, 28, 42, 180, 0, 20, 27, 50, 198, 0, 19, 42, 180, 0, 20, 27]
abbrev dktX2_isLive_0 : List UInt8 := dkwX2_isLive_0 ++ dktX2_isLive_1
theorem dksX2_isLive_0 : cX2_isLive.data.toList.drop 0 = dktX2_isLive_0 := by decide +kernel
theorem dksX2_isLive_1 : cX2_isLive.data.toList.drop 24 = dktX2_isLive_1 := dk_seg dksX2_isLive_0 24 rfl rfl
theorem dX2_isLive_0 : decode cX2_isLive 0 = .ok (.iload_n 1, 1) := dk_27 (dk_at dksX2_isLive_0 0 rfl rfl)
theorem dX2_isLive_1 : decode cX2_isLive 1 = .ok (.ifCond .lt 34, 3) := dk_155 0 34 (dk_at dksX2_isLive_0 1 rfl rfl)
theorem dX2_isLive_4 : decode cX2_isLive 4 = .ok (.iload_n 1, 1) := dk_27 (dk_at dksX2_isLive_0 4 rfl rfl)
theorem dX2_isLive_5 : decode cX2_isLive 5 = .ok (.bipush 48, 2) := dk_16 48 (dk_at dksX2_isLive_0 5 rfl rfl)
theorem dX2_isLive_7 : decode cX2_isLive 7 = .ok (.if_icmp .ge 28, 3) := dk_162 0 28 (dk_at dksX2_isLive_0 7 rfl rfl)
theorem dX2_isLive_10 : decode cX2_isLive 10 = .ok (.aload_n 0, 1) := dk_42 (dk_at dksX2_isLive_0 10 rfl rfl)
theorem dX2_isLive_11 : decode cX2_isLive 11 = .ok (.getfield 20, 3) := dk_180 0 20 (dk_at dksX2_isLive_0 11 rfl rfl)
theorem dX2_isLive_14 : decode cX2_isLive 14 = .ok (.iload_n 1, 1) := dk_27 (dk_at dksX2_isLive_0 14 rfl rfl)
theorem dX2_isLive_15 : decode cX2_isLive 15 = .ok (.aaload, 1) := dk_50 (dk_at dksX2_isLive_0 15 rfl rfl)
theorem dX2_isLive_16 : decode cX2_isLive 16 = .ok (.ifnull 19, 3) := dk_198 0 19 (dk_at dksX2_isLive_0 16 rfl rfl)
theorem dX2_isLive_19 : decode cX2_isLive 19 = .ok (.aload_n 0, 1) := dk_42 (dk_at dksX2_isLive_0 19 rfl rfl)
theorem dX2_isLive_20 : decode cX2_isLive 20 = .ok (.getfield 20, 3) := dk_180 0 20 (dk_at dksX2_isLive_0 20 rfl rfl)
theorem dX2_isLive_23 : decode cX2_isLive 23 = .ok (.iload_n 1, 1) := dk_27 (dk_at dksX2_isLive_0 23 rfl rfl)
theorem dX2_isLive_24 : decode cX2_isLive 24 = .ok (.aaload, 1) := dk_50 (dk_at dksX2_isLive_1 0 rfl rfl)
theorem dX2_isLive_25 : decode cX2_isLive 25 = .ok (.invokevirtual 57, 3) := dk_182 0 57 (dk_at dksX2_isLive_1 1 rfl rfl)
theorem dX2_isLive_28 : decode cX2_isLive 28 = .ok (.ifCond .eq 7, 3) := dk_153 0 7 (dk_at dksX2_isLive_1 4 rfl rfl)
theorem dX2_isLive_31 : decode cX2_isLive 31 = .ok (.iconst 1, 1) := dk_4 (dk_at dksX2_isLive_1 7 rfl rfl)
theorem dX2_isLive_32 : decode cX2_isLive 32 = .ok (.goto 4, 3) := dk_167 0 4 (dk_at dksX2_isLive_1 8 rfl rfl)
theorem dX2_isLive_35 : decode cX2_isLive 35 = .ok (.iconst 0, 1) := dk_3 (dk_at dksX2_isLive_1 11 rfl rfl)
theorem dX2_isLive_36 : decode cX2_isLive 36 = .ok (.ireturn, 1) := dk_172 (dk_at dksX2_isLive_1 12 rfl rfl)
def fX2_isLive_b36 (e : Nat → Nat) (N : Nat) (m : Mm) (s0 : Int32) : Rs (Int32) := rz_ s0 s0 m
def fX2_isLive_b35 (e : Nat → Nat) (N : Nat) (m : Mm) : Rs (Int32) := fX2_isLive_b36 e N m 0
def fX2_isLive (e : Nat → Nat) (N : Nat) (m : Mm) (v0 : Option Nat) (v1 : Int32) : Rs (Int32) := if v1 < 0 then (fX2_isLive_b35 e N m) else (if v1 < 48 then (gr_ m v0 2 6 (fun x1 => ar_ m x1 205 v1 (fun x2 => if x2 = none then (fX2_isLive_b35 e N m) else (gr_ m v0 2 6 (fun x3 => ar_ m x3 205 v1 (fun x4 => ck_ m x4 3 (bd_ (fX3_isLive e N m x4) (fun x5 m1 => if x5 = 0 then (fX2_isLive_b35 e N m1) else (fX2_isLive_b36 e N m1 1))))))))) else (fX2_isLive_b35 e N m))
abbrev cX1_liveAt : ByteArray := prog_1_method_7_code
def yX1_liveAt : MethodName := ⟨RX1, "liveAt", "(LMasterTree$Master;I)LMasterTree$Entry;"⟩
def dkwX1_liveAt_2 : List UInt8 := [180, 0, 128, 27, 50, 176]
abbrev dktX1_liveAt_2 : List UInt8 := dkwX1_liveAt_2 ++ []
def dkwX1_liveAt_1 : List UInt8 := [27, 182, 0, 97, 18, 123, 182, 0, 91, 42, 180, 0, 125, 182, 0, 97, 182, 0, 100, 183, 0, 104, 191, 42]
abbrev dktX1_liveAt_1 : List UInt8 := dkwX1_liveAt_1 ++ dktX1_liveAt_2
def dkwX1_liveAt_0 : List UInt8 := [42, 27, 182, 0, 117, 154, 0, 42, 187, 0, 84, 89, 187, 0, 86, 89, 183, 0, 88, 18, 121, 182, 0, 91]
abbrev dktX1_liveAt_0 : List UInt8 := dkwX1_liveAt_0 ++ dktX1_liveAt_1
theorem dksX1_liveAt_0 : cX1_liveAt.data.toList.drop 0 = dktX1_liveAt_0 := by decide +kernel
theorem dksX1_liveAt_1 : cX1_liveAt.data.toList.drop 24 = dktX1_liveAt_1 := dk_seg dksX1_liveAt_0 24 rfl rfl
theorem dksX1_liveAt_2 : cX1_liveAt.data.toList.drop 48 = dktX1_liveAt_2 := dk_seg dksX1_liveAt_1 24 rfl rfl
theorem dX1_liveAt_0 : decode cX1_liveAt 0 = .ok (.aload_n 0, 1) := dk_42 (dk_at dksX1_liveAt_0 0 rfl rfl)
theorem dX1_liveAt_1 : decode cX1_liveAt 1 = .ok (.iload_n 1, 1) := dk_27 (dk_at dksX1_liveAt_0 1 rfl rfl)
theorem dX1_liveAt_2 : decode cX1_liveAt 2 = .ok (.invokevirtual 117, 3) := dk_182 0 117 (dk_at dksX1_liveAt_0 2 rfl rfl)
theorem dX1_liveAt_5 : decode cX1_liveAt 5 = .ok (.ifCond .ne 42, 3) := dk_154 0 42 (dk_at dksX1_liveAt_0 5 rfl rfl)
theorem dX1_liveAt_8 : decode cX1_liveAt 8 = .ok (.new 84, 3) := dk_187 0 84 (dk_at dksX1_liveAt_0 8 rfl rfl)
theorem dX1_liveAt_11 : decode cX1_liveAt 11 = .ok (.dup, 1) := dk_89 (dk_at dksX1_liveAt_0 11 rfl rfl)
theorem dX1_liveAt_12 : decode cX1_liveAt 12 = .ok (.new 86, 3) := dk_187 0 86 (dk_at dksX1_liveAt_0 12 rfl rfl)
theorem dX1_liveAt_15 : decode cX1_liveAt 15 = .ok (.dup, 1) := dk_89 (dk_at dksX1_liveAt_0 15 rfl rfl)
theorem dX1_liveAt_16 : decode cX1_liveAt 16 = .ok (.invokespecial 88, 3) := dk_183 0 88 (dk_at dksX1_liveAt_0 16 rfl rfl)
theorem dX1_liveAt_19 : decode cX1_liveAt 19 = .ok (.ldc 121, 2) := dk_18 121 (dk_at dksX1_liveAt_0 19 rfl rfl)
theorem dX1_liveAt_21 : decode cX1_liveAt 21 = .ok (.invokevirtual 91, 3) := dk_182 0 91 (dk_at dksX1_liveAt_0 21 rfl rfl)
theorem dX1_liveAt_24 : decode cX1_liveAt 24 = .ok (.iload_n 1, 1) := dk_27 (dk_at dksX1_liveAt_1 0 rfl rfl)
theorem dX1_liveAt_25 : decode cX1_liveAt 25 = .ok (.invokevirtual 97, 3) := dk_182 0 97 (dk_at dksX1_liveAt_1 1 rfl rfl)
theorem dX1_liveAt_28 : decode cX1_liveAt 28 = .ok (.ldc 123, 2) := dk_18 123 (dk_at dksX1_liveAt_1 4 rfl rfl)
theorem dX1_liveAt_30 : decode cX1_liveAt 30 = .ok (.invokevirtual 91, 3) := dk_182 0 91 (dk_at dksX1_liveAt_1 6 rfl rfl)
theorem dX1_liveAt_33 : decode cX1_liveAt 33 = .ok (.aload_n 0, 1) := dk_42 (dk_at dksX1_liveAt_1 9 rfl rfl)
theorem dX1_liveAt_34 : decode cX1_liveAt 34 = .ok (.getfield 125, 3) := dk_180 0 125 (dk_at dksX1_liveAt_1 10 rfl rfl)
theorem dX1_liveAt_37 : decode cX1_liveAt 37 = .ok (.invokevirtual 97, 3) := dk_182 0 97 (dk_at dksX1_liveAt_1 13 rfl rfl)
theorem dX1_liveAt_40 : decode cX1_liveAt 40 = .ok (.invokevirtual 100, 3) := dk_182 0 100 (dk_at dksX1_liveAt_1 16 rfl rfl)
theorem dX1_liveAt_43 : decode cX1_liveAt 43 = .ok (.invokespecial 104, 3) := dk_183 0 104 (dk_at dksX1_liveAt_1 19 rfl rfl)
theorem dX1_liveAt_46 : decode cX1_liveAt 46 = .ok (.athrow, 1) := dk_191 (dk_at dksX1_liveAt_1 22 rfl rfl)
theorem dX1_liveAt_47 : decode cX1_liveAt 47 = .ok (.aload_n 0, 1) := dk_42 (dk_at dksX1_liveAt_1 23 rfl rfl)
theorem dX1_liveAt_48 : decode cX1_liveAt 48 = .ok (.getfield 128, 3) := dk_180 0 128 (dk_at dksX1_liveAt_2 0 rfl rfl)
theorem dX1_liveAt_51 : decode cX1_liveAt 51 = .ok (.iload_n 1, 1) := dk_27 (dk_at dksX1_liveAt_2 3 rfl rfl)
theorem dX1_liveAt_52 : decode cX1_liveAt 52 = .ok (.aaload, 1) := dk_50 (dk_at dksX1_liveAt_2 4 rfl rfl)
theorem dX1_liveAt_53 : decode cX1_liveAt 53 = .ok (.areturn, 1) := dk_176 (dk_at dksX1_liveAt_2 5 rfl rfl)
def fX1_liveAt (e : Nat → Nat) (N : Nat) (m : Mm) (v0 : Option Nat) (v1 : Int32) : Rs ((Option Nat) ⊕ Nat) := ck_ m v0 2 (bd_ (fX2_isLive e N m v0 v1) (fun x1 m1 => if x1 = 0 then (nx_ m1 0 (fun x2 m2 => nw_ m2 30 4 (fun x3 m3 => bd_ (fJ16_init e N m3 (some x3)) (fun _ m4 => ck_ m4 (some x3) 30 (bd_ (fJ16_append e N m4 (some x3) (some (e (100 + 13)))) (fun x4 m5 => ck_ m5 x4 30 (bd_ (fJ16_append_2 e N m5 x4 v1) (fun x5 m6 => ck_ m6 x5 30 (bd_ (fJ16_append e N m6 x5 (some (e (100 + 14)))) (fun x6 m7 => gi_ m7 v0 2 0 (fun x7 => ck_ m7 x6 30 (bd_ (fJ16_append_2 e N m7 x6 x7) (fun x8 m8 => ck_ m8 x8 30 (bd_ (fJ16_toString e N m8 x8) (fun x9 m9 => xi_ m9 x2 0 (fun m10 => at_ m10 (some x2) 0 (.inr 0))))))))))))))))) else (gr_ m1 v0 2 6 (fun x10 => ar_ m1 x10 205 v1 (fun x11 => rt_ (.inl x11) m1)))))
abbrev cJ37_getValue : ByteArray := prog_82_method_3_code
def yJ37_getValue : MethodName := ⟨RJ37, "getValue", "()Ljava/lang/Object;"⟩
theorem dJ37_getValue_0 : decode cJ37_getValue 0 = .ok (.aload_n 0, 1) := by decide +kernel
theorem dJ37_getValue_1 : decode cJ37_getValue 1 = .ok (.getfield 19, 3) := by decide +kernel
theorem dJ37_getValue_4 : decode cJ37_getValue 4 = .ok (.areturn, 1) := by decide +kernel
def fJ37_getValue (e : Nat → Nat) (N : Nat) (m : Mm) (v0 : Option Nat) : Rs (Option Nat) := gr_ m v0 16 1 (fun x1 => rt_ x1 m)
abbrev cJ37_getKey : ByteArray := prog_82_method_2_code
def yJ37_getKey : MethodName := ⟨RJ37, "getKey", "()Ljava/lang/Object;"⟩
theorem dJ37_getKey_0 : decode cJ37_getKey 0 = .ok (.aload_n 0, 1) := by decide +kernel
theorem dJ37_getKey_1 : decode cJ37_getKey 1 = .ok (.getfield 15, 3) := by decide +kernel
theorem dJ37_getKey_4 : decode cJ37_getKey 4 = .ok (.areturn, 1) := by decide +kernel
def fJ37_getKey (e : Nat → Nat) (N : Nat) (m : Mm) (v0 : Option Nat) : Rs (Option Nat) := gr_ m v0 16 0 (fun x1 => rt_ x1 m)
abbrev cJ2_isEmpty : ByteArray := prog_59_method_9_code
def yJ2_isEmpty : MethodName := ⟨RJ2, "isEmpty", "()Z"⟩
def dkwJ2_isEmpty_0 : List UInt8 := [42, 180, 0, 48, 154, 0, 7, 4, 167, 0, 4, 3, 172]
abbrev dktJ2_isEmpty_0 : List UInt8 := dkwJ2_isEmpty_0 ++ []
theorem dksJ2_isEmpty_0 : cJ2_isEmpty.data.toList.drop 0 = dktJ2_isEmpty_0 := by decide +kernel
theorem dJ2_isEmpty_0 : decode cJ2_isEmpty 0 = .ok (.aload_n 0, 1) := dk_42 (dk_at dksJ2_isEmpty_0 0 rfl rfl)
theorem dJ2_isEmpty_1 : decode cJ2_isEmpty 1 = .ok (.getfield 48, 3) := dk_180 0 48 (dk_at dksJ2_isEmpty_0 1 rfl rfl)
theorem dJ2_isEmpty_4 : decode cJ2_isEmpty 4 = .ok (.ifCond .ne 7, 3) := dk_154 0 7 (dk_at dksJ2_isEmpty_0 4 rfl rfl)
theorem dJ2_isEmpty_7 : decode cJ2_isEmpty 7 = .ok (.iconst 1, 1) := dk_4 (dk_at dksJ2_isEmpty_0 7 rfl rfl)
theorem dJ2_isEmpty_8 : decode cJ2_isEmpty 8 = .ok (.goto 4, 3) := dk_167 0 4 (dk_at dksJ2_isEmpty_0 8 rfl rfl)
theorem dJ2_isEmpty_11 : decode cJ2_isEmpty 11 = .ok (.iconst 0, 1) := dk_3 (dk_at dksJ2_isEmpty_0 11 rfl rfl)
theorem dJ2_isEmpty_12 : decode cJ2_isEmpty 12 = .ok (.ireturn, 1) := dk_172 (dk_at dksJ2_isEmpty_0 12 rfl rfl)
def fJ2_isEmpty_b12 (e : Nat → Nat) (N : Nat) (m : Mm) (s0 : Int32) : Rs (Int32) := rz_ s0 s0 m
def fJ2_isEmpty (e : Nat → Nat) (N : Nat) (m : Mm) (v0 : Option Nat) : Rs (Int32) := gi_ m v0 13 2 (fun x1 => if x1 = 0 then (fJ2_isEmpty_b12 e N m 1) else (fJ2_isEmpty_b12 e N m 0))
abbrev cJ4_containsKey : ByteArray := prog_79_method_6_code
def yJ4_containsKey : MethodName := ⟨RJ4, "containsKey", "(Ljava/lang/Object;)Z"⟩
def dkwJ4_containsKey_0 : List UInt8 := [42, 43, 182, 0, 50, 198, 0, 7, 4, 167, 0, 4, 3, 172]
abbrev dktJ4_containsKey_0 : List UInt8 := dkwJ4_containsKey_0 ++ []
theorem dksJ4_containsKey_0 : cJ4_containsKey.data.toList.drop 0 = dktJ4_containsKey_0 := by decide +kernel
theorem dJ4_containsKey_0 : decode cJ4_containsKey 0 = .ok (.aload_n 0, 1) := dk_42 (dk_at dksJ4_containsKey_0 0 rfl rfl)
theorem dJ4_containsKey_1 : decode cJ4_containsKey 1 = .ok (.aload_n 1, 1) := dk_43 (dk_at dksJ4_containsKey_0 1 rfl rfl)
theorem dJ4_containsKey_2 : decode cJ4_containsKey 2 = .ok (.invokevirtual 50, 3) := dk_182 0 50 (dk_at dksJ4_containsKey_0 2 rfl rfl)
theorem dJ4_containsKey_5 : decode cJ4_containsKey 5 = .ok (.ifnull 7, 3) := dk_198 0 7 (dk_at dksJ4_containsKey_0 5 rfl rfl)
theorem dJ4_containsKey_8 : decode cJ4_containsKey 8 = .ok (.iconst 1, 1) := dk_4 (dk_at dksJ4_containsKey_0 8 rfl rfl)
theorem dJ4_containsKey_9 : decode cJ4_containsKey 9 = .ok (.goto 4, 3) := dk_167 0 4 (dk_at dksJ4_containsKey_0 9 rfl rfl)
theorem dJ4_containsKey_12 : decode cJ4_containsKey 12 = .ok (.iconst 0, 1) := dk_3 (dk_at dksJ4_containsKey_0 12 rfl rfl)
theorem dJ4_containsKey_13 : decode cJ4_containsKey 13 = .ok (.ireturn, 1) := dk_172 (dk_at dksJ4_containsKey_0 13 rfl rfl)
def fJ4_containsKey_b13 (e : Nat → Nat) (N : Nat) (m : Mm) (s0 : Int32) : Rs (Int32) := rz_ s0 s0 m
def fJ4_containsKey (e : Nat → Nat) (N : Nat) (m : Mm) (v0 : Option Nat) (v1 : Option Nat) : Rs (Int32) := ck_ m v0 15 (bd_ (fJ4_getEntry e N m v0 v1) (fun x1 m1 => if x1 = none then (fJ4_containsKey_b13 e N m1 0) else (fJ4_containsKey_b13 e N m1 1)))
abbrev cX3_has : ByteArray := prog_7_method_6_code
def yX3_has : MethodName := ⟨RX3, "has", "(II)Z"⟩
def dkwX3_has_0 : List UInt8 := [42, 180, 0, 25, 42, 27, 28, 182, 0, 80, 184, 0, 58, 182, 0, 88, 172]
abbrev dktX3_has_0 : List UInt8 := dkwX3_has_0 ++ []
theorem dksX3_has_0 : cX3_has.data.toList.drop 0 = dktX3_has_0 := by decide +kernel
theorem dX3_has_0 : decode cX3_has 0 = .ok (.aload_n 0, 1) := dk_42 (dk_at dksX3_has_0 0 rfl rfl)
theorem dX3_has_1 : decode cX3_has 1 = .ok (.getfield 25, 3) := dk_180 0 25 (dk_at dksX3_has_0 1 rfl rfl)
theorem dX3_has_4 : decode cX3_has 4 = .ok (.aload_n 0, 1) := dk_42 (dk_at dksX3_has_0 4 rfl rfl)
theorem dX3_has_5 : decode cX3_has 5 = .ok (.iload_n 1, 1) := dk_27 (dk_at dksX3_has_0 5 rfl rfl)
theorem dX3_has_6 : decode cX3_has 6 = .ok (.iload_n 2, 1) := dk_28 (dk_at dksX3_has_0 6 rfl rfl)
theorem dX3_has_7 : decode cX3_has 7 = .ok (.invokevirtual 80, 3) := dk_182 0 80 (dk_at dksX3_has_0 7 rfl rfl)
theorem dX3_has_10 : decode cX3_has 10 = .ok (.invokestatic 58, 3) := dk_184 0 58 (dk_at dksX3_has_0 10 rfl rfl)
theorem dX3_has_13 : decode cX3_has 13 = .ok (.invokevirtual 88, 3) := dk_182 0 88 (dk_at dksX3_has_0 13 rfl rfl)
theorem dX3_has_16 : decode cX3_has 16 = .ok (.ireturn, 1) := dk_172 (dk_at dksX3_has_0 16 rfl rfl)
def fX3_has (e : Nat → Nat) (N : Nat) (m : Mm) (v0 : Option Nat) (v1 : Int32) (v2 : Int32) : Rs (Int32) := gr_ m v0 3 7 (fun x1 => ck_ m v0 3 (bd_ (fX3_place e N m v0 v1 v2) (fun x2 m1 => bd_ (fJ21_valueOf e N m1 x2) (fun x3 m2 => ck_ m2 x1 15 (bd_ (fJ4_containsKey e N m2 x1 x3) (fun x4 m3 => rz_ x4 x4 m3))))))
abbrev cX2_sort : ByteArray := prog_21_method_13_code
def yX2_sort : MethodName := ⟨RX2, "sort", "(II)I"⟩
def dkwX2_sort_3 : List UInt8 := [153, 0, 7, 4, 167, 0, 4, 2, 172]
abbrev dktX2_sort_3 : List UInt8 := dkwX2_sort_3 ++ []
def dkwX2_sort_2 : List UInt8 := [180, 0, 20, 27, 16, 100, 100, 50, 3, 28, 182, 0, 215, 153, 0, 7, 4, 167, 0, 4, 3, 62, 29]
abbrev dktX2_sort_2 : List UInt8 := dkwX2_sort_2 ++ dktX2_sort_3
def dkwX2_sort_1 : List UInt8 := [42, 27, 16, 100, 100, 182, 0, 61, 153, 0, 36, 42, 180, 0, 48, 185, 0, 214, 1, 0, 154, 0, 24, 42]
abbrev dktX2_sort_1 : List UInt8 := dkwX2_sort_1 ++ dktX2_sort_2
def dkwX2_sort_0 : List UInt8 := [27, 2, 160, 0, 5, 5, 172, 27, 16, 100, 162, 0, 14, 27, 28, 160, 0, 7, 3, 167, 0, 4, 2, 172]
abbrev dktX2_sort_0 : List UInt8 := dkwX2_sort_0 ++ dktX2_sort_1
theorem dksX2_sort_0 : cX2_sort.data.toList.drop 0 = dktX2_sort_0 := by decide +kernel
theorem dksX2_sort_1 : cX2_sort.data.toList.drop 24 = dktX2_sort_1 := dk_seg dksX2_sort_0 24 rfl rfl
theorem dksX2_sort_2 : cX2_sort.data.toList.drop 48 = dktX2_sort_2 := dk_seg dksX2_sort_1 24 rfl rfl
theorem dksX2_sort_3 : cX2_sort.data.toList.drop 71 = dktX2_sort_3 := dk_seg dksX2_sort_2 23 rfl rfl
theorem dX2_sort_0 : decode cX2_sort 0 = .ok (.iload_n 1, 1) := dk_27 (dk_at dksX2_sort_0 0 rfl rfl)
theorem dX2_sort_1 : decode cX2_sort 1 = .ok (.iconst (-1), 1) := dk_2 (dk_at dksX2_sort_0 1 rfl rfl)
theorem dX2_sort_2 : decode cX2_sort 2 = .ok (.if_icmp .ne 5, 3) := dk_160 0 5 (dk_at dksX2_sort_0 2 rfl rfl)
theorem dX2_sort_5 : decode cX2_sort 5 = .ok (.iconst 2, 1) := dk_5 (dk_at dksX2_sort_0 5 rfl rfl)
theorem dX2_sort_6 : decode cX2_sort 6 = .ok (.ireturn, 1) := dk_172 (dk_at dksX2_sort_0 6 rfl rfl)
theorem dX2_sort_7 : decode cX2_sort 7 = .ok (.iload_n 1, 1) := dk_27 (dk_at dksX2_sort_0 7 rfl rfl)
theorem dX2_sort_8 : decode cX2_sort 8 = .ok (.bipush 100, 2) := dk_16 100 (dk_at dksX2_sort_0 8 rfl rfl)
theorem dX2_sort_10 : decode cX2_sort 10 = .ok (.if_icmp .ge 14, 3) := dk_162 0 14 (dk_at dksX2_sort_0 10 rfl rfl)
theorem dX2_sort_13 : decode cX2_sort 13 = .ok (.iload_n 1, 1) := dk_27 (dk_at dksX2_sort_0 13 rfl rfl)
theorem dX2_sort_14 : decode cX2_sort 14 = .ok (.iload_n 2, 1) := dk_28 (dk_at dksX2_sort_0 14 rfl rfl)
theorem dX2_sort_15 : decode cX2_sort 15 = .ok (.if_icmp .ne 7, 3) := dk_160 0 7 (dk_at dksX2_sort_0 15 rfl rfl)
theorem dX2_sort_18 : decode cX2_sort 18 = .ok (.iconst 0, 1) := dk_3 (dk_at dksX2_sort_0 18 rfl rfl)
theorem dX2_sort_19 : decode cX2_sort 19 = .ok (.goto 4, 3) := dk_167 0 4 (dk_at dksX2_sort_0 19 rfl rfl)
theorem dX2_sort_22 : decode cX2_sort 22 = .ok (.iconst (-1), 1) := dk_2 (dk_at dksX2_sort_0 22 rfl rfl)
theorem dX2_sort_23 : decode cX2_sort 23 = .ok (.ireturn, 1) := dk_172 (dk_at dksX2_sort_0 23 rfl rfl)
theorem dX2_sort_24 : decode cX2_sort 24 = .ok (.aload_n 0, 1) := dk_42 (dk_at dksX2_sort_1 0 rfl rfl)
theorem dX2_sort_25 : decode cX2_sort 25 = .ok (.iload_n 1, 1) := dk_27 (dk_at dksX2_sort_1 1 rfl rfl)
theorem dX2_sort_26 : decode cX2_sort 26 = .ok (.bipush 100, 2) := dk_16 100 (dk_at dksX2_sort_1 2 rfl rfl)
theorem dX2_sort_28 : decode cX2_sort 28 = .ok (.isub, 1) := dk_100 (dk_at dksX2_sort_1 4 rfl rfl)
theorem dX2_sort_29 : decode cX2_sort 29 = .ok (.invokevirtual 61, 3) := dk_182 0 61 (dk_at dksX2_sort_1 5 rfl rfl)
theorem dX2_sort_32 : decode cX2_sort 32 = .ok (.ifCond .eq 36, 3) := dk_153 0 36 (dk_at dksX2_sort_1 8 rfl rfl)
theorem dX2_sort_35 : decode cX2_sort 35 = .ok (.aload_n 0, 1) := dk_42 (dk_at dksX2_sort_1 11 rfl rfl)
theorem dX2_sort_36 : decode cX2_sort 36 = .ok (.getfield 48, 3) := dk_180 0 48 (dk_at dksX2_sort_1 12 rfl rfl)
theorem dX2_sort_39 : decode cX2_sort 39 = .ok (.invokeinterface 214 1, 5) := by decide +kernel
theorem dX2_sort_44 : decode cX2_sort 44 = .ok (.ifCond .ne 24, 3) := dk_154 0 24 (dk_at dksX2_sort_1 20 rfl rfl)
theorem dX2_sort_47 : decode cX2_sort 47 = .ok (.aload_n 0, 1) := dk_42 (dk_at dksX2_sort_1 23 rfl rfl)
theorem dX2_sort_48 : decode cX2_sort 48 = .ok (.getfield 20, 3) := dk_180 0 20 (dk_at dksX2_sort_2 0 rfl rfl)
theorem dX2_sort_51 : decode cX2_sort 51 = .ok (.iload_n 1, 1) := dk_27 (dk_at dksX2_sort_2 3 rfl rfl)
theorem dX2_sort_52 : decode cX2_sort 52 = .ok (.bipush 100, 2) := dk_16 100 (dk_at dksX2_sort_2 4 rfl rfl)
theorem dX2_sort_54 : decode cX2_sort 54 = .ok (.isub, 1) := dk_100 (dk_at dksX2_sort_2 6 rfl rfl)
theorem dX2_sort_55 : decode cX2_sort 55 = .ok (.aaload, 1) := dk_50 (dk_at dksX2_sort_2 7 rfl rfl)
theorem dX2_sort_56 : decode cX2_sort 56 = .ok (.iconst 0, 1) := dk_3 (dk_at dksX2_sort_2 8 rfl rfl)
theorem dX2_sort_57 : decode cX2_sort 57 = .ok (.iload_n 2, 1) := dk_28 (dk_at dksX2_sort_2 9 rfl rfl)
theorem dX2_sort_58 : decode cX2_sort 58 = .ok (.invokevirtual 215, 3) := dk_182 0 215 (dk_at dksX2_sort_2 10 rfl rfl)
theorem dX2_sort_61 : decode cX2_sort 61 = .ok (.ifCond .eq 7, 3) := dk_153 0 7 (dk_at dksX2_sort_2 13 rfl rfl)
theorem dX2_sort_64 : decode cX2_sort 64 = .ok (.iconst 1, 1) := dk_4 (dk_at dksX2_sort_2 16 rfl rfl)
theorem dX2_sort_65 : decode cX2_sort 65 = .ok (.goto 4, 3) := dk_167 0 4 (dk_at dksX2_sort_2 17 rfl rfl)
theorem dX2_sort_68 : decode cX2_sort 68 = .ok (.iconst 0, 1) := dk_3 (dk_at dksX2_sort_2 20 rfl rfl)
theorem dX2_sort_69 : decode cX2_sort 69 = .ok (.istore_n 3, 1) := dk_62 (dk_at dksX2_sort_2 21 rfl rfl)
theorem dX2_sort_70 : decode cX2_sort 70 = .ok (.iload_n 3, 1) := dk_29 (dk_at dksX2_sort_2 22 rfl rfl)
theorem dX2_sort_71 : decode cX2_sort 71 = .ok (.ifCond .eq 7, 3) := dk_153 0 7 (dk_at dksX2_sort_3 0 rfl rfl)
theorem dX2_sort_74 : decode cX2_sort 74 = .ok (.iconst 1, 1) := dk_4 (dk_at dksX2_sort_3 3 rfl rfl)
theorem dX2_sort_75 : decode cX2_sort 75 = .ok (.goto 4, 3) := dk_167 0 4 (dk_at dksX2_sort_3 4 rfl rfl)
theorem dX2_sort_78 : decode cX2_sort 78 = .ok (.iconst (-1), 1) := dk_2 (dk_at dksX2_sort_3 7 rfl rfl)
theorem dX2_sort_79 : decode cX2_sort 79 = .ok (.ireturn, 1) := dk_172 (dk_at dksX2_sort_3 8 rfl rfl)
def fX2_sort_b23 (e : Nat → Nat) (N : Nat) (m : Mm) (s0 : Int32) : Rs (Int32) := rt_ s0 m
def fX2_sort_b79 (e : Nat → Nat) (N : Nat) (m : Mm) (s0 : Int32) : Rs (Int32) := rt_ s0 m
def fX2_sort_b69 (e : Nat → Nat) (N : Nat) (m : Mm) (s0 : Int32) : Rs (Int32) := if s0 = 0 then (fX2_sort_b79 e N m (-1)) else (fX2_sort_b79 e N m 1)
def fX2_sort_b68 (e : Nat → Nat) (N : Nat) (m : Mm) : Rs (Int32) := fX2_sort_b69 e N m 0
def fX2_sort (e : Nat → Nat) (N : Nat) (m : Mm) (v0 : Option Nat) (v1 : Int32) (v2 : Int32) : Rs (Int32) := if v1 = (-1) then (rt_ 2 m) else (if v1 < 100 then (if v1 = v2 then (fX2_sort_b23 e N m 0) else (fX2_sort_b23 e N m (-1))) else (ck_ m v0 2 (bd_ (fX2_isLive e N m v0 (v1 - 100)) (fun x1 m1 => if x1 = 0 then (fX2_sort_b68 e N m1) else (gr_ m1 v0 2 1 (fun x2 => ck_ m1 x2 13 (bd_ (fJ2_isEmpty e N m1 x2) (fun x3 m2 => if x3 = 0 then (gr_ m2 v0 2 6 (fun x4 => ar_ m2 x4 205 (v1 - 100) (fun x5 => ck_ m2 x5 3 (bd_ (fX3_has e N m2 x5 0 v2) (fun x6 m3 => if x6 = 0 then (fX2_sort_b68 e N m3) else (fX2_sort_b69 e N m3 1)))))) else (fX2_sort_b68 e N m2)))))))))
def fJ30_hasNext_t20_b12 (e : Nat → Nat) (N : Nat) (m : Mm) (s0 : Int32) : Rs (Int32) := rz_ s0 s0 m
def fJ30_hasNext_t20 (e : Nat → Nat) (N : Nat) (m : Mm) (v0 : Option Nat) : Rs (Int32) := gr_ m v0 20 0 (fun x1 => if x1 = none then (fJ30_hasNext_t20_b12 e N m 0) else (fJ30_hasNext_t20_b12 e N m 1))
def fJ30_nextEntry_t20 (e : Nat → Nat) (N : Nat) (m : Mm) (v0 : Option Nat) : Rs (Option Nat) := gr_ m v0 20 0 (fun x1 => if x1 = none then (none) else (gr_ m v0 20 3 (fun x2 => gi_ m x2 15 5 (fun x3 => gi_ m v0 20 2 (fun x4 => if x3 = x4 then (bd_ (fJ4_successor e N m x1) (fun x5 m1 => pr_ m1 v0 20 0 x5 (fun m2 => pr_ m2 v0 20 1 x1 (fun m3 => rt_ x1 m3)))) else (none))))))
abbrev cJ31_next_2 : ByteArray := prog_83_method_2_code
def yJ31_next_2 : MethodName := ⟨RJ31, "next", "()Ljava/util/Map$Entry;"⟩
theorem dJ31_next_2_0 : decode cJ31_next_2 0 = .ok (.aload_n 0, 1) := by decide +kernel
theorem dJ31_next_2_1 : decode cJ31_next_2 1 = .ok (.invokevirtual 7, 3) := by decide +kernel
theorem dJ31_next_2_4 : decode cJ31_next_2 4 = .ok (.areturn, 1) := by decide +kernel
def fJ31_next_2 (e : Nat → Nat) (N : Nat) (m : Mm) (v0 : Option Nat) : Rs (Option Nat) := ck_ m v0 20 (bd_ (fJ30_nextEntry_t20 e N m v0) (fun x1 m1 => rt_ x1 m1))
abbrev cJ31_next : ByteArray := prog_83_method_3_code
def yJ31_next : MethodName := ⟨RJ31, "next", "()Ljava/lang/Object;"⟩
theorem dJ31_next_0 : decode cJ31_next 0 = .ok (.aload_n 0, 1) := by decide +kernel
theorem dJ31_next_1 : decode cJ31_next 1 = .ok (.invokevirtual 13, 3) := by decide +kernel
theorem dJ31_next_4 : decode cJ31_next 4 = .ok (.areturn, 1) := by decide +kernel
def fJ31_next (e : Nat → Nat) (N : Nat) (m : Mm) (v0 : Option Nat) : Rs (Option Nat) := ck_ m v0 20 (bd_ (fJ31_next_2 e N m v0) (fun x1 m1 => rt_ x1 m1))
def fJ0_init_t19 (e : Nat → Nat) (N : Nat) (m : Mm) (v0 : Option Nat) : Rs (Unit) := ok_ v0 (rt_ () m)
def fJ24_init_t19 (e : Nat → Nat) (N : Nat) (m : Mm) (v0 : Option Nat) : Rs (Unit) := ok_ v0 (bd_ (fJ0_init_t19 e N m v0) (fun _ m1 => rt_ () m1))
abbrev cJ25_init : ByteArray := prog_84_method_1_code
def yJ25_init : MethodName := ⟨RJ25, "<init>", "(Ljava/util/TreeMap;)V"⟩
def dkwJ25_init_0 : List UInt8 := [42, 43, 181, 0, 1, 42, 183, 0, 7, 177]
abbrev dktJ25_init_0 : List UInt8 := dkwJ25_init_0 ++ []
theorem dksJ25_init_0 : cJ25_init.data.toList.drop 0 = dktJ25_init_0 := by decide +kernel
theorem dJ25_init_0 : decode cJ25_init 0 = .ok (.aload_n 0, 1) := dk_42 (dk_at dksJ25_init_0 0 rfl rfl)
theorem dJ25_init_1 : decode cJ25_init 1 = .ok (.aload_n 1, 1) := dk_43 (dk_at dksJ25_init_0 1 rfl rfl)
theorem dJ25_init_2 : decode cJ25_init 2 = .ok (.putfield 1, 3) := dk_181 0 1 (dk_at dksJ25_init_0 2 rfl rfl)
theorem dJ25_init_5 : decode cJ25_init 5 = .ok (.aload_n 0, 1) := dk_42 (dk_at dksJ25_init_0 5 rfl rfl)
theorem dJ25_init_6 : decode cJ25_init 6 = .ok (.invokespecial 7, 3) := dk_183 0 7 (dk_at dksJ25_init_0 6 rfl rfl)
theorem dJ25_init_9 : decode cJ25_init 9 = .ok (.return_, 1) := dk_177 (dk_at dksJ25_init_0 9 rfl rfl)
def fJ25_init (e : Nat → Nat) (N : Nat) (m : Mm) (v0 : Option Nat) (v1 : Option Nat) : Rs (Unit) := pr_ m v0 19 0 v1 (fun m1 => ok_ v0 (bd_ (fJ24_init_t19 e N m1 v0) (fun _ m2 => rt_ () m2)))
abbrev cJ4_entrySet : ByteArray := prog_79_method_53_code
def yJ4_entrySet : MethodName := ⟨RJ4, "entrySet", "()Ljava/util/Set;"⟩
def dkwJ4_entrySet_1 : List UInt8 := [181, 0, 188, 176]
abbrev dktJ4_entrySet_1 : List UInt8 := dkwJ4_entrySet_1 ++ []
def dkwJ4_entrySet_0 : List UInt8 := [42, 180, 0, 188, 76, 43, 198, 0, 7, 43, 167, 0, 16, 42, 187, 0, 242, 89, 42, 183, 0, 244, 90]
abbrev dktJ4_entrySet_0 : List UInt8 := dkwJ4_entrySet_0 ++ dktJ4_entrySet_1
theorem dksJ4_entrySet_0 : cJ4_entrySet.data.toList.drop 0 = dktJ4_entrySet_0 := by decide +kernel
theorem dksJ4_entrySet_1 : cJ4_entrySet.data.toList.drop 23 = dktJ4_entrySet_1 := dk_seg dksJ4_entrySet_0 23 rfl rfl
theorem dJ4_entrySet_0 : decode cJ4_entrySet 0 = .ok (.aload_n 0, 1) := dk_42 (dk_at dksJ4_entrySet_0 0 rfl rfl)
theorem dJ4_entrySet_1 : decode cJ4_entrySet 1 = .ok (.getfield 188, 3) := dk_180 0 188 (dk_at dksJ4_entrySet_0 1 rfl rfl)
theorem dJ4_entrySet_4 : decode cJ4_entrySet 4 = .ok (.astore_n 1, 1) := dk_76 (dk_at dksJ4_entrySet_0 4 rfl rfl)
theorem dJ4_entrySet_5 : decode cJ4_entrySet 5 = .ok (.aload_n 1, 1) := dk_43 (dk_at dksJ4_entrySet_0 5 rfl rfl)
theorem dJ4_entrySet_6 : decode cJ4_entrySet 6 = .ok (.ifnull 7, 3) := dk_198 0 7 (dk_at dksJ4_entrySet_0 6 rfl rfl)
theorem dJ4_entrySet_9 : decode cJ4_entrySet 9 = .ok (.aload_n 1, 1) := dk_43 (dk_at dksJ4_entrySet_0 9 rfl rfl)
theorem dJ4_entrySet_10 : decode cJ4_entrySet 10 = .ok (.goto 16, 3) := dk_167 0 16 (dk_at dksJ4_entrySet_0 10 rfl rfl)
theorem dJ4_entrySet_13 : decode cJ4_entrySet 13 = .ok (.aload_n 0, 1) := dk_42 (dk_at dksJ4_entrySet_0 13 rfl rfl)
theorem dJ4_entrySet_14 : decode cJ4_entrySet 14 = .ok (.new 242, 3) := dk_187 0 242 (dk_at dksJ4_entrySet_0 14 rfl rfl)
theorem dJ4_entrySet_17 : decode cJ4_entrySet 17 = .ok (.dup, 1) := dk_89 (dk_at dksJ4_entrySet_0 17 rfl rfl)
theorem dJ4_entrySet_18 : decode cJ4_entrySet 18 = .ok (.aload_n 0, 1) := dk_42 (dk_at dksJ4_entrySet_0 18 rfl rfl)
theorem dJ4_entrySet_19 : decode cJ4_entrySet 19 = .ok (.invokespecial 244, 3) := dk_183 0 244 (dk_at dksJ4_entrySet_0 19 rfl rfl)
theorem dJ4_entrySet_22 : decode cJ4_entrySet 22 = .ok (.dup_x1, 1) := dk_90 (dk_at dksJ4_entrySet_0 22 rfl rfl)
theorem dJ4_entrySet_23 : decode cJ4_entrySet 23 = .ok (.putfield 188, 3) := dk_181 0 188 (dk_at dksJ4_entrySet_1 0 rfl rfl)
theorem dJ4_entrySet_26 : decode cJ4_entrySet 26 = .ok (.areturn, 1) := dk_176 (dk_at dksJ4_entrySet_1 3 rfl rfl)
def fJ4_entrySet_b26 (e : Nat → Nat) (N : Nat) (m : Mm) (s0 : Option Nat) : Rs (Option Nat) := rt_ s0 m
def fJ4_entrySet (e : Nat → Nat) (N : Nat) (m : Mm) (v0 : Option Nat) : Rs (Option Nat) := gr_ m v0 15 6 (fun x1 => if x1 = none then (nw_ m 19 1 (fun x2 m1 => bd_ (fJ25_init e N m1 (some x2) v0) (fun _ m2 => pr_ m2 v0 15 6 (some x2) (fun m3 => fJ4_entrySet_b26 e N m3 (some x2))))) else (fJ4_entrySet_b26 e N m x1))
def fJ30_init_t20 (e : Nat → Nat) (N : Nat) (m : Mm) (v0 : Option Nat) (v1 : Option Nat) (v2 : Option Nat) : Rs (Unit) := pr_ m v0 20 3 v1 (fun m1 => ok_ v0 (gi_ m1 v1 15 5 (fun x1 => pi_ m1 v0 20 2 x1 (fun m2 => pr_ m2 v0 20 1 none (fun m3 => pr_ m3 v0 20 0 v2 (fun m4 => rt_ () m4))))))
abbrev cJ31_init : ByteArray := prog_83_method_1_code
def yJ31_init : MethodName := ⟨RJ31, "<init>", "(Ljava/util/TreeMap;Ljava/util/TreeMap$Entry;)V"⟩
def dkwJ31_init_0 : List UInt8 := [42, 43, 44, 183, 0, 1, 177]
abbrev dktJ31_init_0 : List UInt8 := dkwJ31_init_0 ++ []
theorem dksJ31_init_0 : cJ31_init.data.toList.drop 0 = dktJ31_init_0 := by decide +kernel
theorem dJ31_init_0 : decode cJ31_init 0 = .ok (.aload_n 0, 1) := dk_42 (dk_at dksJ31_init_0 0 rfl rfl)
theorem dJ31_init_1 : decode cJ31_init 1 = .ok (.aload_n 1, 1) := dk_43 (dk_at dksJ31_init_0 1 rfl rfl)
theorem dJ31_init_2 : decode cJ31_init 2 = .ok (.aload_n 2, 1) := dk_44 (dk_at dksJ31_init_0 2 rfl rfl)
theorem dJ31_init_3 : decode cJ31_init 3 = .ok (.invokespecial 1, 3) := dk_183 0 1 (dk_at dksJ31_init_0 3 rfl rfl)
theorem dJ31_init_6 : decode cJ31_init 6 = .ok (.return_, 1) := dk_177 (dk_at dksJ31_init_0 6 rfl rfl)
def fJ31_init (e : Nat → Nat) (N : Nat) (m : Mm) (v0 : Option Nat) (v1 : Option Nat) (v2 : Option Nat) : Rs (Unit) := ok_ v0 (bd_ (fJ30_init_t20 e N m v0 v1 v2) (fun _ m1 => rt_ () m1))
abbrev cJ25_iterator : ByteArray := prog_84_method_2_code
def yJ25_iterator : MethodName := ⟨RJ25, "iterator", "()Ljava/util/Iterator;"⟩
def dkwJ25_iterator_0 : List UInt8 := [187, 0, 13, 89, 42, 180, 0, 1, 42, 180, 0, 1, 182, 0, 15, 183, 0, 21, 176]
abbrev dktJ25_iterator_0 : List UInt8 := dkwJ25_iterator_0 ++ []
theorem dksJ25_iterator_0 : cJ25_iterator.data.toList.drop 0 = dktJ25_iterator_0 := by decide +kernel
theorem dJ25_iterator_0 : decode cJ25_iterator 0 = .ok (.new 13, 3) := dk_187 0 13 (dk_at dksJ25_iterator_0 0 rfl rfl)
theorem dJ25_iterator_3 : decode cJ25_iterator 3 = .ok (.dup, 1) := dk_89 (dk_at dksJ25_iterator_0 3 rfl rfl)
theorem dJ25_iterator_4 : decode cJ25_iterator 4 = .ok (.aload_n 0, 1) := dk_42 (dk_at dksJ25_iterator_0 4 rfl rfl)
theorem dJ25_iterator_5 : decode cJ25_iterator 5 = .ok (.getfield 1, 3) := dk_180 0 1 (dk_at dksJ25_iterator_0 5 rfl rfl)
theorem dJ25_iterator_8 : decode cJ25_iterator 8 = .ok (.aload_n 0, 1) := dk_42 (dk_at dksJ25_iterator_0 8 rfl rfl)
theorem dJ25_iterator_9 : decode cJ25_iterator 9 = .ok (.getfield 1, 3) := dk_180 0 1 (dk_at dksJ25_iterator_0 9 rfl rfl)
theorem dJ25_iterator_12 : decode cJ25_iterator 12 = .ok (.invokevirtual 15, 3) := dk_182 0 15 (dk_at dksJ25_iterator_0 12 rfl rfl)
theorem dJ25_iterator_15 : decode cJ25_iterator 15 = .ok (.invokespecial 21, 3) := dk_183 0 21 (dk_at dksJ25_iterator_0 15 rfl rfl)
theorem dJ25_iterator_18 : decode cJ25_iterator 18 = .ok (.areturn, 1) := dk_176 (dk_at dksJ25_iterator_0 18 rfl rfl)
def fJ25_iterator (e : Nat → Nat) (N : Nat) (m : Mm) (v0 : Option Nat) : Rs (Option Nat) := nw_ m 20 4 (fun x1 m1 => gr_ m1 v0 19 0 (fun x2 => gr_ m1 v0 19 0 (fun x3 => ck_ m1 x3 15 (bd_ (fJ4_getFirstEntry e N m1 x3) (fun x4 m2 => bd_ (fJ31_init e N m2 (some x1) x2 x4) (fun _ m3 => rt_ (some x1) m3))))))
abbrev cX2_says : ByteArray := prog_21_method_14_code
def yX2_says : MethodName := ⟨RX2, "says", "(LMasterTree$Entry;III)I"⟩
def dkwX2_says_9 : List UInt8 := [185, 0, 229, 1, 0, 192, 0, 87, 182, 0, 89, 184, 0, 136, 54, 6, 167, 255, 57, 21, 6, 172]
abbrev dktX2_says_9 : List UInt8 := dkwX2_says_9 ++ []
def dkwX2_says_8 : List UInt8 := [167, 0, 36, 21, 11, 2, 159, 0, 30, 21, 11, 21, 5, 160, 0, 23, 21, 6, 25, 8]
abbrev dktX2_says_8 : List UInt8 := dkwX2_says_8 ++ dktX2_says_9
def dkwX2_says_7 : List UInt8 := [162, 0, 25, 21, 11, 54, 5, 25, 8, 185, 0, 229, 1, 0, 192, 0, 87, 182, 0, 89, 54, 6]
abbrev dktX2_says_7 : List UInt8 := dkwX2_says_7 ++ dktX2_says_8
def dkwX2_says_6 : List UInt8 := [108, 4, 100, 29, 182, 0, 232, 167, 0, 4, 2, 54, 11, 21, 11, 2, 159, 0, 32, 21, 11, 21, 5]
abbrev dktX2_says_6 : List UInt8 := dkwX2_says_6 ++ dktX2_says_7
def dkwX2_says_5 : List UInt8 := [54, 10, 21, 10, 153, 0, 30, 42, 25, 8, 185, 0, 226, 1, 0, 192, 0, 87, 182, 0, 89, 5, 108, 6]
abbrev dktX2_says_5 : List UInt8 := dkwX2_says_5 ++ dktX2_says_6
def dkwX2_says_4 : List UInt8 := [182, 0, 89, 153, 0, 19, 21, 9, 5, 159, 0, 9, 21, 9, 28, 160, 0, 7, 4, 167, 0, 4, 3]
abbrev dktX2_says_4 : List UInt8 := dkwX2_says_4 ++ dktX2_says_5
def dkwX2_says_3 : List UInt8 := [192, 0, 87, 182, 0, 89, 5, 112, 21, 4, 160, 0, 35, 25, 8, 185, 0, 229, 1, 0, 192, 0, 87]
abbrev dktX2_says_3 : List UInt8 := dkwX2_says_3 ++ dktX2_says_4
def dkwX2_says_2 : List UInt8 := [185, 0, 226, 1, 0, 192, 0, 87, 182, 0, 89, 5, 108, 6, 112, 54, 9, 25, 8, 185, 0, 226, 1, 0]
abbrev dktX2_says_2 : List UInt8 := dkwX2_says_2 ++ dktX2_says_3
def dkwX2_says_1 : List UInt8 := [185, 0, 78, 1, 0, 153, 0, 195, 25, 7, 185, 0, 83, 1, 0, 192, 0, 224, 58, 8, 25, 8]
abbrev dktX2_says_1 : List UInt8 := dkwX2_says_1 ++ dktX2_says_2
def dkwX2_says_0 : List UInt8 := [6, 54, 5, 3, 54, 6, 43, 180, 0, 218, 182, 0, 221, 185, 0, 72, 1, 0, 58, 7, 25, 7]
abbrev dktX2_says_0 : List UInt8 := dkwX2_says_0 ++ dktX2_says_1
theorem dksX2_says_0 : cX2_says.data.toList.drop 0 = dktX2_says_0 := by decide +kernel
theorem dksX2_says_1 : cX2_says.data.toList.drop 22 = dktX2_says_1 := dk_seg dksX2_says_0 22 rfl rfl
theorem dksX2_says_2 : cX2_says.data.toList.drop 44 = dktX2_says_2 := dk_seg dksX2_says_1 22 rfl rfl
theorem dksX2_says_3 : cX2_says.data.toList.drop 68 = dktX2_says_3 := dk_seg dksX2_says_2 24 rfl rfl
theorem dksX2_says_4 : cX2_says.data.toList.drop 91 = dktX2_says_4 := dk_seg dksX2_says_3 23 rfl rfl
theorem dksX2_says_5 : cX2_says.data.toList.drop 114 = dktX2_says_5 := dk_seg dksX2_says_4 23 rfl rfl
theorem dksX2_says_6 : cX2_says.data.toList.drop 138 = dktX2_says_6 := dk_seg dksX2_says_5 24 rfl rfl
theorem dksX2_says_7 : cX2_says.data.toList.drop 161 = dktX2_says_7 := dk_seg dksX2_says_6 23 rfl rfl
theorem dksX2_says_8 : cX2_says.data.toList.drop 183 = dktX2_says_8 := dk_seg dksX2_says_7 22 rfl rfl
theorem dksX2_says_9 : cX2_says.data.toList.drop 203 = dktX2_says_9 := dk_seg dksX2_says_8 20 rfl rfl
theorem dX2_says_0 : decode cX2_says 0 = .ok (.iconst 3, 1) := dk_6 (dk_at dksX2_says_0 0 rfl rfl)
theorem dX2_says_1 : decode cX2_says 1 = .ok (.istore 5, 2) := dk_54 5 (dk_at dksX2_says_0 1 rfl rfl)
theorem dX2_says_3 : decode cX2_says 3 = .ok (.iconst 0, 1) := dk_3 (dk_at dksX2_says_0 3 rfl rfl)
theorem dX2_says_4 : decode cX2_says 4 = .ok (.istore 6, 2) := dk_54 6 (dk_at dksX2_says_0 4 rfl rfl)
theorem dX2_says_6 : decode cX2_says 6 = .ok (.aload_n 1, 1) := dk_43 (dk_at dksX2_says_0 6 rfl rfl)
theorem dX2_says_7 : decode cX2_says 7 = .ok (.getfield 218, 3) := dk_180 0 218 (dk_at dksX2_says_0 7 rfl rfl)
theorem dX2_says_10 : decode cX2_says 10 = .ok (.invokevirtual 221, 3) := dk_182 0 221 (dk_at dksX2_says_0 10 rfl rfl)
theorem dX2_says_13 : decode cX2_says 13 = .ok (.invokeinterface 72 1, 5) := by decide +kernel
theorem dX2_says_18 : decode cX2_says 18 = .ok (.astore 7, 2) := dk_58 7 (dk_at dksX2_says_0 18 rfl rfl)
theorem dX2_says_20 : decode cX2_says 20 = .ok (.aload 7, 2) := dk_25 7 (dk_at dksX2_says_0 20 rfl rfl)
theorem dX2_says_22 : decode cX2_says 22 = .ok (.invokeinterface 78 1, 5) := by decide +kernel
theorem dX2_says_27 : decode cX2_says 27 = .ok (.ifCond .eq 195, 3) := dk_153 0 195 (dk_at dksX2_says_1 5 rfl rfl)
theorem dX2_says_30 : decode cX2_says 30 = .ok (.aload 7, 2) := dk_25 7 (dk_at dksX2_says_1 8 rfl rfl)
theorem dX2_says_32 : decode cX2_says 32 = .ok (.invokeinterface 83 1, 5) := by decide +kernel
theorem dX2_says_37 : decode cX2_says 37 = .ok (.checkcast 224, 3) := dk_192 0 224 (dk_at dksX2_says_1 15 rfl rfl)
theorem dX2_says_40 : decode cX2_says 40 = .ok (.astore 8, 2) := dk_58 8 (dk_at dksX2_says_1 18 rfl rfl)
theorem dX2_says_42 : decode cX2_says 42 = .ok (.aload 8, 2) := dk_25 8 (dk_at dksX2_says_1 20 rfl rfl)
theorem dX2_says_44 : decode cX2_says 44 = .ok (.invokeinterface 226 1, 5) := by decide +kernel
theorem dX2_says_49 : decode cX2_says 49 = .ok (.checkcast 87, 3) := dk_192 0 87 (dk_at dksX2_says_2 5 rfl rfl)
theorem dX2_says_52 : decode cX2_says 52 = .ok (.invokevirtual 89, 3) := dk_182 0 89 (dk_at dksX2_says_2 8 rfl rfl)
theorem dX2_says_55 : decode cX2_says 55 = .ok (.iconst 2, 1) := dk_5 (dk_at dksX2_says_2 11 rfl rfl)
theorem dX2_says_56 : decode cX2_says 56 = .ok (.idiv, 1) := dk_108 (dk_at dksX2_says_2 12 rfl rfl)
theorem dX2_says_57 : decode cX2_says 57 = .ok (.iconst 3, 1) := dk_6 (dk_at dksX2_says_2 13 rfl rfl)
theorem dX2_says_58 : decode cX2_says 58 = .ok (.irem, 1) := dk_112 (dk_at dksX2_says_2 14 rfl rfl)
theorem dX2_says_59 : decode cX2_says 59 = .ok (.istore 9, 2) := dk_54 9 (dk_at dksX2_says_2 15 rfl rfl)
theorem dX2_says_61 : decode cX2_says 61 = .ok (.aload 8, 2) := dk_25 8 (dk_at dksX2_says_2 17 rfl rfl)
theorem dX2_says_63 : decode cX2_says 63 = .ok (.invokeinterface 226 1, 5) := by decide +kernel
theorem dX2_says_68 : decode cX2_says 68 = .ok (.checkcast 87, 3) := dk_192 0 87 (dk_at dksX2_says_3 0 rfl rfl)
theorem dX2_says_71 : decode cX2_says 71 = .ok (.invokevirtual 89, 3) := dk_182 0 89 (dk_at dksX2_says_3 3 rfl rfl)
theorem dX2_says_74 : decode cX2_says 74 = .ok (.iconst 2, 1) := dk_5 (dk_at dksX2_says_3 6 rfl rfl)
theorem dX2_says_75 : decode cX2_says 75 = .ok (.irem, 1) := dk_112 (dk_at dksX2_says_3 7 rfl rfl)
theorem dX2_says_76 : decode cX2_says 76 = .ok (.iload 4, 2) := dk_21 4 (dk_at dksX2_says_3 8 rfl rfl)
theorem dX2_says_78 : decode cX2_says 78 = .ok (.if_icmp .ne 35, 3) := dk_160 0 35 (dk_at dksX2_says_3 10 rfl rfl)
theorem dX2_says_81 : decode cX2_says 81 = .ok (.aload 8, 2) := dk_25 8 (dk_at dksX2_says_3 13 rfl rfl)
theorem dX2_says_83 : decode cX2_says 83 = .ok (.invokeinterface 229 1, 5) := by decide +kernel
theorem dX2_says_88 : decode cX2_says 88 = .ok (.checkcast 87, 3) := dk_192 0 87 (dk_at dksX2_says_3 20 rfl rfl)
theorem dX2_says_91 : decode cX2_says 91 = .ok (.invokevirtual 89, 3) := dk_182 0 89 (dk_at dksX2_says_4 0 rfl rfl)
theorem dX2_says_94 : decode cX2_says 94 = .ok (.ifCond .eq 19, 3) := dk_153 0 19 (dk_at dksX2_says_4 3 rfl rfl)
theorem dX2_says_97 : decode cX2_says 97 = .ok (.iload 9, 2) := dk_21 9 (dk_at dksX2_says_4 6 rfl rfl)
theorem dX2_says_99 : decode cX2_says 99 = .ok (.iconst 2, 1) := dk_5 (dk_at dksX2_says_4 8 rfl rfl)
theorem dX2_says_100 : decode cX2_says 100 = .ok (.if_icmp .eq 9, 3) := dk_159 0 9 (dk_at dksX2_says_4 9 rfl rfl)
theorem dX2_says_103 : decode cX2_says 103 = .ok (.iload 9, 2) := dk_21 9 (dk_at dksX2_says_4 12 rfl rfl)
theorem dX2_says_105 : decode cX2_says 105 = .ok (.iload_n 2, 1) := dk_28 (dk_at dksX2_says_4 14 rfl rfl)
theorem dX2_says_106 : decode cX2_says 106 = .ok (.if_icmp .ne 7, 3) := dk_160 0 7 (dk_at dksX2_says_4 15 rfl rfl)
theorem dX2_says_109 : decode cX2_says 109 = .ok (.iconst 1, 1) := dk_4 (dk_at dksX2_says_4 18 rfl rfl)
theorem dX2_says_110 : decode cX2_says 110 = .ok (.goto 4, 3) := dk_167 0 4 (dk_at dksX2_says_4 19 rfl rfl)
theorem dX2_says_113 : decode cX2_says 113 = .ok (.iconst 0, 1) := dk_3 (dk_at dksX2_says_4 22 rfl rfl)
theorem dX2_says_114 : decode cX2_says 114 = .ok (.istore 10, 2) := dk_54 10 (dk_at dksX2_says_5 0 rfl rfl)
theorem dX2_says_116 : decode cX2_says 116 = .ok (.iload 10, 2) := dk_21 10 (dk_at dksX2_says_5 2 rfl rfl)
theorem dX2_says_118 : decode cX2_says 118 = .ok (.ifCond .eq 30, 3) := dk_153 0 30 (dk_at dksX2_says_5 4 rfl rfl)
theorem dX2_says_121 : decode cX2_says 121 = .ok (.aload_n 0, 1) := dk_42 (dk_at dksX2_says_5 7 rfl rfl)
theorem dX2_says_122 : decode cX2_says 122 = .ok (.aload 8, 2) := dk_25 8 (dk_at dksX2_says_5 8 rfl rfl)
theorem dX2_says_124 : decode cX2_says 124 = .ok (.invokeinterface 226 1, 5) := by decide +kernel
theorem dX2_says_129 : decode cX2_says 129 = .ok (.checkcast 87, 3) := dk_192 0 87 (dk_at dksX2_says_5 15 rfl rfl)
theorem dX2_says_132 : decode cX2_says 132 = .ok (.invokevirtual 89, 3) := dk_182 0 89 (dk_at dksX2_says_5 18 rfl rfl)
theorem dX2_says_135 : decode cX2_says 135 = .ok (.iconst 2, 1) := dk_5 (dk_at dksX2_says_5 21 rfl rfl)
theorem dX2_says_136 : decode cX2_says 136 = .ok (.idiv, 1) := dk_108 (dk_at dksX2_says_5 22 rfl rfl)
theorem dX2_says_137 : decode cX2_says 137 = .ok (.iconst 3, 1) := dk_6 (dk_at dksX2_says_5 23 rfl rfl)
theorem dX2_says_138 : decode cX2_says 138 = .ok (.idiv, 1) := dk_108 (dk_at dksX2_says_6 0 rfl rfl)
theorem dX2_says_139 : decode cX2_says 139 = .ok (.iconst 1, 1) := dk_4 (dk_at dksX2_says_6 1 rfl rfl)
theorem dX2_says_140 : decode cX2_says 140 = .ok (.isub, 1) := dk_100 (dk_at dksX2_says_6 2 rfl rfl)
theorem dX2_says_141 : decode cX2_says 141 = .ok (.iload_n 3, 1) := dk_29 (dk_at dksX2_says_6 3 rfl rfl)
theorem dX2_says_142 : decode cX2_says 142 = .ok (.invokevirtual 232, 3) := dk_182 0 232 (dk_at dksX2_says_6 4 rfl rfl)
theorem dX2_says_145 : decode cX2_says 145 = .ok (.goto 4, 3) := dk_167 0 4 (dk_at dksX2_says_6 7 rfl rfl)
theorem dX2_says_148 : decode cX2_says 148 = .ok (.iconst (-1), 1) := dk_2 (dk_at dksX2_says_6 10 rfl rfl)
theorem dX2_says_149 : decode cX2_says 149 = .ok (.istore 11, 2) := dk_54 11 (dk_at dksX2_says_6 11 rfl rfl)
theorem dX2_says_151 : decode cX2_says 151 = .ok (.iload 11, 2) := dk_21 11 (dk_at dksX2_says_6 13 rfl rfl)
theorem dX2_says_153 : decode cX2_says 153 = .ok (.iconst (-1), 1) := dk_2 (dk_at dksX2_says_6 15 rfl rfl)
theorem dX2_says_154 : decode cX2_says 154 = .ok (.if_icmp .eq 32, 3) := dk_159 0 32 (dk_at dksX2_says_6 16 rfl rfl)
theorem dX2_says_157 : decode cX2_says 157 = .ok (.iload 11, 2) := dk_21 11 (dk_at dksX2_says_6 19 rfl rfl)
theorem dX2_says_159 : decode cX2_says 159 = .ok (.iload 5, 2) := dk_21 5 (dk_at dksX2_says_6 21 rfl rfl)
theorem dX2_says_161 : decode cX2_says 161 = .ok (.if_icmp .ge 25, 3) := dk_162 0 25 (dk_at dksX2_says_7 0 rfl rfl)
theorem dX2_says_164 : decode cX2_says 164 = .ok (.iload 11, 2) := dk_21 11 (dk_at dksX2_says_7 3 rfl rfl)
theorem dX2_says_166 : decode cX2_says 166 = .ok (.istore 5, 2) := dk_54 5 (dk_at dksX2_says_7 5 rfl rfl)
theorem dX2_says_168 : decode cX2_says 168 = .ok (.aload 8, 2) := dk_25 8 (dk_at dksX2_says_7 7 rfl rfl)
theorem dX2_says_170 : decode cX2_says 170 = .ok (.invokeinterface 229 1, 5) := by decide +kernel
theorem dX2_says_175 : decode cX2_says 175 = .ok (.checkcast 87, 3) := dk_192 0 87 (dk_at dksX2_says_7 14 rfl rfl)
theorem dX2_says_178 : decode cX2_says 178 = .ok (.invokevirtual 89, 3) := dk_182 0 89 (dk_at dksX2_says_7 17 rfl rfl)
theorem dX2_says_181 : decode cX2_says 181 = .ok (.istore 6, 2) := dk_54 6 (dk_at dksX2_says_7 20 rfl rfl)
theorem dX2_says_183 : decode cX2_says 183 = .ok (.goto 36, 3) := dk_167 0 36 (dk_at dksX2_says_8 0 rfl rfl)
theorem dX2_says_186 : decode cX2_says 186 = .ok (.iload 11, 2) := dk_21 11 (dk_at dksX2_says_8 3 rfl rfl)
theorem dX2_says_188 : decode cX2_says 188 = .ok (.iconst (-1), 1) := dk_2 (dk_at dksX2_says_8 5 rfl rfl)
theorem dX2_says_189 : decode cX2_says 189 = .ok (.if_icmp .eq 30, 3) := dk_159 0 30 (dk_at dksX2_says_8 6 rfl rfl)
theorem dX2_says_192 : decode cX2_says 192 = .ok (.iload 11, 2) := dk_21 11 (dk_at dksX2_says_8 9 rfl rfl)
theorem dX2_says_194 : decode cX2_says 194 = .ok (.iload 5, 2) := dk_21 5 (dk_at dksX2_says_8 11 rfl rfl)
theorem dX2_says_196 : decode cX2_says 196 = .ok (.if_icmp .ne 23, 3) := dk_160 0 23 (dk_at dksX2_says_8 13 rfl rfl)
theorem dX2_says_199 : decode cX2_says 199 = .ok (.iload 6, 2) := dk_21 6 (dk_at dksX2_says_8 16 rfl rfl)
theorem dX2_says_201 : decode cX2_says 201 = .ok (.aload 8, 2) := dk_25 8 (dk_at dksX2_says_8 18 rfl rfl)
theorem dX2_says_203 : decode cX2_says 203 = .ok (.invokeinterface 229 1, 5) := by decide +kernel
theorem dX2_says_208 : decode cX2_says 208 = .ok (.checkcast 87, 3) := dk_192 0 87 (dk_at dksX2_says_9 5 rfl rfl)
theorem dX2_says_211 : decode cX2_says 211 = .ok (.invokevirtual 89, 3) := dk_182 0 89 (dk_at dksX2_says_9 8 rfl rfl)
theorem dX2_says_214 : decode cX2_says 214 = .ok (.invokestatic 136, 3) := dk_184 0 136 (dk_at dksX2_says_9 11 rfl rfl)
theorem dX2_says_217 : decode cX2_says 217 = .ok (.istore 6, 2) := dk_54 6 (dk_at dksX2_says_9 14 rfl rfl)
theorem dX2_says_219 : decode cX2_says 219 = .ok (.goto (-199), 3) := dk_167 255 57 (dk_at dksX2_says_9 16 rfl rfl)
theorem dX2_says_222 : decode cX2_says 222 = .ok (.iload 6, 2) := dk_21 6 (dk_at dksX2_says_9 19 rfl rfl)
theorem dX2_says_224 : decode cX2_says 224 = .ok (.ireturn, 1) := dk_172 (dk_at dksX2_says_9 21 rfl rfl)
def fX2_says_b219 (e : Nat → Nat) (N : Nat) (k20 : Mm → Option Nat → Int32 → Int32 → Int32 → Int32 → Int32 → Option Nat → Rs (Int32)) (m : Mm) (v0 : Option Nat) (v2 : Int32) (v3 : Int32) (v4 : Int32) (v5 : Int32) (v6 : Int32) (v7 : Option Nat) : Rs (Int32) := k20 m v0 v2 v3 v4 v5 v6 v7
def fX2_says_b186 (e : Nat → Nat) (N : Nat) (k20 : Mm → Option Nat → Int32 → Int32 → Int32 → Int32 → Int32 → Option Nat → Rs (Int32)) (m : Mm) (v0 : Option Nat) (v2 : Int32) (v3 : Int32) (v4 : Int32) (v5 : Int32) (v6 : Int32) (v7 : Option Nat) (v8 : Option Nat) (v11 : Int32) : Rs (Int32) := if v11 = (-1) then (fX2_says_b219 e N k20 m v0 v2 v3 v4 v5 v6 v7) else (if v11 = v5 then (ck_ m v8 16 (bd_ (fJ37_getValue e N m v8) (fun x1 m1 => cc_ m1 x1 [27] (ck_ m1 x1 27 (bd_ (fJ21_intValue e N m1 x1) (fun x2 m2 => fX2_says_b219 e N k20 m2 v0 v2 v3 v4 v5 (if (v6 : Int32) < x2 then x2 else v6) v7)))))) else (fX2_says_b219 e N k20 m v0 v2 v3 v4 v5 v6 v7))
def fX2_says_b149 (e : Nat → Nat) (N : Nat) (k20 : Mm → Option Nat → Int32 → Int32 → Int32 → Int32 → Int32 → Option Nat → Rs (Int32)) (m : Mm) (v0 : Option Nat) (v2 : Int32) (v3 : Int32) (v4 : Int32) (v5 : Int32) (v6 : Int32) (v7 : Option Nat) (v8 : Option Nat) (s0 : Int32) : Rs (Int32) := if s0 = (-1) then (fX2_says_b186 e N k20 m v0 v2 v3 v4 v5 v6 v7 v8 s0) else (if s0 < v5 then (ck_ m v8 16 (bd_ (fJ37_getValue e N m v8) (fun x1 m1 => cc_ m1 x1 [27] (ck_ m1 x1 27 (bd_ (fJ21_intValue e N m1 x1) (fun x2 m2 => fX2_says_b219 e N k20 m2 v0 v2 v3 v4 s0 x2 v7)))))) else (fX2_says_b186 e N k20 m v0 v2 v3 v4 v5 v6 v7 v8 s0))
def fX2_says_b114 (e : Nat → Nat) (N : Nat) (k20 : Mm → Option Nat → Int32 → Int32 → Int32 → Int32 → Int32 → Option Nat → Rs (Int32)) (m : Mm) (v0 : Option Nat) (v2 : Int32) (v3 : Int32) (v4 : Int32) (v5 : Int32) (v6 : Int32) (v7 : Option Nat) (v8 : Option Nat) (s0 : Int32) : Rs (Int32) := if s0 = 0 then (fX2_says_b149 e N k20 m v0 v2 v3 v4 v5 v6 v7 v8 (-1)) else (ck_ m v8 16 (bd_ (fJ37_getKey e N m v8) (fun x1 m1 => cc_ m1 x1 [27] (ck_ m1 x1 27 (bd_ (fJ21_intValue e N m1 x1) (fun x2 m2 => ck_ m2 v0 2 (bd_ (fX2_sort e N m2 v0 (((x2 / 2) / 3) - 1) v3) (fun x3 m3 => fX2_says_b149 e N k20 m3 v0 v2 v3 v4 v5 v6 v7 v8 x3))))))))
def fX2_says_b109 (e : Nat → Nat) (N : Nat) (k20 : Mm → Option Nat → Int32 → Int32 → Int32 → Int32 → Int32 → Option Nat → Rs (Int32)) (m : Mm) (v0 : Option Nat) (v2 : Int32) (v3 : Int32) (v4 : Int32) (v5 : Int32) (v6 : Int32) (v7 : Option Nat) (v8 : Option Nat) : Rs (Int32) := fX2_says_b114 e N k20 m v0 v2 v3 v4 v5 v6 v7 v8 1
def fX2_says_b113 (e : Nat → Nat) (N : Nat) (k20 : Mm → Option Nat → Int32 → Int32 → Int32 → Int32 → Int32 → Option Nat → Rs (Int32)) (m : Mm) (v0 : Option Nat) (v2 : Int32) (v3 : Int32) (v4 : Int32) (v5 : Int32) (v6 : Int32) (v7 : Option Nat) (v8 : Option Nat) : Rs (Int32) := fX2_says_b114 e N k20 m v0 v2 v3 v4 v5 v6 v7 v8 0
def fX2_says_b20 (e : Nat → Nat) (N : Nat) : Nat → Mm → Option Nat → Int32 → Int32 → Int32 → Int32 → Int32 → Option Nat → Rs (Int32)
  | 0, _, _, _, _, _, _, _, _ => none
  | F + 1, m, v0, v2, v3, v4, v5, v6, v7 => ck_ m v7 20 (bd_ (fJ30_hasNext_t20 e N m v7) (fun x1 m1 => if x1 = 0 then (rt_ v6 m1) else (ck_ m1 v7 20 (bd_ (fJ31_next e N m1 v7) (fun x2 m2 => cc_ m2 x2 [16] (ck_ m2 x2 16 (bd_ (fJ37_getKey e N m2 x2) (fun x3 m3 => cc_ m3 x3 [27] (ck_ m3 x3 27 (bd_ (fJ21_intValue e N m3 x3) (fun x4 m4 => ck_ m4 x2 16 (bd_ (fJ37_getKey e N m4 x2) (fun x5 m5 => cc_ m5 x5 [27] (ck_ m5 x5 27 (bd_ (fJ21_intValue e N m5 x5) (fun x6 m6 => if (x6 - x6 / 2 * 2) = v4 then (ck_ m6 x2 16 (bd_ (fJ37_getValue e N m6 x2) (fun x7 m7 => cc_ m7 x7 [27] (ck_ m7 x7 27 (bd_ (fJ21_intValue e N m7 x7) (fun x8 m8 => if x8 = 0 then (fX2_says_b113 e N (fX2_says_b20 e N F) m8 v0 v2 v3 v4 v5 v6 v7 x2) else (if ((x4 / 2) - (x4 / 2) / 3 * 3) = 2 then (fX2_says_b109 e N (fX2_says_b20 e N F) m8 v0 v2 v3 v4 v5 v6 v7 x2) else (if ((x4 / 2) - (x4 / 2) / 3 * 3) = v2 then (fX2_says_b109 e N (fX2_says_b20 e N F) m8 v0 v2 v3 v4 v5 v6 v7 x2) else (fX2_says_b113 e N (fX2_says_b20 e N F) m8 v0 v2 v3 v4 v5 v6 v7 x2))))))))) else (fX2_says_b113 e N (fX2_says_b20 e N F) m6 v0 v2 v3 v4 v5 v6 v7 x2)))))))))))))))))
def fX2_says (e : Nat → Nat) (N : Nat) (m : Mm) (v0 : Option Nat) (v1 : Option Nat) (v2 : Int32) (v3 : Int32) (v4 : Int32) : Rs (Int32) := gr_ m v1 3 8 (fun x1 => ck_ m x1 15 (bd_ (fJ4_entrySet e N m x1) (fun x2 m1 => ck_ m1 x2 19 (bd_ (fJ25_iterator e N m1 x2) (fun x3 m2 => fX2_says_b20 e N N m2 v0 v2 v3 v4 3 0 x3)))))
abbrev cX2_shownAt : ByteArray := prog_21_method_6_code
def yX2_shownAt : MethodName := ⟨RX2, "shownAt", "(I)I"⟩
def dkwX2_shownAt_1 : List UInt8 := [167, 0, 4, 28, 172]
abbrev dktX2_shownAt_1 : List UInt8 := dkwX2_shownAt_1 ++ []
def dkwX2_shownAt_0 : List UInt8 := [42, 180, 0, 24, 27, 46, 61, 28, 2, 159, 0, 16, 42, 28, 182, 0, 61, 154, 0, 8, 16, 254]
abbrev dktX2_shownAt_0 : List UInt8 := dkwX2_shownAt_0 ++ dktX2_shownAt_1
theorem dksX2_shownAt_0 : cX2_shownAt.data.toList.drop 0 = dktX2_shownAt_0 := by decide +kernel
theorem dksX2_shownAt_1 : cX2_shownAt.data.toList.drop 22 = dktX2_shownAt_1 := dk_seg dksX2_shownAt_0 22 rfl rfl
theorem dX2_shownAt_0 : decode cX2_shownAt 0 = .ok (.aload_n 0, 1) := dk_42 (dk_at dksX2_shownAt_0 0 rfl rfl)
theorem dX2_shownAt_1 : decode cX2_shownAt 1 = .ok (.getfield 24, 3) := dk_180 0 24 (dk_at dksX2_shownAt_0 1 rfl rfl)
theorem dX2_shownAt_4 : decode cX2_shownAt 4 = .ok (.iload_n 1, 1) := dk_27 (dk_at dksX2_shownAt_0 4 rfl rfl)
theorem dX2_shownAt_5 : decode cX2_shownAt 5 = .ok (.iaload, 1) := dk_46 (dk_at dksX2_shownAt_0 5 rfl rfl)
theorem dX2_shownAt_6 : decode cX2_shownAt 6 = .ok (.istore_n 2, 1) := dk_61 (dk_at dksX2_shownAt_0 6 rfl rfl)
theorem dX2_shownAt_7 : decode cX2_shownAt 7 = .ok (.iload_n 2, 1) := dk_28 (dk_at dksX2_shownAt_0 7 rfl rfl)
theorem dX2_shownAt_8 : decode cX2_shownAt 8 = .ok (.iconst (-1), 1) := dk_2 (dk_at dksX2_shownAt_0 8 rfl rfl)
theorem dX2_shownAt_9 : decode cX2_shownAt 9 = .ok (.if_icmp .eq 16, 3) := dk_159 0 16 (dk_at dksX2_shownAt_0 9 rfl rfl)
theorem dX2_shownAt_12 : decode cX2_shownAt 12 = .ok (.aload_n 0, 1) := dk_42 (dk_at dksX2_shownAt_0 12 rfl rfl)
theorem dX2_shownAt_13 : decode cX2_shownAt 13 = .ok (.iload_n 2, 1) := dk_28 (dk_at dksX2_shownAt_0 13 rfl rfl)
theorem dX2_shownAt_14 : decode cX2_shownAt 14 = .ok (.invokevirtual 61, 3) := dk_182 0 61 (dk_at dksX2_shownAt_0 14 rfl rfl)
theorem dX2_shownAt_17 : decode cX2_shownAt 17 = .ok (.ifCond .ne 8, 3) := dk_154 0 8 (dk_at dksX2_shownAt_0 17 rfl rfl)
theorem dX2_shownAt_20 : decode cX2_shownAt 20 = .ok (.bipush (-2), 2) := dk_16 254 (dk_at dksX2_shownAt_0 20 rfl rfl)
theorem dX2_shownAt_22 : decode cX2_shownAt 22 = .ok (.goto 4, 3) := dk_167 0 4 (dk_at dksX2_shownAt_1 0 rfl rfl)
theorem dX2_shownAt_25 : decode cX2_shownAt 25 = .ok (.iload_n 2, 1) := dk_28 (dk_at dksX2_shownAt_1 3 rfl rfl)
theorem dX2_shownAt_26 : decode cX2_shownAt 26 = .ok (.ireturn, 1) := dk_172 (dk_at dksX2_shownAt_1 4 rfl rfl)
def fX2_shownAt_b26 (e : Nat → Nat) (N : Nat) (m : Mm) (s0 : Int32) : Rs (Int32) := rt_ s0 m
def fX2_shownAt_b25 (e : Nat → Nat) (N : Nat) (m : Mm) (v2 : Int32) : Rs (Int32) := fX2_shownAt_b26 e N m v2
def fX2_shownAt (e : Nat → Nat) (N : Nat) (m : Mm) (v0 : Option Nat) (v1 : Int32) : Rs (Int32) := gr_ m v0 2 7 (fun x1 => ai_ m x1 200 v1 (fun x2 => if x2 = (-1) then (fX2_shownAt_b25 e N m x2) else (ck_ m v0 2 (bd_ (fX2_isLive e N m v0 x2) (fun x3 m1 => if x3 = 0 then (fX2_shownAt_b26 e N m1 (-2)) else (fX2_shownAt_b25 e N m1 x2))))))
abbrev cX2_may : ByteArray := prog_21_method_15_code
def yX2_may : MethodName := ⟨RX2, "may", "(III)Z"⟩
def dkwX2_may_3 : List UInt8 := [167, 0, 18, 3, 167, 0, 14, 21, 4, 4, 160, 0, 7, 4, 167, 0, 4, 3, 172]
abbrev dktX2_may_3 : List UInt8 := dkwX2_may_3 ++ []
def dkwX2_may_2 : List UInt8 := [42, 21, 5, 182, 0, 171, 54, 5, 132, 6, 1, 167, 255, 214, 21, 4, 154, 0, 15, 29, 154, 0, 7, 4]
abbrev dktX2_may_2 : List UInt8 := dkwX2_may_2 ++ dktX2_may_3
def dkwX2_may_1 : List UInt8 := [154, 0, 38, 42, 42, 180, 0, 20, 21, 5, 50, 21, 6, 5, 184, 0, 235, 27, 29, 182, 0, 238, 54, 4]
abbrev dktX2_may_1 : List UInt8 := dkwX2_may_1 ++ dktX2_may_2
def dkwX2_may_0 : List UInt8 := [27, 154, 0, 7, 4, 167, 0, 4, 3, 54, 4, 28, 54, 5, 3, 54, 6, 21, 5, 155, 0, 43, 21, 4]
abbrev dktX2_may_0 : List UInt8 := dkwX2_may_0 ++ dktX2_may_1
theorem dksX2_may_0 : cX2_may.data.toList.drop 0 = dktX2_may_0 := by decide +kernel
theorem dksX2_may_1 : cX2_may.data.toList.drop 24 = dktX2_may_1 := dk_seg dksX2_may_0 24 rfl rfl
theorem dksX2_may_2 : cX2_may.data.toList.drop 48 = dktX2_may_2 := dk_seg dksX2_may_1 24 rfl rfl
theorem dksX2_may_3 : cX2_may.data.toList.drop 72 = dktX2_may_3 := dk_seg dksX2_may_2 24 rfl rfl
theorem dX2_may_0 : decode cX2_may 0 = .ok (.iload_n 1, 1) := dk_27 (dk_at dksX2_may_0 0 rfl rfl)
theorem dX2_may_1 : decode cX2_may 1 = .ok (.ifCond .ne 7, 3) := dk_154 0 7 (dk_at dksX2_may_0 1 rfl rfl)
theorem dX2_may_4 : decode cX2_may 4 = .ok (.iconst 1, 1) := dk_4 (dk_at dksX2_may_0 4 rfl rfl)
theorem dX2_may_5 : decode cX2_may 5 = .ok (.goto 4, 3) := dk_167 0 4 (dk_at dksX2_may_0 5 rfl rfl)
theorem dX2_may_8 : decode cX2_may 8 = .ok (.iconst 0, 1) := dk_3 (dk_at dksX2_may_0 8 rfl rfl)
theorem dX2_may_9 : decode cX2_may 9 = .ok (.istore 4, 2) := dk_54 4 (dk_at dksX2_may_0 9 rfl rfl)
theorem dX2_may_11 : decode cX2_may 11 = .ok (.iload_n 2, 1) := dk_28 (dk_at dksX2_may_0 11 rfl rfl)
theorem dX2_may_12 : decode cX2_may 12 = .ok (.istore 5, 2) := dk_54 5 (dk_at dksX2_may_0 12 rfl rfl)
theorem dX2_may_14 : decode cX2_may 14 = .ok (.iconst 0, 1) := dk_3 (dk_at dksX2_may_0 14 rfl rfl)
theorem dX2_may_15 : decode cX2_may 15 = .ok (.istore 6, 2) := dk_54 6 (dk_at dksX2_may_0 15 rfl rfl)
theorem dX2_may_17 : decode cX2_may 17 = .ok (.iload 5, 2) := dk_21 5 (dk_at dksX2_may_0 17 rfl rfl)
theorem dX2_may_19 : decode cX2_may 19 = .ok (.ifCond .lt 43, 3) := dk_155 0 43 (dk_at dksX2_may_0 19 rfl rfl)
theorem dX2_may_22 : decode cX2_may 22 = .ok (.iload 4, 2) := dk_21 4 (dk_at dksX2_may_0 22 rfl rfl)
theorem dX2_may_24 : decode cX2_may 24 = .ok (.ifCond .ne 38, 3) := dk_154 0 38 (dk_at dksX2_may_1 0 rfl rfl)
theorem dX2_may_27 : decode cX2_may 27 = .ok (.aload_n 0, 1) := dk_42 (dk_at dksX2_may_1 3 rfl rfl)
theorem dX2_may_28 : decode cX2_may 28 = .ok (.aload_n 0, 1) := dk_42 (dk_at dksX2_may_1 4 rfl rfl)
theorem dX2_may_29 : decode cX2_may 29 = .ok (.getfield 20, 3) := dk_180 0 20 (dk_at dksX2_may_1 5 rfl rfl)
theorem dX2_may_32 : decode cX2_may 32 = .ok (.iload 5, 2) := dk_21 5 (dk_at dksX2_may_1 8 rfl rfl)
theorem dX2_may_34 : decode cX2_may 34 = .ok (.aaload, 1) := dk_50 (dk_at dksX2_may_1 10 rfl rfl)
theorem dX2_may_35 : decode cX2_may 35 = .ok (.iload 6, 2) := dk_21 6 (dk_at dksX2_may_1 11 rfl rfl)
theorem dX2_may_37 : decode cX2_may 37 = .ok (.iconst 2, 1) := dk_5 (dk_at dksX2_may_1 13 rfl rfl)
theorem dX2_may_38 : decode cX2_may 38 = .ok (.invokestatic 235, 3) := dk_184 0 235 (dk_at dksX2_may_1 14 rfl rfl)
theorem dX2_may_41 : decode cX2_may 41 = .ok (.iload_n 1, 1) := dk_27 (dk_at dksX2_may_1 17 rfl rfl)
theorem dX2_may_42 : decode cX2_may 42 = .ok (.iload_n 3, 1) := dk_29 (dk_at dksX2_may_1 18 rfl rfl)
theorem dX2_may_43 : decode cX2_may 43 = .ok (.invokevirtual 238, 3) := dk_182 0 238 (dk_at dksX2_may_1 19 rfl rfl)
theorem dX2_may_46 : decode cX2_may 46 = .ok (.istore 4, 2) := dk_54 4 (dk_at dksX2_may_1 22 rfl rfl)
theorem dX2_may_48 : decode cX2_may 48 = .ok (.aload_n 0, 1) := dk_42 (dk_at dksX2_may_2 0 rfl rfl)
theorem dX2_may_49 : decode cX2_may 49 = .ok (.iload 5, 2) := dk_21 5 (dk_at dksX2_may_2 1 rfl rfl)
theorem dX2_may_51 : decode cX2_may 51 = .ok (.invokevirtual 171, 3) := dk_182 0 171 (dk_at dksX2_may_2 3 rfl rfl)
theorem dX2_may_54 : decode cX2_may 54 = .ok (.istore 5, 2) := dk_54 5 (dk_at dksX2_may_2 6 rfl rfl)
theorem dX2_may_56 : decode cX2_may 56 = .ok (.iinc 6 1, 3) := dk_132 6 1 (dk_at dksX2_may_2 8 rfl rfl)
theorem dX2_may_59 : decode cX2_may 59 = .ok (.goto (-42), 3) := dk_167 255 214 (dk_at dksX2_may_2 11 rfl rfl)
theorem dX2_may_62 : decode cX2_may 62 = .ok (.iload 4, 2) := dk_21 4 (dk_at dksX2_may_2 14 rfl rfl)
theorem dX2_may_64 : decode cX2_may 64 = .ok (.ifCond .ne 15, 3) := dk_154 0 15 (dk_at dksX2_may_2 16 rfl rfl)
theorem dX2_may_67 : decode cX2_may 67 = .ok (.iload_n 3, 1) := dk_29 (dk_at dksX2_may_2 19 rfl rfl)
theorem dX2_may_68 : decode cX2_may 68 = .ok (.ifCond .ne 7, 3) := dk_154 0 7 (dk_at dksX2_may_2 20 rfl rfl)
theorem dX2_may_71 : decode cX2_may 71 = .ok (.iconst 1, 1) := dk_4 (dk_at dksX2_may_2 23 rfl rfl)
theorem dX2_may_72 : decode cX2_may 72 = .ok (.goto 18, 3) := dk_167 0 18 (dk_at dksX2_may_3 0 rfl rfl)
theorem dX2_may_75 : decode cX2_may 75 = .ok (.iconst 0, 1) := dk_3 (dk_at dksX2_may_3 3 rfl rfl)
theorem dX2_may_76 : decode cX2_may 76 = .ok (.goto 14, 3) := dk_167 0 14 (dk_at dksX2_may_3 4 rfl rfl)
theorem dX2_may_79 : decode cX2_may 79 = .ok (.iload 4, 2) := dk_21 4 (dk_at dksX2_may_3 7 rfl rfl)
theorem dX2_may_81 : decode cX2_may 81 = .ok (.iconst 1, 1) := dk_4 (dk_at dksX2_may_3 9 rfl rfl)
theorem dX2_may_82 : decode cX2_may 82 = .ok (.if_icmp .ne 7, 3) := dk_160 0 7 (dk_at dksX2_may_3 10 rfl rfl)
theorem dX2_may_85 : decode cX2_may 85 = .ok (.iconst 1, 1) := dk_4 (dk_at dksX2_may_3 13 rfl rfl)
theorem dX2_may_86 : decode cX2_may 86 = .ok (.goto 4, 3) := dk_167 0 4 (dk_at dksX2_may_3 14 rfl rfl)
theorem dX2_may_89 : decode cX2_may 89 = .ok (.iconst 0, 1) := dk_3 (dk_at dksX2_may_3 17 rfl rfl)
theorem dX2_may_90 : decode cX2_may 90 = .ok (.ireturn, 1) := dk_172 (dk_at dksX2_may_3 18 rfl rfl)
def fX2_may_b90 (e : Nat → Nat) (N : Nat) (m : Mm) (s0 : Int32) : Rs (Int32) := rz_ s0 s0 m
def fX2_may_b62 (e : Nat → Nat) (N : Nat) (m : Mm) (v3 : Int32) (v4 : Int32) : Rs (Int32) := if v4 = 0 then (if v3 = 0 then (fX2_may_b90 e N m 1) else (fX2_may_b90 e N m 0)) else (if v4 = 1 then (fX2_may_b90 e N m 1) else (fX2_may_b90 e N m 0))
def fX2_may_b17 (e : Nat → Nat) (N : Nat) : Nat → Mm → Option Nat → Int32 → Int32 → Int32 → Int32 → Int32 → Rs (Int32)
  | 0, _, _, _, _, _, _, _ => none
  | F + 1, m, v0, v1, v3, v4, v5, v6 => if v5 < 0 then (fX2_may_b62 e N m v3 v4) else (if v4 = 0 then (gr_ m v0 2 6 (fun x1 => ar_ m x1 205 v5 (fun x2 => ck_ m v0 2 (bd_ (fX2_says e N m v0 x2 (if (2 : Int32) < v6 then 2 else v6) v1 v3) (fun x3 m1 => ck_ m1 v0 2 (bd_ (fX2_shownAt e N m1 v0 v5) (fun x4 m2 => fX2_may_b17 e N F m2 v0 v1 v3 x3 x4 (v6 + 1)))))))) else (fX2_may_b62 e N m v3 v4))
def fX2_may_b9 (e : Nat → Nat) (N : Nat) (m : Mm) (v0 : Option Nat) (v1 : Int32) (v2 : Int32) (v3 : Int32) (s0 : Int32) : Rs (Int32) := fX2_may_b17 e N N m v0 v1 v3 s0 v2 0
def fX2_may (e : Nat → Nat) (N : Nat) (m : Mm) (v0 : Option Nat) (v1 : Int32) (v2 : Int32) (v3 : Int32) : Rs (Int32) := if v1 = 0 then (fX2_may_b9 e N m v0 v1 v2 v3 1) else (fX2_may_b9 e N m v0 v1 v2 v3 0)
abbrev cX1_mayWrite : ByteArray := prog_1_method_19_code
def yX1_mayWrite : MethodName := ⟨RX1, "mayWrite", "(LMasterTree$Master;I)V"⟩
def dkwX1_mayWrite_1 : List UInt8 := [180, 0, 189, 28, 4, 182, 0, 209, 18, 213, 184, 0, 165, 177]
abbrev dktX1_mayWrite_1 : List UInt8 := dkwX1_mayWrite_1 ++ []
def dkwX1_mayWrite_0 : List UInt8 := [42, 180, 0, 204, 17, 0, 250, 162, 0, 7, 4, 167, 0, 4, 3, 18, 207, 184, 0, 165, 43, 43]
abbrev dktX1_mayWrite_0 : List UInt8 := dkwX1_mayWrite_0 ++ dktX1_mayWrite_1
theorem dksX1_mayWrite_0 : cX1_mayWrite.data.toList.drop 0 = dktX1_mayWrite_0 := by decide +kernel
theorem dksX1_mayWrite_1 : cX1_mayWrite.data.toList.drop 22 = dktX1_mayWrite_1 := dk_seg dksX1_mayWrite_0 22 rfl rfl
theorem dX1_mayWrite_0 : decode cX1_mayWrite 0 = .ok (.aload_n 0, 1) := dk_42 (dk_at dksX1_mayWrite_0 0 rfl rfl)
theorem dX1_mayWrite_1 : decode cX1_mayWrite 1 = .ok (.getfield 204, 3) := dk_180 0 204 (dk_at dksX1_mayWrite_0 1 rfl rfl)
theorem dX1_mayWrite_4 : decode cX1_mayWrite 4 = .ok (.sipush 250, 3) := dk_17 0 250 (dk_at dksX1_mayWrite_0 4 rfl rfl)
theorem dX1_mayWrite_7 : decode cX1_mayWrite 7 = .ok (.if_icmp .ge 7, 3) := dk_162 0 7 (dk_at dksX1_mayWrite_0 7 rfl rfl)
theorem dX1_mayWrite_10 : decode cX1_mayWrite 10 = .ok (.iconst 1, 1) := dk_4 (dk_at dksX1_mayWrite_0 10 rfl rfl)
theorem dX1_mayWrite_11 : decode cX1_mayWrite 11 = .ok (.goto 4, 3) := dk_167 0 4 (dk_at dksX1_mayWrite_0 11 rfl rfl)
theorem dX1_mayWrite_14 : decode cX1_mayWrite 14 = .ok (.iconst 0, 1) := dk_3 (dk_at dksX1_mayWrite_0 14 rfl rfl)
theorem dX1_mayWrite_15 : decode cX1_mayWrite 15 = .ok (.ldc 207, 2) := dk_18 207 (dk_at dksX1_mayWrite_0 15 rfl rfl)
theorem dX1_mayWrite_17 : decode cX1_mayWrite 17 = .ok (.invokestatic 165, 3) := dk_184 0 165 (dk_at dksX1_mayWrite_0 17 rfl rfl)
theorem dX1_mayWrite_20 : decode cX1_mayWrite 20 = .ok (.aload_n 1, 1) := dk_43 (dk_at dksX1_mayWrite_0 20 rfl rfl)
theorem dX1_mayWrite_21 : decode cX1_mayWrite 21 = .ok (.aload_n 1, 1) := dk_43 (dk_at dksX1_mayWrite_0 21 rfl rfl)
theorem dX1_mayWrite_22 : decode cX1_mayWrite 22 = .ok (.getfield 189, 3) := dk_180 0 189 (dk_at dksX1_mayWrite_1 0 rfl rfl)
theorem dX1_mayWrite_25 : decode cX1_mayWrite 25 = .ok (.iload_n 2, 1) := dk_28 (dk_at dksX1_mayWrite_1 3 rfl rfl)
theorem dX1_mayWrite_26 : decode cX1_mayWrite 26 = .ok (.iconst 1, 1) := dk_4 (dk_at dksX1_mayWrite_1 4 rfl rfl)
theorem dX1_mayWrite_27 : decode cX1_mayWrite 27 = .ok (.invokevirtual 209, 3) := dk_182 0 209 (dk_at dksX1_mayWrite_1 5 rfl rfl)
theorem dX1_mayWrite_30 : decode cX1_mayWrite 30 = .ok (.ldc 213, 2) := dk_18 213 (dk_at dksX1_mayWrite_1 8 rfl rfl)
theorem dX1_mayWrite_32 : decode cX1_mayWrite 32 = .ok (.invokestatic 165, 3) := dk_184 0 165 (dk_at dksX1_mayWrite_1 10 rfl rfl)
theorem dX1_mayWrite_35 : decode cX1_mayWrite 35 = .ok (.return_, 1) := dk_177 (dk_at dksX1_mayWrite_1 13 rfl rfl)
def fX1_mayWrite_b15 (e : Nat → Nat) (N : Nat) (m : Mm) (v1 : Option Nat) (v2 : Int32) (s0 : Int32) : Rs (Unit ⊕ Nat) := bd_ (fX1_must e N m s0 (some (e (100 + 15)))) (xf_ (fun _ m1 => gi_ m1 v1 2 3 (fun x1 => ck_ m1 v1 2 (bd_ (fX2_may e N m1 v1 x1 v2 1) (fun x2 m2 => bd_ (fX1_must e N m2 x2 (some (e (100 + 16)))) (xf_ (fun _ m3 => rt_ (.inl ()) m3)))))))
def fX1_mayWrite (e : Nat → Nat) (N : Nat) (m : Mm) (v0 : Option Nat) (v1 : Option Nat) (v2 : Int32) : Rs (Unit ⊕ Nat) := gi_ m v0 1 7 (fun x1 => if x1 < 250 then (fX1_mayWrite_b15 e N m v1 v2 1) else (fX1_mayWrite_b15 e N m v1 v2 0))
abbrev cX2_isAt : ByteArray := prog_21_method_7_code
def yX2_isAt : MethodName := ⟨RX2, "isAt", "(II)Z"⟩
def dkwX2_isAt_1 : List UInt8 := [167, 0, 4, 3, 172]
abbrev dktX2_isAt_1 : List UInt8 := dkwX2_isAt_1 ++ []
def dkwX2_isAt_0 : List UInt8 := [27, 153, 0, 24, 42, 27, 182, 0, 61, 153, 0, 16, 42, 27, 182, 0, 171, 28, 160, 0, 7, 4]
abbrev dktX2_isAt_0 : List UInt8 := dkwX2_isAt_0 ++ dktX2_isAt_1
theorem dksX2_isAt_0 : cX2_isAt.data.toList.drop 0 = dktX2_isAt_0 := by decide +kernel
theorem dksX2_isAt_1 : cX2_isAt.data.toList.drop 22 = dktX2_isAt_1 := dk_seg dksX2_isAt_0 22 rfl rfl
theorem dX2_isAt_0 : decode cX2_isAt 0 = .ok (.iload_n 1, 1) := dk_27 (dk_at dksX2_isAt_0 0 rfl rfl)
theorem dX2_isAt_1 : decode cX2_isAt 1 = .ok (.ifCond .eq 24, 3) := dk_153 0 24 (dk_at dksX2_isAt_0 1 rfl rfl)
theorem dX2_isAt_4 : decode cX2_isAt 4 = .ok (.aload_n 0, 1) := dk_42 (dk_at dksX2_isAt_0 4 rfl rfl)
theorem dX2_isAt_5 : decode cX2_isAt 5 = .ok (.iload_n 1, 1) := dk_27 (dk_at dksX2_isAt_0 5 rfl rfl)
theorem dX2_isAt_6 : decode cX2_isAt 6 = .ok (.invokevirtual 61, 3) := dk_182 0 61 (dk_at dksX2_isAt_0 6 rfl rfl)
theorem dX2_isAt_9 : decode cX2_isAt 9 = .ok (.ifCond .eq 16, 3) := dk_153 0 16 (dk_at dksX2_isAt_0 9 rfl rfl)
theorem dX2_isAt_12 : decode cX2_isAt 12 = .ok (.aload_n 0, 1) := dk_42 (dk_at dksX2_isAt_0 12 rfl rfl)
theorem dX2_isAt_13 : decode cX2_isAt 13 = .ok (.iload_n 1, 1) := dk_27 (dk_at dksX2_isAt_0 13 rfl rfl)
theorem dX2_isAt_14 : decode cX2_isAt 14 = .ok (.invokevirtual 171, 3) := dk_182 0 171 (dk_at dksX2_isAt_0 14 rfl rfl)
theorem dX2_isAt_17 : decode cX2_isAt 17 = .ok (.iload_n 2, 1) := dk_28 (dk_at dksX2_isAt_0 17 rfl rfl)
theorem dX2_isAt_18 : decode cX2_isAt 18 = .ok (.if_icmp .ne 7, 3) := dk_160 0 7 (dk_at dksX2_isAt_0 18 rfl rfl)
theorem dX2_isAt_21 : decode cX2_isAt 21 = .ok (.iconst 1, 1) := dk_4 (dk_at dksX2_isAt_0 21 rfl rfl)
theorem dX2_isAt_22 : decode cX2_isAt 22 = .ok (.goto 4, 3) := dk_167 0 4 (dk_at dksX2_isAt_1 0 rfl rfl)
theorem dX2_isAt_25 : decode cX2_isAt 25 = .ok (.iconst 0, 1) := dk_3 (dk_at dksX2_isAt_1 3 rfl rfl)
theorem dX2_isAt_26 : decode cX2_isAt 26 = .ok (.ireturn, 1) := dk_172 (dk_at dksX2_isAt_1 4 rfl rfl)
def fX2_isAt_b26 (e : Nat → Nat) (N : Nat) (m : Mm) (s0 : Int32) : Rs (Int32) := rz_ s0 s0 m
def fX2_isAt_b25 (e : Nat → Nat) (N : Nat) (m : Mm) : Rs (Int32) := fX2_isAt_b26 e N m 0
def fX2_isAt (e : Nat → Nat) (N : Nat) (m : Mm) (v0 : Option Nat) (v1 : Int32) (v2 : Int32) : Rs (Int32) := if v1 = 0 then (fX2_isAt_b25 e N m) else (ck_ m v0 2 (bd_ (fX2_isLive e N m v0 v1) (fun x1 m1 => if x1 = 0 then (fX2_isAt_b25 e N m1) else (ck_ m1 v0 2 (bd_ (fX2_shownAt e N m1 v0 v1) (fun x2 m2 => if x2 = v2 then (fX2_isAt_b26 e N m2 1) else (fX2_isAt_b25 e N m2)))))))
abbrev cX3_isAhead : ByteArray := prog_7_method_9_code
def yX3_isAhead : MethodName := ⟨RX3, "isAhead", "(LMasterTree$Entry;)Z"⟩
def dkwX3_isAhead_0 : List UInt8 := [42, 180, 0, 38, 43, 180, 0, 38, 182, 0, 129, 156, 0, 7, 4, 167, 0, 4, 3, 172]
abbrev dktX3_isAhead_0 : List UInt8 := dkwX3_isAhead_0 ++ []
theorem dksX3_isAhead_0 : cX3_isAhead.data.toList.drop 0 = dktX3_isAhead_0 := by decide +kernel
theorem dX3_isAhead_0 : decode cX3_isAhead 0 = .ok (.aload_n 0, 1) := dk_42 (dk_at dksX3_isAhead_0 0 rfl rfl)
theorem dX3_isAhead_1 : decode cX3_isAhead 1 = .ok (.getfield 38, 3) := dk_180 0 38 (dk_at dksX3_isAhead_0 1 rfl rfl)
theorem dX3_isAhead_4 : decode cX3_isAhead 4 = .ok (.aload_n 1, 1) := dk_43 (dk_at dksX3_isAhead_0 4 rfl rfl)
theorem dX3_isAhead_5 : decode cX3_isAhead 5 = .ok (.getfield 38, 3) := dk_180 0 38 (dk_at dksX3_isAhead_0 5 rfl rfl)
theorem dX3_isAhead_8 : decode cX3_isAhead 8 = .ok (.invokevirtual 129, 3) := dk_182 0 129 (dk_at dksX3_isAhead_0 8 rfl rfl)
theorem dX3_isAhead_11 : decode cX3_isAhead 11 = .ok (.ifCond .ge 7, 3) := dk_156 0 7 (dk_at dksX3_isAhead_0 11 rfl rfl)
theorem dX3_isAhead_14 : decode cX3_isAhead 14 = .ok (.iconst 1, 1) := dk_4 (dk_at dksX3_isAhead_0 14 rfl rfl)
theorem dX3_isAhead_15 : decode cX3_isAhead 15 = .ok (.goto 4, 3) := dk_167 0 4 (dk_at dksX3_isAhead_0 15 rfl rfl)
theorem dX3_isAhead_18 : decode cX3_isAhead 18 = .ok (.iconst 0, 1) := dk_3 (dk_at dksX3_isAhead_0 18 rfl rfl)
theorem dX3_isAhead_19 : decode cX3_isAhead 19 = .ok (.ireturn, 1) := dk_172 (dk_at dksX3_isAhead_0 19 rfl rfl)
def fX3_isAhead_b19 (e : Nat → Nat) (N : Nat) (m : Mm) (s0 : Int32) : Rs (Int32) := rz_ s0 s0 m
def fX3_isAhead (e : Nat → Nat) (N : Nat) (m : Mm) (v0 : Option Nat) (v1 : Option Nat) : Rs (Int32) := gr_ m v0 3 3 (fun x1 => gr_ m v1 3 3 (fun x2 => ck_ m x1 7 (bd_ (fX7_compareTo_2 e N m x1 x2) (fun x3 m1 => if x3 < 0 then (fX3_isAhead_b19 e N m1 1) else (fX3_isAhead_b19 e N m1 0)))))
abbrev cX2_clashes : ByteArray := prog_21_method_8_code
def yX2_clashes : MethodName := ⟨RX2, "clashes", "(I)Z"⟩
def dkwX2_clashes_4 : List UInt8 := [132, 3, 1, 167, 255, 164, 28, 172]
abbrev dktX2_clashes_4 : List UInt8 := dkwX2_clashes_4 ++ []
def dkwX2_clashes_3 : List UInt8 := [42, 180, 0, 20, 29, 50, 42, 180, 0, 20, 27, 50, 182, 0, 182, 153, 0, 7, 4, 167, 0, 4, 3, 61]
abbrev dktX2_clashes_3 : List UInt8 := dkwX2_clashes_3 ++ dktX2_clashes_4
def dkwX2_clashes_2 : List UInt8 := [153, 0, 46, 42, 180, 0, 20, 29, 50, 180, 0, 179, 42, 180, 0, 20, 27, 50, 180, 0, 179, 160, 0, 25]
abbrev dktX2_clashes_2 : List UInt8 := dkwX2_clashes_2 ++ dktX2_clashes_3
def dkwX2_clashes_1 : List UInt8 := [182, 0, 171, 182, 0, 175, 153, 0, 7, 4, 167, 0, 4, 3, 54, 4, 28, 154, 0, 47, 21, 4]
abbrev dktX2_clashes_1 : List UInt8 := dkwX2_clashes_1 ++ dktX2_clashes_2
def dkwX2_clashes_0 : List UInt8 := [3, 61, 4, 62, 29, 16, 48, 162, 0, 92, 27, 153, 0, 88, 29, 27, 159, 0, 20, 42, 29, 42, 27]
abbrev dktX2_clashes_0 : List UInt8 := dkwX2_clashes_0 ++ dktX2_clashes_1
theorem dksX2_clashes_0 : cX2_clashes.data.toList.drop 0 = dktX2_clashes_0 := by decide +kernel
theorem dksX2_clashes_1 : cX2_clashes.data.toList.drop 23 = dktX2_clashes_1 := dk_seg dksX2_clashes_0 23 rfl rfl
theorem dksX2_clashes_2 : cX2_clashes.data.toList.drop 45 = dktX2_clashes_2 := dk_seg dksX2_clashes_1 22 rfl rfl
theorem dksX2_clashes_3 : cX2_clashes.data.toList.drop 69 = dktX2_clashes_3 := dk_seg dksX2_clashes_2 24 rfl rfl
theorem dksX2_clashes_4 : cX2_clashes.data.toList.drop 93 = dktX2_clashes_4 := dk_seg dksX2_clashes_3 24 rfl rfl
theorem dX2_clashes_0 : decode cX2_clashes 0 = .ok (.iconst 0, 1) := dk_3 (dk_at dksX2_clashes_0 0 rfl rfl)
theorem dX2_clashes_1 : decode cX2_clashes 1 = .ok (.istore_n 2, 1) := dk_61 (dk_at dksX2_clashes_0 1 rfl rfl)
theorem dX2_clashes_2 : decode cX2_clashes 2 = .ok (.iconst 1, 1) := dk_4 (dk_at dksX2_clashes_0 2 rfl rfl)
theorem dX2_clashes_3 : decode cX2_clashes 3 = .ok (.istore_n 3, 1) := dk_62 (dk_at dksX2_clashes_0 3 rfl rfl)
theorem dX2_clashes_4 : decode cX2_clashes 4 = .ok (.iload_n 3, 1) := dk_29 (dk_at dksX2_clashes_0 4 rfl rfl)
theorem dX2_clashes_5 : decode cX2_clashes 5 = .ok (.bipush 48, 2) := dk_16 48 (dk_at dksX2_clashes_0 5 rfl rfl)
theorem dX2_clashes_7 : decode cX2_clashes 7 = .ok (.if_icmp .ge 92, 3) := dk_162 0 92 (dk_at dksX2_clashes_0 7 rfl rfl)
theorem dX2_clashes_10 : decode cX2_clashes 10 = .ok (.iload_n 1, 1) := dk_27 (dk_at dksX2_clashes_0 10 rfl rfl)
theorem dX2_clashes_11 : decode cX2_clashes 11 = .ok (.ifCond .eq 88, 3) := dk_153 0 88 (dk_at dksX2_clashes_0 11 rfl rfl)
theorem dX2_clashes_14 : decode cX2_clashes 14 = .ok (.iload_n 3, 1) := dk_29 (dk_at dksX2_clashes_0 14 rfl rfl)
theorem dX2_clashes_15 : decode cX2_clashes 15 = .ok (.iload_n 1, 1) := dk_27 (dk_at dksX2_clashes_0 15 rfl rfl)
theorem dX2_clashes_16 : decode cX2_clashes 16 = .ok (.if_icmp .eq 20, 3) := dk_159 0 20 (dk_at dksX2_clashes_0 16 rfl rfl)
theorem dX2_clashes_19 : decode cX2_clashes 19 = .ok (.aload_n 0, 1) := dk_42 (dk_at dksX2_clashes_0 19 rfl rfl)
theorem dX2_clashes_20 : decode cX2_clashes 20 = .ok (.iload_n 3, 1) := dk_29 (dk_at dksX2_clashes_0 20 rfl rfl)
theorem dX2_clashes_21 : decode cX2_clashes 21 = .ok (.aload_n 0, 1) := dk_42 (dk_at dksX2_clashes_0 21 rfl rfl)
theorem dX2_clashes_22 : decode cX2_clashes 22 = .ok (.iload_n 1, 1) := dk_27 (dk_at dksX2_clashes_0 22 rfl rfl)
theorem dX2_clashes_23 : decode cX2_clashes 23 = .ok (.invokevirtual 171, 3) := dk_182 0 171 (dk_at dksX2_clashes_1 0 rfl rfl)
theorem dX2_clashes_26 : decode cX2_clashes 26 = .ok (.invokevirtual 175, 3) := dk_182 0 175 (dk_at dksX2_clashes_1 3 rfl rfl)
theorem dX2_clashes_29 : decode cX2_clashes 29 = .ok (.ifCond .eq 7, 3) := dk_153 0 7 (dk_at dksX2_clashes_1 6 rfl rfl)
theorem dX2_clashes_32 : decode cX2_clashes 32 = .ok (.iconst 1, 1) := dk_4 (dk_at dksX2_clashes_1 9 rfl rfl)
theorem dX2_clashes_33 : decode cX2_clashes 33 = .ok (.goto 4, 3) := dk_167 0 4 (dk_at dksX2_clashes_1 10 rfl rfl)
theorem dX2_clashes_36 : decode cX2_clashes 36 = .ok (.iconst 0, 1) := dk_3 (dk_at dksX2_clashes_1 13 rfl rfl)
theorem dX2_clashes_37 : decode cX2_clashes 37 = .ok (.istore 4, 2) := dk_54 4 (dk_at dksX2_clashes_1 14 rfl rfl)
theorem dX2_clashes_39 : decode cX2_clashes 39 = .ok (.iload_n 2, 1) := dk_28 (dk_at dksX2_clashes_1 16 rfl rfl)
theorem dX2_clashes_40 : decode cX2_clashes 40 = .ok (.ifCond .ne 47, 3) := dk_154 0 47 (dk_at dksX2_clashes_1 17 rfl rfl)
theorem dX2_clashes_43 : decode cX2_clashes 43 = .ok (.iload 4, 2) := dk_21 4 (dk_at dksX2_clashes_1 20 rfl rfl)
theorem dX2_clashes_45 : decode cX2_clashes 45 = .ok (.ifCond .eq 46, 3) := dk_153 0 46 (dk_at dksX2_clashes_2 0 rfl rfl)
theorem dX2_clashes_48 : decode cX2_clashes 48 = .ok (.aload_n 0, 1) := dk_42 (dk_at dksX2_clashes_2 3 rfl rfl)
theorem dX2_clashes_49 : decode cX2_clashes 49 = .ok (.getfield 20, 3) := dk_180 0 20 (dk_at dksX2_clashes_2 4 rfl rfl)
theorem dX2_clashes_52 : decode cX2_clashes 52 = .ok (.iload_n 3, 1) := dk_29 (dk_at dksX2_clashes_2 7 rfl rfl)
theorem dX2_clashes_53 : decode cX2_clashes 53 = .ok (.aaload, 1) := dk_50 (dk_at dksX2_clashes_2 8 rfl rfl)
theorem dX2_clashes_54 : decode cX2_clashes 54 = .ok (.getfield 179, 3) := dk_180 0 179 (dk_at dksX2_clashes_2 9 rfl rfl)
theorem dX2_clashes_57 : decode cX2_clashes 57 = .ok (.aload_n 0, 1) := dk_42 (dk_at dksX2_clashes_2 12 rfl rfl)
theorem dX2_clashes_58 : decode cX2_clashes 58 = .ok (.getfield 20, 3) := dk_180 0 20 (dk_at dksX2_clashes_2 13 rfl rfl)
theorem dX2_clashes_61 : decode cX2_clashes 61 = .ok (.iload_n 1, 1) := dk_27 (dk_at dksX2_clashes_2 16 rfl rfl)
theorem dX2_clashes_62 : decode cX2_clashes 62 = .ok (.aaload, 1) := dk_50 (dk_at dksX2_clashes_2 17 rfl rfl)
theorem dX2_clashes_63 : decode cX2_clashes 63 = .ok (.getfield 179, 3) := dk_180 0 179 (dk_at dksX2_clashes_2 18 rfl rfl)
theorem dX2_clashes_66 : decode cX2_clashes 66 = .ok (.if_icmp .ne 25, 3) := dk_160 0 25 (dk_at dksX2_clashes_2 21 rfl rfl)
theorem dX2_clashes_69 : decode cX2_clashes 69 = .ok (.aload_n 0, 1) := dk_42 (dk_at dksX2_clashes_3 0 rfl rfl)
theorem dX2_clashes_70 : decode cX2_clashes 70 = .ok (.getfield 20, 3) := dk_180 0 20 (dk_at dksX2_clashes_3 1 rfl rfl)
theorem dX2_clashes_73 : decode cX2_clashes 73 = .ok (.iload_n 3, 1) := dk_29 (dk_at dksX2_clashes_3 4 rfl rfl)
theorem dX2_clashes_74 : decode cX2_clashes 74 = .ok (.aaload, 1) := dk_50 (dk_at dksX2_clashes_3 5 rfl rfl)
theorem dX2_clashes_75 : decode cX2_clashes 75 = .ok (.aload_n 0, 1) := dk_42 (dk_at dksX2_clashes_3 6 rfl rfl)
theorem dX2_clashes_76 : decode cX2_clashes 76 = .ok (.getfield 20, 3) := dk_180 0 20 (dk_at dksX2_clashes_3 7 rfl rfl)
theorem dX2_clashes_79 : decode cX2_clashes 79 = .ok (.iload_n 1, 1) := dk_27 (dk_at dksX2_clashes_3 10 rfl rfl)
theorem dX2_clashes_80 : decode cX2_clashes 80 = .ok (.aaload, 1) := dk_50 (dk_at dksX2_clashes_3 11 rfl rfl)
theorem dX2_clashes_81 : decode cX2_clashes 81 = .ok (.invokevirtual 182, 3) := dk_182 0 182 (dk_at dksX2_clashes_3 12 rfl rfl)
theorem dX2_clashes_84 : decode cX2_clashes 84 = .ok (.ifCond .eq 7, 3) := dk_153 0 7 (dk_at dksX2_clashes_3 15 rfl rfl)
theorem dX2_clashes_87 : decode cX2_clashes 87 = .ok (.iconst 1, 1) := dk_4 (dk_at dksX2_clashes_3 18 rfl rfl)
theorem dX2_clashes_88 : decode cX2_clashes 88 = .ok (.goto 4, 3) := dk_167 0 4 (dk_at dksX2_clashes_3 19 rfl rfl)
theorem dX2_clashes_91 : decode cX2_clashes 91 = .ok (.iconst 0, 1) := dk_3 (dk_at dksX2_clashes_3 22 rfl rfl)
theorem dX2_clashes_92 : decode cX2_clashes 92 = .ok (.istore_n 2, 1) := dk_61 (dk_at dksX2_clashes_3 23 rfl rfl)
theorem dX2_clashes_93 : decode cX2_clashes 93 = .ok (.iinc 3 1, 3) := dk_132 3 1 (dk_at dksX2_clashes_4 0 rfl rfl)
theorem dX2_clashes_96 : decode cX2_clashes 96 = .ok (.goto (-92), 3) := dk_167 255 164 (dk_at dksX2_clashes_4 3 rfl rfl)
theorem dX2_clashes_99 : decode cX2_clashes 99 = .ok (.iload_n 2, 1) := dk_28 (dk_at dksX2_clashes_4 6 rfl rfl)
theorem dX2_clashes_100 : decode cX2_clashes 100 = .ok (.ireturn, 1) := dk_172 (dk_at dksX2_clashes_4 7 rfl rfl)
def fX2_clashes_b92 (e : Nat → Nat) (N : Nat) (k4 : Mm → Option Nat → Int32 → Int32 → Int32 → Rs (Int32)) (m : Mm) (v0 : Option Nat) (v1 : Int32) (v3 : Int32) (s0 : Int32) : Rs (Int32) := k4 m v0 v1 s0 (v3 + 1)
def fX2_clashes_b87 (e : Nat → Nat) (N : Nat) (k4 : Mm → Option Nat → Int32 → Int32 → Int32 → Rs (Int32)) (m : Mm) (v0 : Option Nat) (v1 : Int32) (v3 : Int32) : Rs (Int32) := fX2_clashes_b92 e N k4 m v0 v1 v3 1
def fX2_clashes_b91 (e : Nat → Nat) (N : Nat) (k4 : Mm → Option Nat → Int32 → Int32 → Int32 → Rs (Int32)) (m : Mm) (v0 : Option Nat) (v1 : Int32) (v3 : Int32) : Rs (Int32) := fX2_clashes_b92 e N k4 m v0 v1 v3 0
def fX2_clashes_b37 (e : Nat → Nat) (N : Nat) (k4 : Mm → Option Nat → Int32 → Int32 → Int32 → Rs (Int32)) (m : Mm) (v0 : Option Nat) (v1 : Int32) (v2 : Int32) (v3 : Int32) (s0 : Int32) : Rs (Int32) := if v2 = 0 then (if s0 = 0 then (fX2_clashes_b91 e N k4 m v0 v1 v3) else (gr_ m v0 2 6 (fun x1 => ar_ m x1 205 v3 (fun x2 => gi_ m x2 3 5 (fun x3 => gr_ m v0 2 6 (fun x4 => ar_ m x4 205 v1 (fun x5 => gi_ m x5 3 5 (fun x6 => if x3 = x6 then (gr_ m v0 2 6 (fun x7 => ar_ m x7 205 v3 (fun x8 => gr_ m v0 2 6 (fun x9 => ar_ m x9 205 v1 (fun x10 => ck_ m x8 3 (bd_ (fX3_isAhead e N m x8 x10) (fun x11 m1 => if x11 = 0 then (fX2_clashes_b91 e N k4 m1 v0 v1 v3) else (fX2_clashes_b87 e N k4 m1 v0 v1 v3)))))))) else (fX2_clashes_b91 e N k4 m v0 v1 v3))))))))) else (fX2_clashes_b87 e N k4 m v0 v1 v3)
def fX2_clashes_b36 (e : Nat → Nat) (N : Nat) (k4 : Mm → Option Nat → Int32 → Int32 → Int32 → Rs (Int32)) (m : Mm) (v0 : Option Nat) (v1 : Int32) (v2 : Int32) (v3 : Int32) : Rs (Int32) := fX2_clashes_b37 e N k4 m v0 v1 v2 v3 0
def fX2_clashes_b99 (e : Nat → Nat) (N : Nat) (m : Mm) (v2 : Int32) : Rs (Int32) := rz_ v2 v2 m
def fX2_clashes_b4 (e : Nat → Nat) (N : Nat) : Nat → Mm → Option Nat → Int32 → Int32 → Int32 → Rs (Int32)
  | 0, _, _, _, _, _ => none
  | F + 1, m, v0, v1, v2, v3 => if v3 < 48 then (if v1 = 0 then (fX2_clashes_b99 e N m v2) else (if v3 = v1 then (fX2_clashes_b36 e N (fX2_clashes_b4 e N F) m v0 v1 v2 v3) else (ck_ m v0 2 (bd_ (fX2_shownAt e N m v0 v1) (fun x1 m1 => ck_ m1 v0 2 (bd_ (fX2_isAt e N m1 v0 v3 x1) (fun x2 m2 => if x2 = 0 then (fX2_clashes_b36 e N (fX2_clashes_b4 e N F) m2 v0 v1 v2 v3) else (fX2_clashes_b37 e N (fX2_clashes_b4 e N F) m2 v0 v1 v2 v3 1)))))))) else (fX2_clashes_b99 e N m v2)
def fX2_clashes (e : Nat → Nat) (N : Nat) (m : Mm) (v0 : Option Nat) (v1 : Int32) : Rs (Int32) := fX2_clashes_b4 e N N m v0 v1 0 1
abbrev cX2_shownName : ByteArray := prog_21_method_9_code
def yX2_shownName : MethodName := ⟨RX2, "shownName", "(I)I"⟩
def dkwX2_shownName_1 : List UInt8 := [172]
abbrev dktX2_shownName_1 : List UInt8 := dkwX2_shownName_1 ++ []
def dkwX2_shownName_0 : List UInt8 := [42, 27, 182, 0, 186, 153, 0, 10, 16, 100, 27, 96, 167, 0, 12, 42, 180, 0, 20, 27, 50, 180, 0, 179]
abbrev dktX2_shownName_0 : List UInt8 := dkwX2_shownName_0 ++ dktX2_shownName_1
theorem dksX2_shownName_0 : cX2_shownName.data.toList.drop 0 = dktX2_shownName_0 := by decide +kernel
theorem dksX2_shownName_1 : cX2_shownName.data.toList.drop 24 = dktX2_shownName_1 := dk_seg dksX2_shownName_0 24 rfl rfl
theorem dX2_shownName_0 : decode cX2_shownName 0 = .ok (.aload_n 0, 1) := dk_42 (dk_at dksX2_shownName_0 0 rfl rfl)
theorem dX2_shownName_1 : decode cX2_shownName 1 = .ok (.iload_n 1, 1) := dk_27 (dk_at dksX2_shownName_0 1 rfl rfl)
theorem dX2_shownName_2 : decode cX2_shownName 2 = .ok (.invokevirtual 186, 3) := dk_182 0 186 (dk_at dksX2_shownName_0 2 rfl rfl)
theorem dX2_shownName_5 : decode cX2_shownName 5 = .ok (.ifCond .eq 10, 3) := dk_153 0 10 (dk_at dksX2_shownName_0 5 rfl rfl)
theorem dX2_shownName_8 : decode cX2_shownName 8 = .ok (.bipush 100, 2) := dk_16 100 (dk_at dksX2_shownName_0 8 rfl rfl)
theorem dX2_shownName_10 : decode cX2_shownName 10 = .ok (.iload_n 1, 1) := dk_27 (dk_at dksX2_shownName_0 10 rfl rfl)
theorem dX2_shownName_11 : decode cX2_shownName 11 = .ok (.iadd, 1) := dk_96 (dk_at dksX2_shownName_0 11 rfl rfl)
theorem dX2_shownName_12 : decode cX2_shownName 12 = .ok (.goto 12, 3) := dk_167 0 12 (dk_at dksX2_shownName_0 12 rfl rfl)
theorem dX2_shownName_15 : decode cX2_shownName 15 = .ok (.aload_n 0, 1) := dk_42 (dk_at dksX2_shownName_0 15 rfl rfl)
theorem dX2_shownName_16 : decode cX2_shownName 16 = .ok (.getfield 20, 3) := dk_180 0 20 (dk_at dksX2_shownName_0 16 rfl rfl)
theorem dX2_shownName_19 : decode cX2_shownName 19 = .ok (.iload_n 1, 1) := dk_27 (dk_at dksX2_shownName_0 19 rfl rfl)
theorem dX2_shownName_20 : decode cX2_shownName 20 = .ok (.aaload, 1) := dk_50 (dk_at dksX2_shownName_0 20 rfl rfl)
theorem dX2_shownName_21 : decode cX2_shownName 21 = .ok (.getfield 179, 3) := dk_180 0 179 (dk_at dksX2_shownName_0 21 rfl rfl)
theorem dX2_shownName_24 : decode cX2_shownName 24 = .ok (.ireturn, 1) := dk_172 (dk_at dksX2_shownName_1 0 rfl rfl)
def fX2_shownName_b24 (e : Nat → Nat) (N : Nat) (m : Mm) (s0 : Int32) : Rs (Int32) := rt_ s0 m
def fX2_shownName (e : Nat → Nat) (N : Nat) (m : Mm) (v0 : Option Nat) (v1 : Int32) : Rs (Int32) := ck_ m v0 2 (bd_ (fX2_clashes e N m v0 v1) (fun x1 m1 => if x1 = 0 then (gr_ m1 v0 2 6 (fun x2 => ar_ m1 x2 205 v1 (fun x3 => gi_ m1 x3 3 5 (fun x4 => fX2_shownName_b24 e N m1 x4)))) else (fX2_shownName_b24 e N m1 (100 + v1))))
abbrev cX2_isShown : ByteArray := prog_21_method_10_code
def yX2_isShown : MethodName := ⟨RX2, "isShown", "(III)Z"⟩
def dkwX2_isShown_2 : List UInt8 := [3, 54, 4, 132, 5, 1, 167, 255, 208, 21, 4, 172]
abbrev dktX2_isShown_2 : List UInt8 := dkwX2_isShown_2 ++ []
def dkwX2_isShown_1 : List UInt8 := [42, 21, 5, 27, 182, 0, 175, 153, 0, 17, 42, 21, 5, 182, 0, 189, 28, 160, 0, 7, 4, 167, 0, 4]
abbrev dktX2_isShown_1 : List UInt8 := dkwX2_isShown_1 ++ dktX2_isShown_2
def dkwX2_isShown_0 : List UInt8 := [3, 54, 4, 4, 54, 5, 21, 5, 16, 48, 162, 0, 47, 21, 4, 154, 0, 29, 21, 5, 29, 159, 0, 27]
abbrev dktX2_isShown_0 : List UInt8 := dkwX2_isShown_0 ++ dktX2_isShown_1
theorem dksX2_isShown_0 : cX2_isShown.data.toList.drop 0 = dktX2_isShown_0 := by decide +kernel
theorem dksX2_isShown_1 : cX2_isShown.data.toList.drop 24 = dktX2_isShown_1 := dk_seg dksX2_isShown_0 24 rfl rfl
theorem dksX2_isShown_2 : cX2_isShown.data.toList.drop 48 = dktX2_isShown_2 := dk_seg dksX2_isShown_1 24 rfl rfl
theorem dX2_isShown_0 : decode cX2_isShown 0 = .ok (.iconst 0, 1) := dk_3 (dk_at dksX2_isShown_0 0 rfl rfl)
theorem dX2_isShown_1 : decode cX2_isShown 1 = .ok (.istore 4, 2) := dk_54 4 (dk_at dksX2_isShown_0 1 rfl rfl)
theorem dX2_isShown_3 : decode cX2_isShown 3 = .ok (.iconst 1, 1) := dk_4 (dk_at dksX2_isShown_0 3 rfl rfl)
theorem dX2_isShown_4 : decode cX2_isShown 4 = .ok (.istore 5, 2) := dk_54 5 (dk_at dksX2_isShown_0 4 rfl rfl)
theorem dX2_isShown_6 : decode cX2_isShown 6 = .ok (.iload 5, 2) := dk_21 5 (dk_at dksX2_isShown_0 6 rfl rfl)
theorem dX2_isShown_8 : decode cX2_isShown 8 = .ok (.bipush 48, 2) := dk_16 48 (dk_at dksX2_isShown_0 8 rfl rfl)
theorem dX2_isShown_10 : decode cX2_isShown 10 = .ok (.if_icmp .ge 47, 3) := dk_162 0 47 (dk_at dksX2_isShown_0 10 rfl rfl)
theorem dX2_isShown_13 : decode cX2_isShown 13 = .ok (.iload 4, 2) := dk_21 4 (dk_at dksX2_isShown_0 13 rfl rfl)
theorem dX2_isShown_15 : decode cX2_isShown 15 = .ok (.ifCond .ne 29, 3) := dk_154 0 29 (dk_at dksX2_isShown_0 15 rfl rfl)
theorem dX2_isShown_18 : decode cX2_isShown 18 = .ok (.iload 5, 2) := dk_21 5 (dk_at dksX2_isShown_0 18 rfl rfl)
theorem dX2_isShown_20 : decode cX2_isShown 20 = .ok (.iload_n 3, 1) := dk_29 (dk_at dksX2_isShown_0 20 rfl rfl)
theorem dX2_isShown_21 : decode cX2_isShown 21 = .ok (.if_icmp .eq 27, 3) := dk_159 0 27 (dk_at dksX2_isShown_0 21 rfl rfl)
theorem dX2_isShown_24 : decode cX2_isShown 24 = .ok (.aload_n 0, 1) := dk_42 (dk_at dksX2_isShown_1 0 rfl rfl)
theorem dX2_isShown_25 : decode cX2_isShown 25 = .ok (.iload 5, 2) := dk_21 5 (dk_at dksX2_isShown_1 1 rfl rfl)
theorem dX2_isShown_27 : decode cX2_isShown 27 = .ok (.iload_n 1, 1) := dk_27 (dk_at dksX2_isShown_1 3 rfl rfl)
theorem dX2_isShown_28 : decode cX2_isShown 28 = .ok (.invokevirtual 175, 3) := dk_182 0 175 (dk_at dksX2_isShown_1 4 rfl rfl)
theorem dX2_isShown_31 : decode cX2_isShown 31 = .ok (.ifCond .eq 17, 3) := dk_153 0 17 (dk_at dksX2_isShown_1 7 rfl rfl)
theorem dX2_isShown_34 : decode cX2_isShown 34 = .ok (.aload_n 0, 1) := dk_42 (dk_at dksX2_isShown_1 10 rfl rfl)
theorem dX2_isShown_35 : decode cX2_isShown 35 = .ok (.iload 5, 2) := dk_21 5 (dk_at dksX2_isShown_1 11 rfl rfl)
theorem dX2_isShown_37 : decode cX2_isShown 37 = .ok (.invokevirtual 189, 3) := dk_182 0 189 (dk_at dksX2_isShown_1 13 rfl rfl)
theorem dX2_isShown_40 : decode cX2_isShown 40 = .ok (.iload_n 2, 1) := dk_28 (dk_at dksX2_isShown_1 16 rfl rfl)
theorem dX2_isShown_41 : decode cX2_isShown 41 = .ok (.if_icmp .ne 7, 3) := dk_160 0 7 (dk_at dksX2_isShown_1 17 rfl rfl)
theorem dX2_isShown_44 : decode cX2_isShown 44 = .ok (.iconst 1, 1) := dk_4 (dk_at dksX2_isShown_1 20 rfl rfl)
theorem dX2_isShown_45 : decode cX2_isShown 45 = .ok (.goto 4, 3) := dk_167 0 4 (dk_at dksX2_isShown_1 21 rfl rfl)
theorem dX2_isShown_48 : decode cX2_isShown 48 = .ok (.iconst 0, 1) := dk_3 (dk_at dksX2_isShown_2 0 rfl rfl)
theorem dX2_isShown_49 : decode cX2_isShown 49 = .ok (.istore 4, 2) := dk_54 4 (dk_at dksX2_isShown_2 1 rfl rfl)
theorem dX2_isShown_51 : decode cX2_isShown 51 = .ok (.iinc 5 1, 3) := dk_132 5 1 (dk_at dksX2_isShown_2 3 rfl rfl)
theorem dX2_isShown_54 : decode cX2_isShown 54 = .ok (.goto (-48), 3) := dk_167 255 208 (dk_at dksX2_isShown_2 6 rfl rfl)
theorem dX2_isShown_57 : decode cX2_isShown 57 = .ok (.iload 4, 2) := dk_21 4 (dk_at dksX2_isShown_2 9 rfl rfl)
theorem dX2_isShown_59 : decode cX2_isShown 59 = .ok (.ireturn, 1) := dk_172 (dk_at dksX2_isShown_2 11 rfl rfl)
def fX2_isShown_b49 (e : Nat → Nat) (N : Nat) (k6 : Mm → Option Nat → Int32 → Int32 → Int32 → Int32 → Int32 → Rs (Int32)) (m : Mm) (v0 : Option Nat) (v1 : Int32) (v2 : Int32) (v3 : Int32) (v5 : Int32) (s0 : Int32) : Rs (Int32) := k6 m v0 v1 v2 v3 s0 (v5 + 1)
def fX2_isShown_b44 (e : Nat → Nat) (N : Nat) (k6 : Mm → Option Nat → Int32 → Int32 → Int32 → Int32 → Int32 → Rs (Int32)) (m : Mm) (v0 : Option Nat) (v1 : Int32) (v2 : Int32) (v3 : Int32) (v5 : Int32) : Rs (Int32) := fX2_isShown_b49 e N k6 m v0 v1 v2 v3 v5 1
def fX2_isShown_b48 (e : Nat → Nat) (N : Nat) (k6 : Mm → Option Nat → Int32 → Int32 → Int32 → Int32 → Int32 → Rs (Int32)) (m : Mm) (v0 : Option Nat) (v1 : Int32) (v2 : Int32) (v3 : Int32) (v5 : Int32) : Rs (Int32) := fX2_isShown_b49 e N k6 m v0 v1 v2 v3 v5 0
def fX2_isShown_b6 (e : Nat → Nat) (N : Nat) : Nat → Mm → Option Nat → Int32 → Int32 → Int32 → Int32 → Int32 → Rs (Int32)
  | 0, _, _, _, _, _, _, _ => none
  | F + 1, m, v0, v1, v2, v3, v4, v5 => if v5 < 48 then (if v4 = 0 then (if v5 = v3 then (fX2_isShown_b48 e N (fX2_isShown_b6 e N F) m v0 v1 v2 v3 v5) else (ck_ m v0 2 (bd_ (fX2_isAt e N m v0 v5 v1) (fun x1 m1 => if x1 = 0 then (fX2_isShown_b48 e N (fX2_isShown_b6 e N F) m1 v0 v1 v2 v3 v5) else (ck_ m1 v0 2 (bd_ (fX2_shownName e N m1 v0 v5) (fun x2 m2 => if x2 = v2 then (fX2_isShown_b44 e N (fX2_isShown_b6 e N F) m2 v0 v1 v2 v3 v5) else (fX2_isShown_b48 e N (fX2_isShown_b6 e N F) m2 v0 v1 v2 v3 v5)))))))) else (fX2_isShown_b44 e N (fX2_isShown_b6 e N F) m v0 v1 v2 v3 v5)) else (rz_ v4 v4 m)
def fX2_isShown (e : Nat → Nat) (N : Nat) (m : Mm) (v0 : Option Nat) (v1 : Int32) (v2 : Int32) (v3 : Int32) : Rs (Int32) := fX2_isShown_b6 e N N m v0 v1 v2 v3 0 1
abbrev cX1_fits : ByteArray := prog_1_method_22_code
def yX1_fits : MethodName := ⟨RX1, "fits", "(LMasterTree$Klass;)Z"⟩
def dkwX1_fits_9 : List UInt8 := [180, 0, 246, 28, 2, 130, 126, 154, 0, 7, 4, 167, 0, 4, 3, 172]
abbrev dktX1_fits_9 : List UInt8 := dkwX1_fits_9 ++ []
def dkwX1_fits_8 : List UInt8 := [132, 7, 1, 167, 255, 170, 28, 4, 21, 5, 120, 128, 61, 132, 4, 1, 167, 255, 65, 29, 153, 0, 18, 43]
abbrev dktX1_fits_8 : List UInt8 := dkwX1_fits_8 ++ dktX1_fits_9
def dkwX1_fits_7 : List UInt8 := [185, 0, 113, 2, 0, 192, 0, 233, 4, 46, 182, 0, 242, 159, 0, 7, 4, 167, 0, 4, 3, 62]
abbrev dktX1_fits_7 : List UInt8 := dkwX1_fits_7 ++ dktX1_fits_8
def dkwX1_fits_6 : List UInt8 := [21, 7, 185, 0, 113, 2, 0, 192, 0, 233, 4, 46, 182, 0, 242, 25, 6, 42, 180, 0, 63, 21, 4]
abbrev dktX1_fits_6 : List UInt8 := dkwX1_fits_6 ++ dktX1_fits_7
def dkwX1_fits_5 : List UInt8 := [21, 7, 185, 0, 113, 2, 0, 192, 0, 233, 3, 46, 21, 5, 160, 0, 48, 25, 6, 42, 180, 0, 63]
abbrev dktX1_fits_5 : List UInt8 := dkwX1_fits_5 ++ dktX1_fits_6
def dkwX1_fits_4 : List UInt8 := [167, 0, 4, 3, 62, 3, 54, 7, 21, 7, 21, 4, 162, 0, 85, 29, 153, 0, 73, 42, 180, 0, 63]
abbrev dktX1_fits_4 : List UInt8 := dkwX1_fits_4 ++ dktX1_fits_5
def dkwX1_fits_3 : List UInt8 := [160, 0, 25, 25, 6, 180, 0, 238, 153, 0, 13, 28, 21, 5, 122, 4, 126, 4, 159, 0, 7, 4]
abbrev dktX1_fits_3 : List UInt8 := dkwX1_fits_3 ++ dktX1_fits_4
def dkwX1_fits_2 : List UInt8 := [185, 0, 113, 2, 0, 192, 0, 143, 58, 6, 29, 153, 0, 38, 43, 180, 0, 235, 21, 5, 122, 4, 126, 4]
abbrev dktX1_fits_2 : List UInt8 := dkwX1_fits_2 ++ dktX1_fits_3
def dkwX1_fits_1 : List UInt8 := [180, 0, 63, 21, 4, 185, 0, 113, 2, 0, 192, 0, 233, 3, 46, 54, 5, 42, 180, 0, 53, 21, 5]
abbrev dktX1_fits_1 : List UInt8 := dkwX1_fits_1 ++ dktX1_fits_2
def dkwX1_fits_0 : List UInt8 := [3, 61, 4, 62, 3, 54, 4, 21, 4, 42, 180, 0, 63, 185, 0, 137, 1, 0, 162, 0, 183, 42]
abbrev dktX1_fits_0 : List UInt8 := dkwX1_fits_0 ++ dktX1_fits_1
theorem dksX1_fits_0 : cX1_fits.data.toList.drop 0 = dktX1_fits_0 := by decide +kernel
theorem dksX1_fits_1 : cX1_fits.data.toList.drop 22 = dktX1_fits_1 := dk_seg dksX1_fits_0 22 rfl rfl
theorem dksX1_fits_2 : cX1_fits.data.toList.drop 45 = dktX1_fits_2 := dk_seg dksX1_fits_1 23 rfl rfl
theorem dksX1_fits_3 : cX1_fits.data.toList.drop 69 = dktX1_fits_3 := dk_seg dksX1_fits_2 24 rfl rfl
theorem dksX1_fits_4 : cX1_fits.data.toList.drop 91 = dktX1_fits_4 := dk_seg dksX1_fits_3 22 rfl rfl
theorem dksX1_fits_5 : cX1_fits.data.toList.drop 114 = dktX1_fits_5 := dk_seg dksX1_fits_4 23 rfl rfl
theorem dksX1_fits_6 : cX1_fits.data.toList.drop 137 = dktX1_fits_6 := dk_seg dksX1_fits_5 23 rfl rfl
theorem dksX1_fits_7 : cX1_fits.data.toList.drop 160 = dktX1_fits_7 := dk_seg dksX1_fits_6 23 rfl rfl
theorem dksX1_fits_8 : cX1_fits.data.toList.drop 182 = dktX1_fits_8 := dk_seg dksX1_fits_7 22 rfl rfl
theorem dksX1_fits_9 : cX1_fits.data.toList.drop 206 = dktX1_fits_9 := dk_seg dksX1_fits_8 24 rfl rfl
theorem dX1_fits_0 : decode cX1_fits 0 = .ok (.iconst 0, 1) := dk_3 (dk_at dksX1_fits_0 0 rfl rfl)
theorem dX1_fits_1 : decode cX1_fits 1 = .ok (.istore_n 2, 1) := dk_61 (dk_at dksX1_fits_0 1 rfl rfl)
theorem dX1_fits_2 : decode cX1_fits 2 = .ok (.iconst 1, 1) := dk_4 (dk_at dksX1_fits_0 2 rfl rfl)
theorem dX1_fits_3 : decode cX1_fits 3 = .ok (.istore_n 3, 1) := dk_62 (dk_at dksX1_fits_0 3 rfl rfl)
theorem dX1_fits_4 : decode cX1_fits 4 = .ok (.iconst 0, 1) := dk_3 (dk_at dksX1_fits_0 4 rfl rfl)
theorem dX1_fits_5 : decode cX1_fits 5 = .ok (.istore 4, 2) := dk_54 4 (dk_at dksX1_fits_0 5 rfl rfl)
theorem dX1_fits_7 : decode cX1_fits 7 = .ok (.iload 4, 2) := dk_21 4 (dk_at dksX1_fits_0 7 rfl rfl)
theorem dX1_fits_9 : decode cX1_fits 9 = .ok (.aload_n 0, 1) := dk_42 (dk_at dksX1_fits_0 9 rfl rfl)
theorem dX1_fits_10 : decode cX1_fits 10 = .ok (.getfield 63, 3) := dk_180 0 63 (dk_at dksX1_fits_0 10 rfl rfl)
theorem dX1_fits_13 : decode cX1_fits 13 = .ok (.invokeinterface 137 1, 5) := by decide +kernel
theorem dX1_fits_18 : decode cX1_fits 18 = .ok (.if_icmp .ge 183, 3) := dk_162 0 183 (dk_at dksX1_fits_0 18 rfl rfl)
theorem dX1_fits_21 : decode cX1_fits 21 = .ok (.aload_n 0, 1) := dk_42 (dk_at dksX1_fits_0 21 rfl rfl)
theorem dX1_fits_22 : decode cX1_fits 22 = .ok (.getfield 63, 3) := dk_180 0 63 (dk_at dksX1_fits_1 0 rfl rfl)
theorem dX1_fits_25 : decode cX1_fits 25 = .ok (.iload 4, 2) := dk_21 4 (dk_at dksX1_fits_1 3 rfl rfl)
theorem dX1_fits_27 : decode cX1_fits 27 = .ok (.invokeinterface 113 2, 5) := by decide +kernel
theorem dX1_fits_32 : decode cX1_fits 32 = .ok (.checkcast 233, 3) := dk_192 0 233 (dk_at dksX1_fits_1 10 rfl rfl)
theorem dX1_fits_35 : decode cX1_fits 35 = .ok (.iconst 0, 1) := dk_3 (dk_at dksX1_fits_1 13 rfl rfl)
theorem dX1_fits_36 : decode cX1_fits 36 = .ok (.iaload, 1) := dk_46 (dk_at dksX1_fits_1 14 rfl rfl)
theorem dX1_fits_37 : decode cX1_fits 37 = .ok (.istore 5, 2) := dk_54 5 (dk_at dksX1_fits_1 15 rfl rfl)
theorem dX1_fits_39 : decode cX1_fits 39 = .ok (.aload_n 0, 1) := dk_42 (dk_at dksX1_fits_1 17 rfl rfl)
theorem dX1_fits_40 : decode cX1_fits 40 = .ok (.getfield 53, 3) := dk_180 0 53 (dk_at dksX1_fits_1 18 rfl rfl)
theorem dX1_fits_43 : decode cX1_fits 43 = .ok (.iload 5, 2) := dk_21 5 (dk_at dksX1_fits_1 21 rfl rfl)
theorem dX1_fits_45 : decode cX1_fits 45 = .ok (.invokeinterface 113 2, 5) := by decide +kernel
theorem dX1_fits_50 : decode cX1_fits 50 = .ok (.checkcast 143, 3) := dk_192 0 143 (dk_at dksX1_fits_2 5 rfl rfl)
theorem dX1_fits_53 : decode cX1_fits 53 = .ok (.astore 6, 2) := dk_58 6 (dk_at dksX1_fits_2 8 rfl rfl)
theorem dX1_fits_55 : decode cX1_fits 55 = .ok (.iload_n 3, 1) := dk_29 (dk_at dksX1_fits_2 10 rfl rfl)
theorem dX1_fits_56 : decode cX1_fits 56 = .ok (.ifCond .eq 38, 3) := dk_153 0 38 (dk_at dksX1_fits_2 11 rfl rfl)
theorem dX1_fits_59 : decode cX1_fits 59 = .ok (.aload_n 1, 1) := dk_43 (dk_at dksX1_fits_2 14 rfl rfl)
theorem dX1_fits_60 : decode cX1_fits 60 = .ok (.getfield 235, 3) := dk_180 0 235 (dk_at dksX1_fits_2 15 rfl rfl)
theorem dX1_fits_63 : decode cX1_fits 63 = .ok (.iload 5, 2) := dk_21 5 (dk_at dksX1_fits_2 18 rfl rfl)
theorem dX1_fits_65 : decode cX1_fits 65 = .ok (.ishr, 1) := dk_122 (dk_at dksX1_fits_2 20 rfl rfl)
theorem dX1_fits_66 : decode cX1_fits 66 = .ok (.iconst 1, 1) := dk_4 (dk_at dksX1_fits_2 21 rfl rfl)
theorem dX1_fits_67 : decode cX1_fits 67 = .ok (.iand, 1) := dk_126 (dk_at dksX1_fits_2 22 rfl rfl)
theorem dX1_fits_68 : decode cX1_fits 68 = .ok (.iconst 1, 1) := dk_4 (dk_at dksX1_fits_2 23 rfl rfl)
theorem dX1_fits_69 : decode cX1_fits 69 = .ok (.if_icmp .ne 25, 3) := dk_160 0 25 (dk_at dksX1_fits_3 0 rfl rfl)
theorem dX1_fits_72 : decode cX1_fits 72 = .ok (.aload 6, 2) := dk_25 6 (dk_at dksX1_fits_3 3 rfl rfl)
theorem dX1_fits_74 : decode cX1_fits 74 = .ok (.getfield 238, 3) := dk_180 0 238 (dk_at dksX1_fits_3 5 rfl rfl)
theorem dX1_fits_77 : decode cX1_fits 77 = .ok (.ifCond .eq 13, 3) := dk_153 0 13 (dk_at dksX1_fits_3 8 rfl rfl)
theorem dX1_fits_80 : decode cX1_fits 80 = .ok (.iload_n 2, 1) := dk_28 (dk_at dksX1_fits_3 11 rfl rfl)
theorem dX1_fits_81 : decode cX1_fits 81 = .ok (.iload 5, 2) := dk_21 5 (dk_at dksX1_fits_3 12 rfl rfl)
theorem dX1_fits_83 : decode cX1_fits 83 = .ok (.ishr, 1) := dk_122 (dk_at dksX1_fits_3 14 rfl rfl)
theorem dX1_fits_84 : decode cX1_fits 84 = .ok (.iconst 1, 1) := dk_4 (dk_at dksX1_fits_3 15 rfl rfl)
theorem dX1_fits_85 : decode cX1_fits 85 = .ok (.iand, 1) := dk_126 (dk_at dksX1_fits_3 16 rfl rfl)
theorem dX1_fits_86 : decode cX1_fits 86 = .ok (.iconst 1, 1) := dk_4 (dk_at dksX1_fits_3 17 rfl rfl)
theorem dX1_fits_87 : decode cX1_fits 87 = .ok (.if_icmp .eq 7, 3) := dk_159 0 7 (dk_at dksX1_fits_3 18 rfl rfl)
theorem dX1_fits_90 : decode cX1_fits 90 = .ok (.iconst 1, 1) := dk_4 (dk_at dksX1_fits_3 21 rfl rfl)
theorem dX1_fits_91 : decode cX1_fits 91 = .ok (.goto 4, 3) := dk_167 0 4 (dk_at dksX1_fits_4 0 rfl rfl)
theorem dX1_fits_94 : decode cX1_fits 94 = .ok (.iconst 0, 1) := dk_3 (dk_at dksX1_fits_4 3 rfl rfl)
theorem dX1_fits_95 : decode cX1_fits 95 = .ok (.istore_n 3, 1) := dk_62 (dk_at dksX1_fits_4 4 rfl rfl)
theorem dX1_fits_96 : decode cX1_fits 96 = .ok (.iconst 0, 1) := dk_3 (dk_at dksX1_fits_4 5 rfl rfl)
theorem dX1_fits_97 : decode cX1_fits 97 = .ok (.istore 7, 2) := dk_54 7 (dk_at dksX1_fits_4 6 rfl rfl)
theorem dX1_fits_99 : decode cX1_fits 99 = .ok (.iload 7, 2) := dk_21 7 (dk_at dksX1_fits_4 8 rfl rfl)
theorem dX1_fits_101 : decode cX1_fits 101 = .ok (.iload 4, 2) := dk_21 4 (dk_at dksX1_fits_4 10 rfl rfl)
theorem dX1_fits_103 : decode cX1_fits 103 = .ok (.if_icmp .ge 85, 3) := dk_162 0 85 (dk_at dksX1_fits_4 12 rfl rfl)
theorem dX1_fits_106 : decode cX1_fits 106 = .ok (.iload_n 3, 1) := dk_29 (dk_at dksX1_fits_4 15 rfl rfl)
theorem dX1_fits_107 : decode cX1_fits 107 = .ok (.ifCond .eq 73, 3) := dk_153 0 73 (dk_at dksX1_fits_4 16 rfl rfl)
theorem dX1_fits_110 : decode cX1_fits 110 = .ok (.aload_n 0, 1) := dk_42 (dk_at dksX1_fits_4 19 rfl rfl)
theorem dX1_fits_111 : decode cX1_fits 111 = .ok (.getfield 63, 3) := dk_180 0 63 (dk_at dksX1_fits_4 20 rfl rfl)
theorem dX1_fits_114 : decode cX1_fits 114 = .ok (.iload 7, 2) := dk_21 7 (dk_at dksX1_fits_5 0 rfl rfl)
theorem dX1_fits_116 : decode cX1_fits 116 = .ok (.invokeinterface 113 2, 5) := by decide +kernel
theorem dX1_fits_121 : decode cX1_fits 121 = .ok (.checkcast 233, 3) := dk_192 0 233 (dk_at dksX1_fits_5 7 rfl rfl)
theorem dX1_fits_124 : decode cX1_fits 124 = .ok (.iconst 0, 1) := dk_3 (dk_at dksX1_fits_5 10 rfl rfl)
theorem dX1_fits_125 : decode cX1_fits 125 = .ok (.iaload, 1) := dk_46 (dk_at dksX1_fits_5 11 rfl rfl)
theorem dX1_fits_126 : decode cX1_fits 126 = .ok (.iload 5, 2) := dk_21 5 (dk_at dksX1_fits_5 12 rfl rfl)
theorem dX1_fits_128 : decode cX1_fits 128 = .ok (.if_icmp .ne 48, 3) := dk_160 0 48 (dk_at dksX1_fits_5 14 rfl rfl)
theorem dX1_fits_131 : decode cX1_fits 131 = .ok (.aload 6, 2) := dk_25 6 (dk_at dksX1_fits_5 17 rfl rfl)
theorem dX1_fits_133 : decode cX1_fits 133 = .ok (.aload_n 0, 1) := dk_42 (dk_at dksX1_fits_5 19 rfl rfl)
theorem dX1_fits_134 : decode cX1_fits 134 = .ok (.getfield 63, 3) := dk_180 0 63 (dk_at dksX1_fits_5 20 rfl rfl)
theorem dX1_fits_137 : decode cX1_fits 137 = .ok (.iload 7, 2) := dk_21 7 (dk_at dksX1_fits_6 0 rfl rfl)
theorem dX1_fits_139 : decode cX1_fits 139 = .ok (.invokeinterface 113 2, 5) := by decide +kernel
theorem dX1_fits_144 : decode cX1_fits 144 = .ok (.checkcast 233, 3) := dk_192 0 233 (dk_at dksX1_fits_6 7 rfl rfl)
theorem dX1_fits_147 : decode cX1_fits 147 = .ok (.iconst 1, 1) := dk_4 (dk_at dksX1_fits_6 10 rfl rfl)
theorem dX1_fits_148 : decode cX1_fits 148 = .ok (.iaload, 1) := dk_46 (dk_at dksX1_fits_6 11 rfl rfl)
theorem dX1_fits_149 : decode cX1_fits 149 = .ok (.invokevirtual 242, 3) := dk_182 0 242 (dk_at dksX1_fits_6 12 rfl rfl)
theorem dX1_fits_152 : decode cX1_fits 152 = .ok (.aload 6, 2) := dk_25 6 (dk_at dksX1_fits_6 15 rfl rfl)
theorem dX1_fits_154 : decode cX1_fits 154 = .ok (.aload_n 0, 1) := dk_42 (dk_at dksX1_fits_6 17 rfl rfl)
theorem dX1_fits_155 : decode cX1_fits 155 = .ok (.getfield 63, 3) := dk_180 0 63 (dk_at dksX1_fits_6 18 rfl rfl)
theorem dX1_fits_158 : decode cX1_fits 158 = .ok (.iload 4, 2) := dk_21 4 (dk_at dksX1_fits_6 21 rfl rfl)
theorem dX1_fits_160 : decode cX1_fits 160 = .ok (.invokeinterface 113 2, 5) := by decide +kernel
theorem dX1_fits_165 : decode cX1_fits 165 = .ok (.checkcast 233, 3) := dk_192 0 233 (dk_at dksX1_fits_7 5 rfl rfl)
theorem dX1_fits_168 : decode cX1_fits 168 = .ok (.iconst 1, 1) := dk_4 (dk_at dksX1_fits_7 8 rfl rfl)
theorem dX1_fits_169 : decode cX1_fits 169 = .ok (.iaload, 1) := dk_46 (dk_at dksX1_fits_7 9 rfl rfl)
theorem dX1_fits_170 : decode cX1_fits 170 = .ok (.invokevirtual 242, 3) := dk_182 0 242 (dk_at dksX1_fits_7 10 rfl rfl)
theorem dX1_fits_173 : decode cX1_fits 173 = .ok (.if_icmp .eq 7, 3) := dk_159 0 7 (dk_at dksX1_fits_7 13 rfl rfl)
theorem dX1_fits_176 : decode cX1_fits 176 = .ok (.iconst 1, 1) := dk_4 (dk_at dksX1_fits_7 16 rfl rfl)
theorem dX1_fits_177 : decode cX1_fits 177 = .ok (.goto 4, 3) := dk_167 0 4 (dk_at dksX1_fits_7 17 rfl rfl)
theorem dX1_fits_180 : decode cX1_fits 180 = .ok (.iconst 0, 1) := dk_3 (dk_at dksX1_fits_7 20 rfl rfl)
theorem dX1_fits_181 : decode cX1_fits 181 = .ok (.istore_n 3, 1) := dk_62 (dk_at dksX1_fits_7 21 rfl rfl)
theorem dX1_fits_182 : decode cX1_fits 182 = .ok (.iinc 7 1, 3) := dk_132 7 1 (dk_at dksX1_fits_8 0 rfl rfl)
theorem dX1_fits_185 : decode cX1_fits 185 = .ok (.goto (-86), 3) := dk_167 255 170 (dk_at dksX1_fits_8 3 rfl rfl)
theorem dX1_fits_188 : decode cX1_fits 188 = .ok (.iload_n 2, 1) := dk_28 (dk_at dksX1_fits_8 6 rfl rfl)
theorem dX1_fits_189 : decode cX1_fits 189 = .ok (.iconst 1, 1) := dk_4 (dk_at dksX1_fits_8 7 rfl rfl)
theorem dX1_fits_190 : decode cX1_fits 190 = .ok (.iload 5, 2) := dk_21 5 (dk_at dksX1_fits_8 8 rfl rfl)
theorem dX1_fits_192 : decode cX1_fits 192 = .ok (.ishl, 1) := dk_120 (dk_at dksX1_fits_8 10 rfl rfl)
theorem dX1_fits_193 : decode cX1_fits 193 = .ok (.ior, 1) := dk_128 (dk_at dksX1_fits_8 11 rfl rfl)
theorem dX1_fits_194 : decode cX1_fits 194 = .ok (.istore_n 2, 1) := dk_61 (dk_at dksX1_fits_8 12 rfl rfl)
theorem dX1_fits_195 : decode cX1_fits 195 = .ok (.iinc 4 1, 3) := dk_132 4 1 (dk_at dksX1_fits_8 13 rfl rfl)
theorem dX1_fits_198 : decode cX1_fits 198 = .ok (.goto (-191), 3) := dk_167 255 65 (dk_at dksX1_fits_8 16 rfl rfl)
theorem dX1_fits_201 : decode cX1_fits 201 = .ok (.iload_n 3, 1) := dk_29 (dk_at dksX1_fits_8 19 rfl rfl)
theorem dX1_fits_202 : decode cX1_fits 202 = .ok (.ifCond .eq 18, 3) := dk_153 0 18 (dk_at dksX1_fits_8 20 rfl rfl)
theorem dX1_fits_205 : decode cX1_fits 205 = .ok (.aload_n 1, 1) := dk_43 (dk_at dksX1_fits_8 23 rfl rfl)
theorem dX1_fits_206 : decode cX1_fits 206 = .ok (.getfield 246, 3) := dk_180 0 246 (dk_at dksX1_fits_9 0 rfl rfl)
theorem dX1_fits_209 : decode cX1_fits 209 = .ok (.iload_n 2, 1) := dk_28 (dk_at dksX1_fits_9 3 rfl rfl)
theorem dX1_fits_210 : decode cX1_fits 210 = .ok (.iconst (-1), 1) := dk_2 (dk_at dksX1_fits_9 4 rfl rfl)
theorem dX1_fits_211 : decode cX1_fits 211 = .ok (.ixor, 1) := dk_130 (dk_at dksX1_fits_9 5 rfl rfl)
theorem dX1_fits_212 : decode cX1_fits 212 = .ok (.iand, 1) := dk_126 (dk_at dksX1_fits_9 6 rfl rfl)
theorem dX1_fits_213 : decode cX1_fits 213 = .ok (.ifCond .ne 7, 3) := dk_154 0 7 (dk_at dksX1_fits_9 7 rfl rfl)
theorem dX1_fits_216 : decode cX1_fits 216 = .ok (.iconst 1, 1) := dk_4 (dk_at dksX1_fits_9 10 rfl rfl)
theorem dX1_fits_217 : decode cX1_fits 217 = .ok (.goto 4, 3) := dk_167 0 4 (dk_at dksX1_fits_9 11 rfl rfl)
theorem dX1_fits_220 : decode cX1_fits 220 = .ok (.iconst 0, 1) := dk_3 (dk_at dksX1_fits_9 14 rfl rfl)
theorem dX1_fits_221 : decode cX1_fits 221 = .ok (.ireturn, 1) := dk_172 (dk_at dksX1_fits_9 15 rfl rfl)
def fX1_fits_b181 (e : Nat → Nat) (N : Nat) (k99 : Mm → Option Nat → Option Nat → Int32 → Int32 → Int32 → Int32 → Option Nat → Int32 → Rs (Int32)) (m : Mm) (v0 : Option Nat) (v1 : Option Nat) (v2 : Int32) (v4 : Int32) (v5 : Int32) (v6 : Option Nat) (v7 : Int32) (s0 : Int32) : Rs (Int32) := k99 m v0 v1 v2 s0 v4 v5 v6 (v7 + 1)
def fX1_fits_b176 (e : Nat → Nat) (N : Nat) (k99 : Mm → Option Nat → Option Nat → Int32 → Int32 → Int32 → Int32 → Option Nat → Int32 → Rs (Int32)) (m : Mm) (v0 : Option Nat) (v1 : Option Nat) (v2 : Int32) (v4 : Int32) (v5 : Int32) (v6 : Option Nat) (v7 : Int32) : Rs (Int32) := fX1_fits_b181 e N k99 m v0 v1 v2 v4 v5 v6 v7 1
def fX1_fits_b180 (e : Nat → Nat) (N : Nat) (k99 : Mm → Option Nat → Option Nat → Int32 → Int32 → Int32 → Int32 → Option Nat → Int32 → Rs (Int32)) (m : Mm) (v0 : Option Nat) (v1 : Option Nat) (v2 : Int32) (v4 : Int32) (v5 : Int32) (v6 : Option Nat) (v7 : Int32) : Rs (Int32) := fX1_fits_b181 e N k99 m v0 v1 v2 v4 v5 v6 v7 0
def fX1_fits_b99 (e : Nat → Nat) (N : Nat) (k7 : Mm → Option Nat → Option Nat → Int32 → Int32 → Int32 → Rs (Int32)) : Nat → Mm → Option Nat → Option Nat → Int32 → Int32 → Int32 → Int32 → Option Nat → Int32 → Rs (Int32)
  | 0, _, _, _, _, _, _, _, _, _ => none
  | F + 1, m, v0, v1, v2, v3, v4, v5, v6, v7 => if v7 < v4 then (if v3 = 0 then (fX1_fits_b180 e N (fX1_fits_b99 e N k7 F) m v0 v1 v2 v4 v5 v6 v7) else (gr_ m v0 1 3 (fun x1 => ck_ m x1 13 (bd_ (fJ2_get e N m x1 v7) (fun x2 m1 => cc_ m1 x2 [200] (ai_ m1 x2 200 0 (fun x3 => if x3 = v5 then (gr_ m1 v0 1 3 (fun x4 => ck_ m1 x4 13 (bd_ (fJ2_get e N m1 x4 v7) (fun x5 m2 => cc_ m2 x5 [200] (ai_ m2 x5 200 1 (fun x6 => ck_ m2 v6 5 (bd_ (fX5_key e N m2 v6 x6) (fun x7 m3 => gr_ m3 v0 1 3 (fun x8 => ck_ m3 x8 13 (bd_ (fJ2_get e N m3 x8 v4) (fun x9 m4 => cc_ m4 x9 [200] (ai_ m4 x9 200 1 (fun x10 => ck_ m4 v6 5 (bd_ (fX5_key e N m4 v6 x10) (fun x11 m5 => if x7 = x11 then (fX1_fits_b180 e N (fX1_fits_b99 e N k7 F) m5 v0 v1 v2 v4 v5 v6 v7) else (fX1_fits_b176 e N (fX1_fits_b99 e N k7 F) m5 v0 v1 v2 v4 v5 v6 v7)))))))))))))))) else (fX1_fits_b176 e N (fX1_fits_b99 e N k7 F) m1 v0 v1 v2 v4 v5 v6 v7)))))))) else (k7 m v0 v1 (v2 ||| (1 <<< (v5 &&& 31))) v3 (v4 + 1))
def fX1_fits_b95 (e : Nat → Nat) (N : Nat) (k7 : Mm → Option Nat → Option Nat → Int32 → Int32 → Int32 → Rs (Int32)) (m : Mm) (v0 : Option Nat) (v1 : Option Nat) (v2 : Int32) (v4 : Int32) (v5 : Int32) (v6 : Option Nat) (s0 : Int32) : Rs (Int32) := fX1_fits_b99 e N k7 N m v0 v1 v2 s0 v4 v5 v6 0
def fX1_fits_b90 (e : Nat → Nat) (N : Nat) (k7 : Mm → Option Nat → Option Nat → Int32 → Int32 → Int32 → Rs (Int32)) (m : Mm) (v0 : Option Nat) (v1 : Option Nat) (v2 : Int32) (v4 : Int32) (v5 : Int32) (v6 : Option Nat) : Rs (Int32) := fX1_fits_b95 e N k7 m v0 v1 v2 v4 v5 v6 1
def fX1_fits_b94 (e : Nat → Nat) (N : Nat) (k7 : Mm → Option Nat → Option Nat → Int32 → Int32 → Int32 → Rs (Int32)) (m : Mm) (v0 : Option Nat) (v1 : Option Nat) (v2 : Int32) (v4 : Int32) (v5 : Int32) (v6 : Option Nat) : Rs (Int32) := fX1_fits_b95 e N k7 m v0 v1 v2 v4 v5 v6 0
def fX1_fits_b221 (e : Nat → Nat) (N : Nat) (m : Mm) (s0 : Int32) : Rs (Int32) := rz_ s0 s0 m
def fX1_fits_b220 (e : Nat → Nat) (N : Nat) (m : Mm) : Rs (Int32) := fX1_fits_b221 e N m 0
def fX1_fits_b7 (e : Nat → Nat) (N : Nat) : Nat → Mm → Option Nat → Option Nat → Int32 → Int32 → Int32 → Rs (Int32)
  | 0, _, _, _, _, _, _ => none
  | F + 1, m, v0, v1, v2, v3, v4 => gr_ m v0 1 3 (fun x1 => ck_ m x1 13 (bd_ (fJ2_size e N m x1) (fun x2 m1 => if v4 < x2 then (gr_ m1 v0 1 3 (fun x3 => ck_ m1 x3 13 (bd_ (fJ2_get e N m1 x3 v4) (fun x4 m2 => cc_ m2 x4 [200] (ai_ m2 x4 200 0 (fun x5 => gr_ m2 v0 1 0 (fun x6 => ck_ m2 x6 13 (bd_ (fJ2_get e N m2 x6 x5) (fun x7 m3 => cc_ m3 x7 [5] (if v3 = 0 then (fX1_fits_b94 e N (fX1_fits_b7 e N F) m3 v0 v1 v2 v4 x5 x7) else (gi_ m3 v1 6 2 (fun x8 => if ((x8 >>> (x5 &&& 31)) &&& 1) = 1 then (gi_ m3 x7 5 0 (fun x9 => if x9 = 0 then (fX1_fits_b90 e N (fX1_fits_b7 e N F) m3 v0 v1 v2 v4 x5 x7) else (if ((v2 >>> (x5 &&& 31)) &&& 1) = 1 then (fX1_fits_b94 e N (fX1_fits_b7 e N F) m3 v0 v1 v2 v4 x5 x7) else (fX1_fits_b90 e N (fX1_fits_b7 e N F) m3 v0 v1 v2 v4 x5 x7)))) else (fX1_fits_b94 e N (fX1_fits_b7 e N F) m3 v0 v1 v2 v4 x5 x7))))))))))))) else (if v3 = 0 then (fX1_fits_b220 e N m1) else (gi_ m1 v1 6 1 (fun x10 => if (x10 &&& (v2 ^^^ (-1))) = 0 then (fX1_fits_b221 e N m1 1) else (fX1_fits_b220 e N m1)))))))
def fX1_fits (e : Nat → Nat) (N : Nat) (m : Mm) (v0 : Option Nat) (v1 : Option Nat) : Rs (Int32) := fX1_fits_b7 e N N m v0 v1 0 1 0
abbrev cX1_add : ByteArray := prog_1_method_23_code
def yX1_add : MethodName := ⟨RX1, "add", "(IIII)I"⟩
def dkwX1_add_7 : List UInt8 := [25, 7, 182, 0, 229, 42, 180, 0, 69, 4, 100, 172]
abbrev dktX1_add_7 : List UInt8 := dkwX1_add_7 ++ []
def dkwX1_add_6 : List UInt8 := [180, 0, 69, 4, 96, 181, 0, 69, 42, 25, 5, 178, 0, 25, 42, 180, 0, 69, 4, 100, 28, 21, 4, 29]
abbrev dktX1_add_6 : List UInt8 := dkwX1_add_6 ++ dktX1_add_7
def dkwX1_add_5 : List UInt8 := [25, 7, 25, 9, 185, 0, 80, 2, 0, 87, 167, 255, 224, 42, 180, 0, 63, 185, 0, 201, 1, 0, 42, 89]
abbrev dktX1_add_5 : List UInt8 := dkwX1_add_5 ++ dktX1_add_6
def dkwX1_add_4 : List UInt8 := [58, 8, 25, 8, 185, 0, 9, 1, 0, 153, 0, 28, 25, 8, 185, 0, 15, 1, 0, 192, 0, 233, 58, 9]
abbrev dktX1_add_4 : List UInt8 := dkwX1_add_4 ++ dktX1_add_5
def dkwX1_add_3 : List UInt8 := [19, 1, 4, 184, 0, 165, 187, 0, 50, 89, 183, 0, 52, 58, 7, 42, 180, 0, 63, 185, 0, 3, 1, 0]
abbrev dktX1_add_3 : List UInt8 := dkwX1_add_3 ++ dktX1_add_4
def dkwX1_add_2 : List UInt8 := [21, 4, 2, 182, 0, 253, 154, 0, 16, 42, 25, 6, 182, 1, 0, 153, 0, 7, 4, 167, 0, 4, 3]
abbrev dktX1_add_2 : List UInt8 := dkwX1_add_2 ++ dktX1_add_3
def dkwX1_add_1 : List UInt8 := [16, 99, 184, 0, 195, 42, 25, 5, 28, 182, 0, 249, 42, 180, 0, 69, 16, 48, 162, 0, 28, 25, 5, 28]
abbrev dktX1_add_1 : List UInt8 := dkwX1_add_1 ++ dktX1_add_2
def dkwX1_add_0 : List UInt8 := [42, 27, 182, 0, 183, 58, 5, 25, 5, 28, 184, 0, 133, 87, 42, 29, 182, 0, 172, 58, 6, 21, 4, 3]
abbrev dktX1_add_0 : List UInt8 := dkwX1_add_0 ++ dktX1_add_1
theorem dksX1_add_0 : cX1_add.data.toList.drop 0 = dktX1_add_0 := by decide +kernel
theorem dksX1_add_1 : cX1_add.data.toList.drop 24 = dktX1_add_1 := dk_seg dksX1_add_0 24 rfl rfl
theorem dksX1_add_2 : cX1_add.data.toList.drop 48 = dktX1_add_2 := dk_seg dksX1_add_1 24 rfl rfl
theorem dksX1_add_3 : cX1_add.data.toList.drop 71 = dktX1_add_3 := dk_seg dksX1_add_2 23 rfl rfl
theorem dksX1_add_4 : cX1_add.data.toList.drop 95 = dktX1_add_4 := dk_seg dksX1_add_3 24 rfl rfl
theorem dksX1_add_5 : cX1_add.data.toList.drop 119 = dktX1_add_5 := dk_seg dksX1_add_4 24 rfl rfl
theorem dksX1_add_6 : cX1_add.data.toList.drop 143 = dktX1_add_6 := dk_seg dksX1_add_5 24 rfl rfl
theorem dksX1_add_7 : cX1_add.data.toList.drop 167 = dktX1_add_7 := dk_seg dksX1_add_6 24 rfl rfl
theorem dX1_add_0 : decode cX1_add 0 = .ok (.aload_n 0, 1) := dk_42 (dk_at dksX1_add_0 0 rfl rfl)
theorem dX1_add_1 : decode cX1_add 1 = .ok (.iload_n 1, 1) := dk_27 (dk_at dksX1_add_0 1 rfl rfl)
theorem dX1_add_2 : decode cX1_add 2 = .ok (.invokevirtual 183, 3) := dk_182 0 183 (dk_at dksX1_add_0 2 rfl rfl)
theorem dX1_add_5 : decode cX1_add 5 = .ok (.astore 5, 2) := dk_58 5 (dk_at dksX1_add_0 5 rfl rfl)
theorem dX1_add_7 : decode cX1_add 7 = .ok (.aload 5, 2) := dk_25 5 (dk_at dksX1_add_0 7 rfl rfl)
theorem dX1_add_9 : decode cX1_add 9 = .ok (.iload_n 2, 1) := dk_28 (dk_at dksX1_add_0 9 rfl rfl)
theorem dX1_add_10 : decode cX1_add 10 = .ok (.invokestatic 133, 3) := dk_184 0 133 (dk_at dksX1_add_0 10 rfl rfl)
theorem dX1_add_13 : decode cX1_add 13 = .ok (.pop, 1) := dk_87 (dk_at dksX1_add_0 13 rfl rfl)
theorem dX1_add_14 : decode cX1_add 14 = .ok (.aload_n 0, 1) := dk_42 (dk_at dksX1_add_0 14 rfl rfl)
theorem dX1_add_15 : decode cX1_add 15 = .ok (.iload_n 3, 1) := dk_29 (dk_at dksX1_add_0 15 rfl rfl)
theorem dX1_add_16 : decode cX1_add 16 = .ok (.invokevirtual 172, 3) := dk_182 0 172 (dk_at dksX1_add_0 16 rfl rfl)
theorem dX1_add_19 : decode cX1_add 19 = .ok (.astore 6, 2) := dk_58 6 (dk_at dksX1_add_0 19 rfl rfl)
theorem dX1_add_21 : decode cX1_add 21 = .ok (.iload 4, 2) := dk_21 4 (dk_at dksX1_add_0 21 rfl rfl)
theorem dX1_add_23 : decode cX1_add 23 = .ok (.iconst 0, 1) := dk_3 (dk_at dksX1_add_0 23 rfl rfl)
theorem dX1_add_24 : decode cX1_add 24 = .ok (.bipush 99, 2) := dk_16 99 (dk_at dksX1_add_1 0 rfl rfl)
theorem dX1_add_26 : decode cX1_add 26 = .ok (.invokestatic 195, 3) := dk_184 0 195 (dk_at dksX1_add_1 2 rfl rfl)
theorem dX1_add_29 : decode cX1_add 29 = .ok (.aload_n 0, 1) := dk_42 (dk_at dksX1_add_1 5 rfl rfl)
theorem dX1_add_30 : decode cX1_add 30 = .ok (.aload 5, 2) := dk_25 5 (dk_at dksX1_add_1 6 rfl rfl)
theorem dX1_add_32 : decode cX1_add 32 = .ok (.iload_n 2, 1) := dk_28 (dk_at dksX1_add_1 8 rfl rfl)
theorem dX1_add_33 : decode cX1_add 33 = .ok (.invokevirtual 249, 3) := dk_182 0 249 (dk_at dksX1_add_1 9 rfl rfl)
theorem dX1_add_36 : decode cX1_add 36 = .ok (.aload_n 0, 1) := dk_42 (dk_at dksX1_add_1 12 rfl rfl)
theorem dX1_add_37 : decode cX1_add 37 = .ok (.getfield 69, 3) := dk_180 0 69 (dk_at dksX1_add_1 13 rfl rfl)
theorem dX1_add_40 : decode cX1_add 40 = .ok (.bipush 48, 2) := dk_16 48 (dk_at dksX1_add_1 16 rfl rfl)
theorem dX1_add_42 : decode cX1_add 42 = .ok (.if_icmp .ge 28, 3) := dk_162 0 28 (dk_at dksX1_add_1 18 rfl rfl)
theorem dX1_add_45 : decode cX1_add 45 = .ok (.aload 5, 2) := dk_25 5 (dk_at dksX1_add_1 21 rfl rfl)
theorem dX1_add_47 : decode cX1_add 47 = .ok (.iload_n 2, 1) := dk_28 (dk_at dksX1_add_1 23 rfl rfl)
theorem dX1_add_48 : decode cX1_add 48 = .ok (.iload 4, 2) := dk_21 4 (dk_at dksX1_add_2 0 rfl rfl)
theorem dX1_add_50 : decode cX1_add 50 = .ok (.iconst (-1), 1) := dk_2 (dk_at dksX1_add_2 2 rfl rfl)
theorem dX1_add_51 : decode cX1_add 51 = .ok (.invokevirtual 253, 3) := dk_182 0 253 (dk_at dksX1_add_2 3 rfl rfl)
theorem dX1_add_54 : decode cX1_add 54 = .ok (.ifCond .ne 16, 3) := dk_154 0 16 (dk_at dksX1_add_2 6 rfl rfl)
theorem dX1_add_57 : decode cX1_add 57 = .ok (.aload_n 0, 1) := dk_42 (dk_at dksX1_add_2 9 rfl rfl)
theorem dX1_add_58 : decode cX1_add 58 = .ok (.aload 6, 2) := dk_25 6 (dk_at dksX1_add_2 10 rfl rfl)
theorem dX1_add_60 : decode cX1_add 60 = .ok (.invokevirtual 256, 3) := dk_182 1 0 (dk_at dksX1_add_2 12 rfl rfl)
theorem dX1_add_63 : decode cX1_add 63 = .ok (.ifCond .eq 7, 3) := dk_153 0 7 (dk_at dksX1_add_2 15 rfl rfl)
theorem dX1_add_66 : decode cX1_add 66 = .ok (.iconst 1, 1) := dk_4 (dk_at dksX1_add_2 18 rfl rfl)
theorem dX1_add_67 : decode cX1_add 67 = .ok (.goto 4, 3) := dk_167 0 4 (dk_at dksX1_add_2 19 rfl rfl)
theorem dX1_add_70 : decode cX1_add 70 = .ok (.iconst 0, 1) := dk_3 (dk_at dksX1_add_2 22 rfl rfl)
theorem dX1_add_71 : decode cX1_add 71 = .ok (.ldc_w 260, 3) := dk_19 1 4 (dk_at dksX1_add_3 0 rfl rfl)
theorem dX1_add_74 : decode cX1_add 74 = .ok (.invokestatic 165, 3) := dk_184 0 165 (dk_at dksX1_add_3 3 rfl rfl)
theorem dX1_add_77 : decode cX1_add 77 = .ok (.new 50, 3) := dk_187 0 50 (dk_at dksX1_add_3 6 rfl rfl)
theorem dX1_add_80 : decode cX1_add 80 = .ok (.dup, 1) := dk_89 (dk_at dksX1_add_3 9 rfl rfl)
theorem dX1_add_81 : decode cX1_add 81 = .ok (.invokespecial 52, 3) := dk_183 0 52 (dk_at dksX1_add_3 10 rfl rfl)
theorem dX1_add_84 : decode cX1_add 84 = .ok (.astore 7, 2) := dk_58 7 (dk_at dksX1_add_3 13 rfl rfl)
theorem dX1_add_86 : decode cX1_add 86 = .ok (.aload_n 0, 1) := dk_42 (dk_at dksX1_add_3 15 rfl rfl)
theorem dX1_add_87 : decode cX1_add 87 = .ok (.getfield 63, 3) := dk_180 0 63 (dk_at dksX1_add_3 16 rfl rfl)
theorem dX1_add_90 : decode cX1_add 90 = .ok (.invokeinterface 3 1, 5) := by decide +kernel
theorem dX1_add_95 : decode cX1_add 95 = .ok (.astore 8, 2) := dk_58 8 (dk_at dksX1_add_4 0 rfl rfl)
theorem dX1_add_97 : decode cX1_add 97 = .ok (.aload 8, 2) := dk_25 8 (dk_at dksX1_add_4 2 rfl rfl)
theorem dX1_add_99 : decode cX1_add 99 = .ok (.invokeinterface 9 1, 5) := by decide +kernel
theorem dX1_add_104 : decode cX1_add 104 = .ok (.ifCond .eq 28, 3) := dk_153 0 28 (dk_at dksX1_add_4 9 rfl rfl)
theorem dX1_add_107 : decode cX1_add 107 = .ok (.aload 8, 2) := dk_25 8 (dk_at dksX1_add_4 12 rfl rfl)
theorem dX1_add_109 : decode cX1_add 109 = .ok (.invokeinterface 15 1, 5) := by decide +kernel
theorem dX1_add_114 : decode cX1_add 114 = .ok (.checkcast 233, 3) := dk_192 0 233 (dk_at dksX1_add_4 19 rfl rfl)
theorem dX1_add_117 : decode cX1_add 117 = .ok (.astore 9, 2) := dk_58 9 (dk_at dksX1_add_4 22 rfl rfl)
theorem dX1_add_119 : decode cX1_add 119 = .ok (.aload 7, 2) := dk_25 7 (dk_at dksX1_add_5 0 rfl rfl)
theorem dX1_add_121 : decode cX1_add 121 = .ok (.aload 9, 2) := dk_25 9 (dk_at dksX1_add_5 2 rfl rfl)
theorem dX1_add_123 : decode cX1_add 123 = .ok (.invokeinterface 80 2, 5) := by decide +kernel
theorem dX1_add_128 : decode cX1_add 128 = .ok (.pop, 1) := dk_87 (dk_at dksX1_add_5 9 rfl rfl)
theorem dX1_add_129 : decode cX1_add 129 = .ok (.goto (-32), 3) := dk_167 255 224 (dk_at dksX1_add_5 10 rfl rfl)
theorem dX1_add_132 : decode cX1_add 132 = .ok (.aload_n 0, 1) := dk_42 (dk_at dksX1_add_5 13 rfl rfl)
theorem dX1_add_133 : decode cX1_add 133 = .ok (.getfield 63, 3) := dk_180 0 63 (dk_at dksX1_add_5 14 rfl rfl)
theorem dX1_add_136 : decode cX1_add 136 = .ok (.invokeinterface 201 1, 5) := by decide +kernel
theorem dX1_add_141 : decode cX1_add 141 = .ok (.aload_n 0, 1) := dk_42 (dk_at dksX1_add_5 22 rfl rfl)
theorem dX1_add_142 : decode cX1_add 142 = .ok (.dup, 1) := dk_89 (dk_at dksX1_add_5 23 rfl rfl)
theorem dX1_add_143 : decode cX1_add 143 = .ok (.getfield 69, 3) := dk_180 0 69 (dk_at dksX1_add_6 0 rfl rfl)
theorem dX1_add_146 : decode cX1_add 146 = .ok (.iconst 1, 1) := dk_4 (dk_at dksX1_add_6 3 rfl rfl)
theorem dX1_add_147 : decode cX1_add 147 = .ok (.iadd, 1) := dk_96 (dk_at dksX1_add_6 4 rfl rfl)
theorem dX1_add_148 : decode cX1_add 148 = .ok (.putfield 69, 3) := dk_181 0 69 (dk_at dksX1_add_6 5 rfl rfl)
theorem dX1_add_151 : decode cX1_add 151 = .ok (.aload_n 0, 1) := dk_42 (dk_at dksX1_add_6 8 rfl rfl)
theorem dX1_add_152 : decode cX1_add 152 = .ok (.aload 5, 2) := dk_25 5 (dk_at dksX1_add_6 9 rfl rfl)
theorem dX1_add_154 : decode cX1_add 154 = .ok (.getstatic 25, 3) := dk_178 0 25 (dk_at dksX1_add_6 11 rfl rfl)
theorem dX1_add_157 : decode cX1_add 157 = .ok (.aload_n 0, 1) := dk_42 (dk_at dksX1_add_6 14 rfl rfl)
theorem dX1_add_158 : decode cX1_add 158 = .ok (.getfield 69, 3) := dk_180 0 69 (dk_at dksX1_add_6 15 rfl rfl)
theorem dX1_add_161 : decode cX1_add 161 = .ok (.iconst 1, 1) := dk_4 (dk_at dksX1_add_6 18 rfl rfl)
theorem dX1_add_162 : decode cX1_add 162 = .ok (.isub, 1) := dk_100 (dk_at dksX1_add_6 19 rfl rfl)
theorem dX1_add_163 : decode cX1_add 163 = .ok (.iload_n 2, 1) := dk_28 (dk_at dksX1_add_6 20 rfl rfl)
theorem dX1_add_164 : decode cX1_add 164 = .ok (.iload 4, 2) := dk_21 4 (dk_at dksX1_add_6 21 rfl rfl)
theorem dX1_add_166 : decode cX1_add 166 = .ok (.iload_n 3, 1) := dk_29 (dk_at dksX1_add_6 23 rfl rfl)
theorem dX1_add_167 : decode cX1_add 167 = .ok (.aload 7, 2) := dk_25 7 (dk_at dksX1_add_7 0 rfl rfl)
theorem dX1_add_169 : decode cX1_add 169 = .ok (.invokevirtual 229, 3) := dk_182 0 229 (dk_at dksX1_add_7 2 rfl rfl)
theorem dX1_add_172 : decode cX1_add 172 = .ok (.aload_n 0, 1) := dk_42 (dk_at dksX1_add_7 5 rfl rfl)
theorem dX1_add_173 : decode cX1_add 173 = .ok (.getfield 69, 3) := dk_180 0 69 (dk_at dksX1_add_7 6 rfl rfl)
theorem dX1_add_176 : decode cX1_add 176 = .ok (.iconst 1, 1) := dk_4 (dk_at dksX1_add_7 9 rfl rfl)
theorem dX1_add_177 : decode cX1_add 177 = .ok (.isub, 1) := dk_100 (dk_at dksX1_add_7 10 rfl rfl)
theorem dX1_add_178 : decode cX1_add 178 = .ok (.ireturn, 1) := dk_172 (dk_at dksX1_add_7 11 rfl rfl)
def fX1_add_b97 (e : Nat → Nat) (N : Nat) : Nat → Mm → Option Nat → Int32 → Int32 → Int32 → Option Nat → Option Nat → Option Nat → Rs (Int32 ⊕ Nat)
  | 0, _, _, _, _, _, _, _, _ => none
  | F + 1, m, v0, v2, v3, v4, v5, v7, v8 => ck_ m v8 14 (bd_ (fJ34_hasNext e N m v8) (fun x1 m1 => if x1 = 0 then (gr_ m1 v0 1 3 (fun x2 => ck_ m1 x2 13 (bd_ (fJ2_clear e N m1 x2) (fun _ m2 => gi_ m2 v0 1 6 (fun x3 => pi_ m2 v0 1 6 (x3 + 1) (fun m3 => gi_ m3 v0 1 6 (fun x4 => ck_ m3 v0 1 (bd_ (fX1_makes e N m3 v0 v5 (some (e 6)) (x4 - 1) v2 v4 v3 v7) (fun _ m4 => gi_ m4 v0 1 6 (fun x5 => rt_ (.inl (x5 - 1)) m4)))))))))) else (ck_ m1 v8 14 (bd_ (fJ34_next e N m1 v8) (fun x6 m5 => cc_ m5 x6 [200] (ck_ m5 v7 13 (bd_ (fJ2_add e N m5 v7 x6) (fun x7 m6 => fX1_add_b97 e N F m6 v0 v2 v3 v4 v5 v7 v8))))))))
def fX1_add_b71 (e : Nat → Nat) (N : Nat) (m : Mm) (v0 : Option Nat) (v2 : Int32) (v3 : Int32) (v4 : Int32) (v5 : Option Nat) (s0 : Int32) : Rs (Int32 ⊕ Nat) := bd_ (fX1_must e N m s0 (some (e (100 + 17)))) (xf_ (fun _ m1 => nw_ m1 13 3 (fun x1 m2 => bd_ (fJ2_init e N m2 (some x1)) (fun _ m3 => gr_ m3 v0 1 3 (fun x2 => ck_ m3 x2 13 (bd_ (fJ2_iterator e N m3 x2) (fun x3 m4 => fX1_add_b97 e N N m4 v0 v2 v3 v4 v5 (some x1) x3)))))))
def fX1_add_b70 (e : Nat → Nat) (N : Nat) (m : Mm) (v0 : Option Nat) (v2 : Int32) (v3 : Int32) (v4 : Int32) (v5 : Option Nat) : Rs (Int32 ⊕ Nat) := fX1_add_b71 e N m v0 v2 v3 v4 v5 0
def fX1_add (e : Nat → Nat) (N : Nat) (m : Mm) (v0 : Option Nat) (v1 : Int32) (v2 : Int32) (v3 : Int32) (v4 : Int32) : Rs (Int32 ⊕ Nat) := ck_ m v0 1 (bd_ (fX1_at e N m v0 v1) (xf_ (fun x1 m1 => bd_ (fX1_liveAt e N m1 x1 v2) (xf_ (fun x2 m2 => ck_ m2 v0 1 (bd_ (fX1_klassAt e N m2 v0 v3) (xf_ (fun x3 m3 => bd_ (fX1_isWithin e N m3 v4 0 99) (xf_ (fun _ m4 => ck_ m4 v0 1 (bd_ (fX1_mayWrite e N m4 v0 x1 v2) (xf_ (fun _ m5 => gi_ m5 v0 1 6 (fun x4 => if x4 < 48 then (ck_ m5 x1 2 (bd_ (fX2_isShown e N m5 x1 v2 v4 (-1)) (fun x5 m6 => if x5 = 0 then (ck_ m6 v0 1 (bd_ (fX1_fits e N m6 v0 x3) (fun x6 m7 => if x6 = 0 then (fX1_add_b70 e N m7 v0 v2 v3 v4 x1) else (fX1_add_b71 e N m7 v0 v2 v3 v4 x1 1)))) else (fX1_add_b70 e N m6 v0 v2 v3 v4 x1)))) else (fX1_add_b70 e N m5 v0 v2 v3 v4 x1)))))))))))))))
abbrev cX0_add : ByteArray := method_7_code
def yX0_add : MethodName := ⟨RX0, "add", "(LMasterTree;IIII[J)I"⟩
def dkwX0_add_1 : List UInt8 := [172, 58, 6, 6, 172, 3, 172]
abbrev dktX0_add_1 : List UInt8 := dkwX0_add_1 ++ []
def dkwX0_add_0 : List UInt8 := [25, 5, 3, 42, 27, 28, 29, 21, 4, 182, 0, 30, 133, 80, 167, 0, 15, 58, 6, 4, 172, 58, 6, 5]
abbrev dktX0_add_0 : List UInt8 := dkwX0_add_0 ++ dktX0_add_1
theorem dksX0_add_0 : cX0_add.data.toList.drop 0 = dktX0_add_0 := by decide +kernel
theorem dksX0_add_1 : cX0_add.data.toList.drop 24 = dktX0_add_1 := dk_seg dksX0_add_0 24 rfl rfl
theorem dX0_add_0 : decode cX0_add 0 = .ok (.aload 5, 2) := dk_25 5 (dk_at dksX0_add_0 0 rfl rfl)
theorem dX0_add_2 : decode cX0_add 2 = .ok (.iconst 0, 1) := dk_3 (dk_at dksX0_add_0 2 rfl rfl)
theorem dX0_add_3 : decode cX0_add 3 = .ok (.aload_n 0, 1) := dk_42 (dk_at dksX0_add_0 3 rfl rfl)
theorem dX0_add_4 : decode cX0_add 4 = .ok (.iload_n 1, 1) := dk_27 (dk_at dksX0_add_0 4 rfl rfl)
theorem dX0_add_5 : decode cX0_add 5 = .ok (.iload_n 2, 1) := dk_28 (dk_at dksX0_add_0 5 rfl rfl)
theorem dX0_add_6 : decode cX0_add 6 = .ok (.iload_n 3, 1) := dk_29 (dk_at dksX0_add_0 6 rfl rfl)
theorem dX0_add_7 : decode cX0_add 7 = .ok (.iload 4, 2) := dk_21 4 (dk_at dksX0_add_0 7 rfl rfl)
theorem dX0_add_9 : decode cX0_add 9 = .ok (.invokevirtual 30, 3) := dk_182 0 30 (dk_at dksX0_add_0 9 rfl rfl)
theorem dX0_add_12 : decode cX0_add 12 = .ok (.i2l, 1) := dk_133 (dk_at dksX0_add_0 12 rfl rfl)
theorem dX0_add_13 : decode cX0_add 13 = .ok (.lastore, 1) := dk_80 (dk_at dksX0_add_0 13 rfl rfl)
theorem dX0_add_14 : decode cX0_add 14 = .ok (.goto 15, 3) := dk_167 0 15 (dk_at dksX0_add_0 14 rfl rfl)
theorem dX0_add_17 : decode cX0_add 17 = .ok (.astore 6, 2) := dk_58 6 (dk_at dksX0_add_0 17 rfl rfl)
theorem dX0_add_19 : decode cX0_add 19 = .ok (.iconst 1, 1) := dk_4 (dk_at dksX0_add_0 19 rfl rfl)
theorem dX0_add_20 : decode cX0_add 20 = .ok (.ireturn, 1) := dk_172 (dk_at dksX0_add_0 20 rfl rfl)
theorem dX0_add_21 : decode cX0_add 21 = .ok (.astore 6, 2) := dk_58 6 (dk_at dksX0_add_0 21 rfl rfl)
theorem dX0_add_23 : decode cX0_add 23 = .ok (.iconst 2, 1) := dk_5 (dk_at dksX0_add_0 23 rfl rfl)
theorem dX0_add_24 : decode cX0_add 24 = .ok (.ireturn, 1) := dk_172 (dk_at dksX0_add_1 0 rfl rfl)
theorem dX0_add_25 : decode cX0_add 25 = .ok (.astore 6, 2) := dk_58 6 (dk_at dksX0_add_1 1 rfl rfl)
theorem dX0_add_27 : decode cX0_add 27 = .ok (.iconst 3, 1) := dk_6 (dk_at dksX0_add_1 3 rfl rfl)
theorem dX0_add_28 : decode cX0_add 28 = .ok (.ireturn, 1) := dk_172 (dk_at dksX0_add_1 4 rfl rfl)
theorem dX0_add_29 : decode cX0_add 29 = .ok (.iconst 0, 1) := dk_3 (dk_at dksX0_add_1 5 rfl rfl)
theorem dX0_add_30 : decode cX0_add 30 = .ok (.ireturn, 1) := dk_172 (dk_at dksX0_add_1 6 rfl rfl)
def fX0_add (e : Nat → Nat) (N : Nat) (m : Mm) (v0 : Option Nat) (v1 : Int32) (v2 : Int32) (v3 : Int32) (v4 : Int32) (v5 : Option Nat) : Rs (Int32) := ck_ m v0 1 (bd_ (fX1_add e N m v0 v1 v2 v3 v4) (ch_ (fun x1 m1 => bj_ m1 v5 203 0 ((x1 : Int32).toInt64) (fun m2 => rt_ 0 m2)) (fun i_ m0 => if i_ = 0 then rt_ 1 m0 else if i_ = 1 then rt_ 2 m0 else if i_ = 2 then rt_ 3 m0 else none)))
abbrev cX1_makes_2 : ByteArray := prog_1_method_21_code
def yX1_makes_2 : MethodName := ⟨RX1, "makes", "(LMasterTree$Master;LMasterTree$Kind;III)V"⟩
def dkwX1_makes_2_0 : List UInt8 := [42, 43, 44, 29, 21, 4, 21, 5, 2, 1, 182, 0, 229, 177]
abbrev dktX1_makes_2_0 : List UInt8 := dkwX1_makes_2_0 ++ []
theorem dksX1_makes_2_0 : cX1_makes_2.data.toList.drop 0 = dktX1_makes_2_0 := by decide +kernel
theorem dX1_makes_2_0 : decode cX1_makes_2 0 = .ok (.aload_n 0, 1) := dk_42 (dk_at dksX1_makes_2_0 0 rfl rfl)
theorem dX1_makes_2_1 : decode cX1_makes_2 1 = .ok (.aload_n 1, 1) := dk_43 (dk_at dksX1_makes_2_0 1 rfl rfl)
theorem dX1_makes_2_2 : decode cX1_makes_2 2 = .ok (.aload_n 2, 1) := dk_44 (dk_at dksX1_makes_2_0 2 rfl rfl)
theorem dX1_makes_2_3 : decode cX1_makes_2 3 = .ok (.iload_n 3, 1) := dk_29 (dk_at dksX1_makes_2_0 3 rfl rfl)
theorem dX1_makes_2_4 : decode cX1_makes_2 4 = .ok (.iload 4, 2) := dk_21 4 (dk_at dksX1_makes_2_0 4 rfl rfl)
theorem dX1_makes_2_6 : decode cX1_makes_2 6 = .ok (.iload 5, 2) := dk_21 5 (dk_at dksX1_makes_2_0 6 rfl rfl)
theorem dX1_makes_2_8 : decode cX1_makes_2 8 = .ok (.iconst (-1), 1) := dk_2 (dk_at dksX1_makes_2_0 8 rfl rfl)
theorem dX1_makes_2_9 : decode cX1_makes_2 9 = .ok (.aconst_null, 1) := dk_1 (dk_at dksX1_makes_2_0 9 rfl rfl)
theorem dX1_makes_2_10 : decode cX1_makes_2 10 = .ok (.invokevirtual 229, 3) := dk_182 0 229 (dk_at dksX1_makes_2_0 10 rfl rfl)
theorem dX1_makes_2_13 : decode cX1_makes_2 13 = .ok (.return_, 1) := dk_177 (dk_at dksX1_makes_2_0 13 rfl rfl)
def fX1_makes_2 (e : Nat → Nat) (N : Nat) (m : Mm) (v0 : Option Nat) (v1 : Option Nat) (v2 : Option Nat) (v3 : Int32) (v4 : Int32) (v5 : Int32) : Rs (Unit) := ck_ m v0 1 (bd_ (fX1_makes e N m v0 v1 v2 v3 v4 v5 (-1) none) (fun _ m1 => rt_ () m1))
abbrev cJ4_size : ByteArray := prog_79_method_5_code
def yJ4_size : MethodName := ⟨RJ4, "size", "()I"⟩
theorem dJ4_size_0 : decode cJ4_size 0 = .ok (.aload_n 0, 1) := by decide +kernel
theorem dJ4_size_1 : decode cJ4_size 1 = .ok (.getfield 7, 3) := by decide +kernel
theorem dJ4_size_4 : decode cJ4_size 4 = .ok (.ireturn, 1) := by decide +kernel
def fJ4_size (e : Nat → Nat) (N : Nat) (m : Mm) (v0 : Option Nat) : Rs (Int32) := gi_ m v0 15 4 (fun x1 => rt_ x1 m)
abbrev cJ40_size : ByteArray := prog_88_method_2_code
def yJ40_size : MethodName := ⟨RJ40, "size", "()I"⟩
def dkwJ40_size_4 : List UInt8 := [96, 181, 0, 13, 43, 185, 0, 51, 1, 0, 87, 167, 255, 230, 42, 180, 0, 13, 172]
abbrev dktJ40_size_4 : List UInt8 := dkwJ40_size_4 ++ []
def dkwJ40_size_3 : List UInt8 := [3, 181, 0, 13, 42, 182, 0, 41, 76, 43, 185, 0, 45, 1, 0, 153, 0, 23, 42, 89, 180, 0, 13, 4]
abbrev dktJ40_size_3 : List UInt8 := dkwJ40_size_3 ++ dktJ40_size_4
def dkwJ40_size_2 : List UInt8 := [180, 0, 26, 180, 0, 38, 159, 0, 56, 42, 42, 180, 0, 1, 180, 0, 26, 180, 0, 38, 181, 0, 35, 42]
abbrev dktJ40_size_2 : List UInt8 := dkwJ40_size_2 ++ dktJ40_size_3
def dkwJ40_size_1 : List UInt8 := [180, 0, 26, 182, 0, 30, 172, 42, 180, 0, 13, 2, 159, 0, 20, 42, 180, 0, 35, 42, 180, 0, 1]
abbrev dktJ40_size_1 : List UInt8 := dkwJ40_size_1 ++ dktJ40_size_2
def dkwJ40_size_0 : List UInt8 := [42, 180, 0, 1, 180, 0, 17, 153, 0, 24, 42, 180, 0, 1, 180, 0, 23, 153, 0, 14, 42, 180, 0, 1]
abbrev dktJ40_size_0 : List UInt8 := dkwJ40_size_0 ++ dktJ40_size_1
theorem dksJ40_size_0 : cJ40_size.data.toList.drop 0 = dktJ40_size_0 := by decide +kernel
theorem dksJ40_size_1 : cJ40_size.data.toList.drop 24 = dktJ40_size_1 := dk_seg dksJ40_size_0 24 rfl rfl
theorem dksJ40_size_2 : cJ40_size.data.toList.drop 47 = dktJ40_size_2 := dk_seg dksJ40_size_1 23 rfl rfl
theorem dksJ40_size_3 : cJ40_size.data.toList.drop 71 = dktJ40_size_3 := dk_seg dksJ40_size_2 24 rfl rfl
theorem dksJ40_size_4 : cJ40_size.data.toList.drop 95 = dktJ40_size_4 := dk_seg dksJ40_size_3 24 rfl rfl
theorem dJ40_size_0 : decode cJ40_size 0 = .ok (.aload_n 0, 1) := dk_42 (dk_at dksJ40_size_0 0 rfl rfl)
theorem dJ40_size_1 : decode cJ40_size 1 = .ok (.getfield 1, 3) := dk_180 0 1 (dk_at dksJ40_size_0 1 rfl rfl)
theorem dJ40_size_4 : decode cJ40_size 4 = .ok (.getfield 17, 3) := dk_180 0 17 (dk_at dksJ40_size_0 4 rfl rfl)
theorem dJ40_size_7 : decode cJ40_size 7 = .ok (.ifCond .eq 24, 3) := dk_153 0 24 (dk_at dksJ40_size_0 7 rfl rfl)
theorem dJ40_size_10 : decode cJ40_size 10 = .ok (.aload_n 0, 1) := dk_42 (dk_at dksJ40_size_0 10 rfl rfl)
theorem dJ40_size_11 : decode cJ40_size 11 = .ok (.getfield 1, 3) := dk_180 0 1 (dk_at dksJ40_size_0 11 rfl rfl)
theorem dJ40_size_14 : decode cJ40_size 14 = .ok (.getfield 23, 3) := dk_180 0 23 (dk_at dksJ40_size_0 14 rfl rfl)
theorem dJ40_size_17 : decode cJ40_size 17 = .ok (.ifCond .eq 14, 3) := dk_153 0 14 (dk_at dksJ40_size_0 17 rfl rfl)
theorem dJ40_size_20 : decode cJ40_size 20 = .ok (.aload_n 0, 1) := dk_42 (dk_at dksJ40_size_0 20 rfl rfl)
theorem dJ40_size_21 : decode cJ40_size 21 = .ok (.getfield 1, 3) := dk_180 0 1 (dk_at dksJ40_size_0 21 rfl rfl)
theorem dJ40_size_24 : decode cJ40_size 24 = .ok (.getfield 26, 3) := dk_180 0 26 (dk_at dksJ40_size_1 0 rfl rfl)
theorem dJ40_size_27 : decode cJ40_size 27 = .ok (.invokevirtual 30, 3) := dk_182 0 30 (dk_at dksJ40_size_1 3 rfl rfl)
theorem dJ40_size_30 : decode cJ40_size 30 = .ok (.ireturn, 1) := dk_172 (dk_at dksJ40_size_1 6 rfl rfl)
theorem dJ40_size_31 : decode cJ40_size 31 = .ok (.aload_n 0, 1) := dk_42 (dk_at dksJ40_size_1 7 rfl rfl)
theorem dJ40_size_32 : decode cJ40_size 32 = .ok (.getfield 13, 3) := dk_180 0 13 (dk_at dksJ40_size_1 8 rfl rfl)
theorem dJ40_size_35 : decode cJ40_size 35 = .ok (.iconst (-1), 1) := dk_2 (dk_at dksJ40_size_1 11 rfl rfl)
theorem dJ40_size_36 : decode cJ40_size 36 = .ok (.if_icmp .eq 20, 3) := dk_159 0 20 (dk_at dksJ40_size_1 12 rfl rfl)
theorem dJ40_size_39 : decode cJ40_size 39 = .ok (.aload_n 0, 1) := dk_42 (dk_at dksJ40_size_1 15 rfl rfl)
theorem dJ40_size_40 : decode cJ40_size 40 = .ok (.getfield 35, 3) := dk_180 0 35 (dk_at dksJ40_size_1 16 rfl rfl)
theorem dJ40_size_43 : decode cJ40_size 43 = .ok (.aload_n 0, 1) := dk_42 (dk_at dksJ40_size_1 19 rfl rfl)
theorem dJ40_size_44 : decode cJ40_size 44 = .ok (.getfield 1, 3) := dk_180 0 1 (dk_at dksJ40_size_1 20 rfl rfl)
theorem dJ40_size_47 : decode cJ40_size 47 = .ok (.getfield 26, 3) := dk_180 0 26 (dk_at dksJ40_size_2 0 rfl rfl)
theorem dJ40_size_50 : decode cJ40_size 50 = .ok (.getfield 38, 3) := dk_180 0 38 (dk_at dksJ40_size_2 3 rfl rfl)
theorem dJ40_size_53 : decode cJ40_size 53 = .ok (.if_icmp .eq 56, 3) := dk_159 0 56 (dk_at dksJ40_size_2 6 rfl rfl)
theorem dJ40_size_56 : decode cJ40_size 56 = .ok (.aload_n 0, 1) := dk_42 (dk_at dksJ40_size_2 9 rfl rfl)
theorem dJ40_size_57 : decode cJ40_size 57 = .ok (.aload_n 0, 1) := dk_42 (dk_at dksJ40_size_2 10 rfl rfl)
theorem dJ40_size_58 : decode cJ40_size 58 = .ok (.getfield 1, 3) := dk_180 0 1 (dk_at dksJ40_size_2 11 rfl rfl)
theorem dJ40_size_61 : decode cJ40_size 61 = .ok (.getfield 26, 3) := dk_180 0 26 (dk_at dksJ40_size_2 14 rfl rfl)
theorem dJ40_size_64 : decode cJ40_size 64 = .ok (.getfield 38, 3) := dk_180 0 38 (dk_at dksJ40_size_2 17 rfl rfl)
theorem dJ40_size_67 : decode cJ40_size 67 = .ok (.putfield 35, 3) := dk_181 0 35 (dk_at dksJ40_size_2 20 rfl rfl)
theorem dJ40_size_70 : decode cJ40_size 70 = .ok (.aload_n 0, 1) := dk_42 (dk_at dksJ40_size_2 23 rfl rfl)
theorem dJ40_size_71 : decode cJ40_size 71 = .ok (.iconst 0, 1) := dk_3 (dk_at dksJ40_size_3 0 rfl rfl)
theorem dJ40_size_72 : decode cJ40_size 72 = .ok (.putfield 13, 3) := dk_181 0 13 (dk_at dksJ40_size_3 1 rfl rfl)
theorem dJ40_size_75 : decode cJ40_size 75 = .ok (.aload_n 0, 1) := dk_42 (dk_at dksJ40_size_3 4 rfl rfl)
theorem dJ40_size_76 : decode cJ40_size 76 = .ok (.invokevirtual 41, 3) := dk_182 0 41 (dk_at dksJ40_size_3 5 rfl rfl)
theorem dJ40_size_79 : decode cJ40_size 79 = .ok (.astore_n 1, 1) := dk_76 (dk_at dksJ40_size_3 8 rfl rfl)
theorem dJ40_size_80 : decode cJ40_size 80 = .ok (.aload_n 1, 1) := dk_43 (dk_at dksJ40_size_3 9 rfl rfl)
theorem dJ40_size_81 : decode cJ40_size 81 = .ok (.invokeinterface 45 1, 5) := by decide +kernel
theorem dJ40_size_86 : decode cJ40_size 86 = .ok (.ifCond .eq 23, 3) := dk_153 0 23 (dk_at dksJ40_size_3 15 rfl rfl)
theorem dJ40_size_89 : decode cJ40_size 89 = .ok (.aload_n 0, 1) := dk_42 (dk_at dksJ40_size_3 18 rfl rfl)
theorem dJ40_size_90 : decode cJ40_size 90 = .ok (.dup, 1) := dk_89 (dk_at dksJ40_size_3 19 rfl rfl)
theorem dJ40_size_91 : decode cJ40_size 91 = .ok (.getfield 13, 3) := dk_180 0 13 (dk_at dksJ40_size_3 20 rfl rfl)
theorem dJ40_size_94 : decode cJ40_size 94 = .ok (.iconst 1, 1) := dk_4 (dk_at dksJ40_size_3 23 rfl rfl)
theorem dJ40_size_95 : decode cJ40_size 95 = .ok (.iadd, 1) := dk_96 (dk_at dksJ40_size_4 0 rfl rfl)
theorem dJ40_size_96 : decode cJ40_size 96 = .ok (.putfield 13, 3) := dk_181 0 13 (dk_at dksJ40_size_4 1 rfl rfl)
theorem dJ40_size_99 : decode cJ40_size 99 = .ok (.aload_n 1, 1) := dk_43 (dk_at dksJ40_size_4 4 rfl rfl)
theorem dJ40_size_100 : decode cJ40_size 100 = .ok (.invokeinterface 51 1, 5) := by decide +kernel
theorem dJ40_size_105 : decode cJ40_size 105 = .ok (.pop, 1) := dk_87 (dk_at dksJ40_size_4 10 rfl rfl)
theorem dJ40_size_106 : decode cJ40_size 106 = .ok (.goto (-26), 3) := dk_167 255 230 (dk_at dksJ40_size_4 11 rfl rfl)
theorem dJ40_size_109 : decode cJ40_size 109 = .ok (.aload_n 0, 1) := dk_42 (dk_at dksJ40_size_4 14 rfl rfl)
theorem dJ40_size_110 : decode cJ40_size 110 = .ok (.getfield 13, 3) := dk_180 0 13 (dk_at dksJ40_size_4 15 rfl rfl)
theorem dJ40_size_113 : decode cJ40_size 113 = .ok (.ireturn, 1) := dk_172 (dk_at dksJ40_size_4 18 rfl rfl)
def fJ40_size_t22_b109 (e : Nat → Nat) (N : Nat) (m : Mm) (v0 : Option Nat) : Rs (Int32) := gi_ m v0 22 0 (fun x1 => rt_ x1 m)
def fJ40_size_t22_b80 (e : Nat → Nat) (N : Nat) : Nat → Mm → Option Nat → Option Nat → Rs (Int32)
  | 0, _, _, _ => none
  | F + 1, m, v0, v1 => ck_ m v1 23 (bd_ (fJ26_hasNext_t23 e N m v1) (fun x1 m1 => if x1 = 0 then (fJ40_size_t22_b109 e N m1 v0) else (gi_ m1 v0 22 0 (fun x2 => pi_ m1 v0 22 0 (x2 + 1) (fun m2 => ck_ m2 v1 23 (bd_ (fJ27_next e N m2 v1) (fun x3 m3 => fJ40_size_t22_b80 e N F m3 v0 v1)))))))
def fJ40_size_t22_b56 (e : Nat → Nat) (N : Nat) (m : Mm) (v0 : Option Nat) : Rs (Int32) := gr_ m v0 22 2 (fun x1 => gr_ m x1 21 0 (fun x2 => gi_ m x2 15 5 (fun x3 => pi_ m v0 22 1 x3 (fun m1 => pi_ m1 v0 22 0 0 (fun m2 => ck_ m2 v0 22 (bd_ (fJ41_iterator e N m2 v0) (fun x4 m3 => fJ40_size_t22_b80 e N N m3 v0 x4)))))))
def fJ40_size_t22_b31 (e : Nat → Nat) (N : Nat) (m : Mm) (v0 : Option Nat) : Rs (Int32) := gi_ m v0 22 0 (fun x1 => if x1 = (-1) then (fJ40_size_t22_b56 e N m v0) else (gi_ m v0 22 1 (fun x2 => gr_ m v0 22 2 (fun x3 => gr_ m x3 21 0 (fun x4 => gi_ m x4 15 5 (fun x5 => if x2 = x5 then (fJ40_size_t22_b109 e N m v0) else (fJ40_size_t22_b56 e N m v0)))))))
def fJ40_size_t22 (e : Nat → Nat) (N : Nat) (m : Mm) (v0 : Option Nat) : Rs (Int32) := gr_ m v0 22 2 (fun x1 => gi_ m x1 21 3 (fun x2 => if x2 = 0 then (fJ40_size_t22_b31 e N m v0) else (gr_ m v0 22 2 (fun x3 => gi_ m x3 21 4 (fun x4 => if x4 = 0 then (fJ40_size_t22_b31 e N m v0) else (gr_ m v0 22 2 (fun x5 => gr_ m x5 21 0 (fun x6 => ck_ m x6 15 (bd_ (fJ4_size e N m x6) (fun x7 m1 => rt_ x7 m1))))))))))
theorem wJ2_init {l : Launch} {g : GG} {E : Me_} (C : Cx_ l g E "java/util/ArrayList" cJ2_init 1 12) (hret : (eT_ E).sig.returnType = (Option.none : Option Jvm.ClassFile.FieldType)) (h0 : ∀ x ∈ (eC_ E).exceptionTable.toList, False) (hin : (eT_ E).name = "<init>") (N : Nat) : ∀ (m : Mm) (v0 : Option Nat) (k n : Nat), Sm_ l g E 1 en_v (fJ2_init (gE_ g) N m v0) k n 0 [(0, vr_ v0)] [] m := by
  intro m v0 k n
  unfold fJ2_init
  refine s_aload_n C rfl 0 rfl dJ2_init_0 1 rfl ?_
  refine x_ok (fun hb0_ => ?_)
  refine x_callI (enc := en_v) C 11 0 [] (ctJ1_init_t13 C.2.2.2.2.2.2.2.2.1 N m v0) hb0_ rfl q159 q160 q83 q161 rfl hdJ1_init_t13 (Nat.le_of_ble_eq_true rfl) (Nat.le_of_ble_eq_true rfl) rfl (Nat.le_of_ble_eq_true rfl) dJ2_init_1 4 rfl rfl hen_v (kk_v (fun m1 k1 n1 => ?_)) (kx_n he_v)
  refine s_aload_n C rfl 0 rfl dJ2_init_4 5 rfl ?_
  refine x_gs C 0 (vr_ (some (gE_ g 0))) rfl q166 rfl dJ2_init_5 8 rfl ?_
  refine x_pr C 12 (RJ2, TJ2, 3) rfl 1 (Nat.le_of_ble_eq_true rfl) rfl q168 (Or.inl rfl) rfl trivial 13 rfl dJ2_init_8 11 rfl (fun m2 => ?_)
  exact x_vret C hret rfl dJ2_init_11
theorem hdJ2_init : ((⟨"java/util/ArrayList", "<init>", "()V"⟩ : MethodName)).cls ≠ "java/lang/invoke/MethodHandle" ∧ ((⟨"java/util/ArrayList", "<init>", "()V"⟩ : MethodName)).cls ≠ "java/lang/invoke/VarHandle" ∧ (parseMethodDescriptor ((⟨"java/util/ArrayList", "<init>", "()V"⟩ : MethodName)).desc).map (fun d => d.parameters.length) = some 0 := ⟨by decide +kernel, by decide +kernel, by decide +kernel⟩
theorem ctJ2_init {l : Launch} {g : GG} (hst : l.stackTraces = false) (N : Nat) (m : Mm) (v0 : Option Nat) : ∀ v m' k n, fJ2_init (gE_ g) N m v0 = some (v, m', k, n) → Ct_ l g (⟨"java/util/ArrayList", "<init>", "()V"⟩ : MethodName) (ws_ (⟨"java/util/ArrayList", "<init>", "()V"⟩ : MethodName) cJ2_init 1 (Option.none : Option Jvm.ClassFile.FieldType)) 12 [vr_ v0] m (en_v v) m' k n :=
  Ct_of (by decide +kernel) rfl hst (Nat.le_of_ble_eq_true rfl) rfl (fun E C hret h0 hin => wJ2_init C hret h0 hin N m v0 0 0)
theorem wJ3_init_t15 {l : Launch} {g : GG} {E : Me_} (C : Cx_ l g E "java/util/AbstractMap" cJ3_init 1 10) (hret : (eT_ E).sig.returnType = (Option.none : Option Jvm.ClassFile.FieldType)) (h0 : ∀ x ∈ (eC_ E).exceptionTable.toList, False) (hin : (eT_ E).name = "<init>") (N : Nat) : ∀ (m : Mm) (v0 : Option Nat) (k n : Nat), Sm_ l g E 1 en_v (fJ3_init_t15 (gE_ g) N m v0) k n 0 [(0, vr_ v0)] [] m := by
  intro m v0 k n
  unfold fJ3_init_t15
  refine s_aload_n C rfl 0 rfl dJ3_init_0 1 rfl ?_
  refine x_ok (fun hb_ => ?_)
  refine x_obj C hb_ q203 q152 q153 (by decide) (Nat.le_of_ble_eq_true rfl) dJ3_init_1 4 rfl ?_
  exact x_vret C hret rfl dJ3_init_4
theorem hdJ3_init_t15 : ((⟨"java/util/AbstractMap", "<init>", "()V"⟩ : MethodName)).cls ≠ "java/lang/invoke/MethodHandle" ∧ ((⟨"java/util/AbstractMap", "<init>", "()V"⟩ : MethodName)).cls ≠ "java/lang/invoke/VarHandle" ∧ (parseMethodDescriptor ((⟨"java/util/AbstractMap", "<init>", "()V"⟩ : MethodName)).desc).map (fun d => d.parameters.length) = some 0 := ⟨by decide +kernel, by decide +kernel, by decide +kernel⟩
theorem ctJ3_init_t15 {l : Launch} {g : GG} (hst : l.stackTraces = false) (N : Nat) (m : Mm) (v0 : Option Nat) : ∀ v m' k n, fJ3_init_t15 (gE_ g) N m v0 = some (v, m', k, n) → Ct_ l g (⟨"java/util/AbstractMap", "<init>", "()V"⟩ : MethodName) (ws_ (⟨"java/util/AbstractMap", "<init>", "()V"⟩ : MethodName) cJ3_init 1 (Option.none : Option Jvm.ClassFile.FieldType)) 10 [vr_ v0] m (en_v v) m' k n :=
  Ct_of (by decide +kernel) rfl hst (Nat.le_of_ble_eq_true rfl) rfl (fun E C hret h0 hin => wJ3_init_t15 C hret h0 hin N m v0 0 0)
theorem wJ4_init {l : Launch} {g : GG} {E : Me_} (C : Cx_ l g E "java/util/TreeMap" cJ4_init 1 11) (hret : (eT_ E).sig.returnType = (Option.none : Option Jvm.ClassFile.FieldType)) (h0 : ∀ x ∈ (eC_ E).exceptionTable.toList, False) (hin : (eT_ E).name = "<init>") (N : Nat) : ∀ (m : Mm) (v0 : Option Nat) (k n : Nat), Sm_ l g E 1 en_v (fJ4_init (gE_ g) N m v0) k n 0 [(0, vr_ v0)] [] m := by
  intro m v0 k n
  unfold fJ4_init
  refine s_aload_n C rfl 0 rfl dJ4_init_0 1 rfl ?_
  refine x_ok (fun hb0_ => ?_)
  refine x_callI (enc := en_v) C 10 0 [] (ctJ3_init_t15 C.2.2.2.2.2.2.2.2.1 N m v0) hb0_ rfl q200 q201 q86 q202 rfl hdJ3_init_t15 (Nat.le_of_ble_eq_true rfl) (Nat.le_of_ble_eq_true rfl) rfl (Nat.le_of_ble_eq_true rfl) dJ4_init_1 4 rfl rfl hen_v (kk_v (fun m1 k1 n1 => ?_)) (kx_n he_v)
  refine s_aload_n C rfl 0 rfl dJ4_init_4 5 rfl ?_
  refine s_iconst C 0 rfl dJ4_init_5 6 rfl ?_
  refine x_pi C 14 (RJ4, TJ4, 9) rfl 4 (Nat.le_of_ble_eq_true rfl) rfl q206 (Or.inl rfl) rfl trivial 15 rfl dJ4_init_6 9 rfl (fun m2 => ?_)
  refine s_aload_n C rfl 0 rfl dJ4_init_9 10 rfl ?_
  refine s_iconst C 0 rfl dJ4_init_10 11 rfl ?_
  refine x_pi C 14 (RJ4, TJ4, 9) rfl 5 (Nat.le_of_ble_eq_true rfl) rfl q207 (Or.inl rfl) rfl trivial 15 rfl dJ4_init_11 14 rfl (fun m3 => ?_)
  refine s_aload_n C rfl 0 rfl dJ4_init_14 15 rfl ?_
  refine s_null C dJ4_init_15 16 rfl ?_
  refine x_prF C hin 14 (RJ4, TJ4, 9) rfl 2 (Nat.le_of_ble_eq_true rfl) rfl q204 rfl rfl trivial 15 rfl dJ4_init_16 19 rfl (fun m4 => ?_)
  exact x_vret C hret rfl dJ4_init_19
theorem hdJ4_init : ((⟨"java/util/TreeMap", "<init>", "()V"⟩ : MethodName)).cls ≠ "java/lang/invoke/MethodHandle" ∧ ((⟨"java/util/TreeMap", "<init>", "()V"⟩ : MethodName)).cls ≠ "java/lang/invoke/VarHandle" ∧ (parseMethodDescriptor ((⟨"java/util/TreeMap", "<init>", "()V"⟩ : MethodName)).desc).map (fun d => d.parameters.length) = some 0 := ⟨by decide +kernel, by decide +kernel, by decide +kernel⟩
theorem ctJ4_init {l : Launch} {g : GG} (hst : l.stackTraces = false) (N : Nat) (m : Mm) (v0 : Option Nat) : ∀ v m' k n, fJ4_init (gE_ g) N m v0 = some (v, m', k, n) → Ct_ l g (⟨"java/util/TreeMap", "<init>", "()V"⟩ : MethodName) (ws_ (⟨"java/util/TreeMap", "<init>", "()V"⟩ : MethodName) cJ4_init 1 (Option.none : Option Jvm.ClassFile.FieldType)) 11 [vr_ v0] m (en_v v) m' k n :=
  Ct_of (by decide +kernel) rfl hst (Nat.le_of_ble_eq_true rfl) rfl (fun E C hret h0 hin => wJ4_init C hret h0 hin N m v0 0 0)
theorem wX3_init {l : Launch} {g : GG} {E : Me_} (C : Cx_ l g E "MasterTree$Entry" cX3_init 3 13) (hret : (eT_ E).sig.returnType = (Option.none : Option Jvm.ClassFile.FieldType)) (h0 : ∀ x ∈ (eC_ E).exceptionTable.toList, False) (hin : (eT_ E).name = "<init>") (N : Nat) : ∀ (m : Mm) (v0 : Option Nat) (v1 : Int32) (v2 : Option Nat) (k n : Nat), Sm_ l g E 3 en_v (fX3_init (gE_ g) N m v0 v1 v2) k n 0 [(0, vr_ v0), (1, vi_ v1), (2, vr_ v2)] [] m := by
  intro m v0 v1 v2 k n
  unfold fX3_init
  refine s_aload_n C rfl 0 rfl dX3_init_0 1 rfl ?_
  refine x_ok (fun hb_ => ?_)
  refine x_obj C hb_ q240 q152 q153 (by decide) (Nat.le_of_ble_eq_true rfl) dX3_init_1 4 rfl ?_
  refine s_aload_n C rfl 0 rfl dX3_init_4 5 rfl ?_
  refine x_nw C 12 (RJ2, TJ2, 3) rfl q241 q155 q84 13 3 rfl rfl dX3_init_5 8 rfl (fun x1 m1 => ?_)
  refine s_dup C rfl dX3_init_8 9 rfl ?_
  refine x_callI (enc := en_v) C 12 0 [] (ctJ2_init C.2.2.2.2.2.2.2.2.1 N m1 (some x1)) (fun h => by cases h) rfl q242 q157 q84 q158 rfl hdJ2_init (Nat.le_of_ble_eq_true rfl) (Nat.le_of_ble_eq_true rfl) rfl (Nat.le_of_ble_eq_true rfl) dX3_init_9 12 rfl rfl hen_v (kk_v (fun m2 k1 n1 => ?_)) (kx_n he_v)
  refine x_prF C hin 2 (RX3, TX3, 9) rfl 2 (Nat.le_of_ble_eq_true rfl) rfl q248 rfl rfl trivial 3 rfl dX3_init_12 15 rfl (fun m3 => ?_)
  refine s_aload_n C rfl 0 rfl dX3_init_15 16 rfl ?_
  refine s_iconst C (-1) rfl dX3_init_16 17 rfl ?_
  refine x_pi C 2 (RX3, TX3, 9) rfl 6 (Nat.le_of_ble_eq_true rfl) rfl q263 (Or.inl rfl) rfl trivial 3 rfl dX3_init_17 20 rfl (fun m4 => ?_)
  refine s_aload_n C rfl 0 rfl dX3_init_20 21 rfl ?_
  refine x_nw C 14 (RJ4, TJ4, 9) rfl q243 q196 q87 15 9 rfl rfl dX3_init_21 24 rfl (fun x2 m5 => ?_)
  refine s_dup C rfl dX3_init_24 25 rfl ?_
  refine x_callI (enc := en_v) C 11 0 [] (ctJ4_init C.2.2.2.2.2.2.2.2.1 N m5 (some x2)) (fun h => by cases h) rfl q244 q198 q87 q199 rfl hdJ4_init (Nat.le_of_ble_eq_true rfl) (Nat.le_of_ble_eq_true rfl) rfl (Nat.le_of_ble_eq_true rfl) dX3_init_25 28 rfl rfl hen_v (kk_v (fun m6 k1 n1 => ?_)) (kx_n he_v)
  refine x_prF C hin 2 (RX3, TX3, 9) rfl 7 (Nat.le_of_ble_eq_true rfl) rfl q267 rfl rfl trivial 3 rfl dX3_init_28 31 rfl (fun m7 => ?_)
  refine s_aload_n C rfl 0 rfl dX3_init_31 32 rfl ?_
  refine x_nw C 14 (RJ4, TJ4, 9) rfl q243 q196 q87 15 9 rfl rfl dX3_init_32 35 rfl (fun x3 m8 => ?_)
  refine s_dup C rfl dX3_init_35 36 rfl ?_
  refine x_callI (enc := en_v) C 11 0 [] (ctJ4_init C.2.2.2.2.2.2.2.2.1 N m8 (some x3)) (fun h => by cases h) rfl q244 q198 q87 q199 rfl hdJ4_init (Nat.le_of_ble_eq_true rfl) (Nat.le_of_ble_eq_true rfl) rfl (Nat.le_of_ble_eq_true rfl) dX3_init_36 39 rfl rfl hen_v (kk_v (fun m9 k1 n1 => ?_)) (kx_n he_v)
  refine x_prF C hin 2 (RX3, TX3, 9) rfl 8 (Nat.le_of_ble_eq_true rfl) rfl q271 rfl rfl trivial 3 rfl dX3_init_39 42 rfl (fun m10 => ?_)
  refine s_aload_n C rfl 0 rfl dX3_init_42 43 rfl ?_
  refine s_iload_n C rfl 1 rfl dX3_init_43 44 rfl ?_
  refine x_piF C hin 2 (RX3, TX3, 9) rfl 0 (Nat.le_of_ble_eq_true rfl) rfl q245 rfl rfl trivial 3 rfl dX3_init_44 47 rfl (fun m11 => ?_)
  refine s_aload_n C rfl 0 rfl dX3_init_47 48 rfl ?_
  refine s_aload_n C rfl 2 rfl dX3_init_48 49 rfl ?_
  refine x_prF C hin 2 (RX3, TX3, 9) rfl 1 (Nat.le_of_ble_eq_true rfl) rfl q247 rfl rfl trivial 3 rfl dX3_init_49 52 rfl (fun m12 => ?_)
  exact x_vret C hret rfl dX3_init_52
theorem hdX3_init : ((⟨"MasterTree$Entry", "<init>", "(ILjava/util/List;)V"⟩ : MethodName)).cls ≠ "java/lang/invoke/MethodHandle" ∧ ((⟨"MasterTree$Entry", "<init>", "(ILjava/util/List;)V"⟩ : MethodName)).cls ≠ "java/lang/invoke/VarHandle" ∧ (parseMethodDescriptor ((⟨"MasterTree$Entry", "<init>", "(ILjava/util/List;)V"⟩ : MethodName)).desc).map (fun d => d.parameters.length) = some 2 := ⟨by decide +kernel, by decide +kernel, by decide +kernel⟩
theorem ctX3_init {l : Launch} {g : GG} (hst : l.stackTraces = false) (N : Nat) (m : Mm) (v0 : Option Nat) (v1 : Int32) (v2 : Option Nat) : ∀ v m' k n, fX3_init (gE_ g) N m v0 v1 v2 = some (v, m', k, n) → Ct_ l g (⟨"MasterTree$Entry", "<init>", "(ILjava/util/List;)V"⟩ : MethodName) (ws_ (⟨"MasterTree$Entry", "<init>", "(ILjava/util/List;)V"⟩ : MethodName) cX3_init 3 (Option.none : Option Jvm.ClassFile.FieldType)) 13 [vr_ v0, vi_ v1, vr_ v2] m (en_v v) m' k n :=
  Ct_of (by decide +kernel) rfl hst (Nat.le_of_ble_eq_true rfl) rfl (fun E C hret h0 hin => wX3_init C hret h0 hin N m v0 v1 v2 0 0)
theorem wX2_takes_b142 {l : Launch} {g : GG} {E : Me_} (C : Cx_ l g E "MasterTree$Master" cX2_takes 3 22) (hret : (eT_ E).sig.returnType = (Option.none : Option Jvm.ClassFile.FieldType)) (h0 : ∀ x ∈ (eC_ E).exceptionTable.toList, False) (hin : (eT_ E).name = "takes") (N : Nat) : ∀ (m : Mm) (k n : Nat), Sm_ l g E 3 en_v (fX2_takes_b142 (gE_ g) N m) k n 142 [] [] m := by
  intro m k n
  unfold fX2_takes_b142
  exact x_vret C hret rfl dX2_takes_142
theorem wX2_takes_b131 {l : Launch} {g : GG} {E : Me_} (C : Cx_ l g E "MasterTree$Master" cX2_takes 3 22) (hret : (eT_ E).sig.returnType = (Option.none : Option Jvm.ClassFile.FieldType)) (h0 : ∀ x ∈ (eC_ E).exceptionTable.toList, False) (hin : (eT_ E).name = "takes") (N : Nat) : ∀ (m : Mm) (v0 : Option Nat) (k n : Nat), Sm_ l g E 3 en_v (fX2_takes_b131 (gE_ g) N m v0) k n 131 [(0, vr_ v0)] [] m := by
  intro m v0 k n
  unfold fX2_takes_b131
  refine s_aload_n C rfl 0 rfl dX2_takes_131 132 rfl ?_
  refine x_gr C 1 (RX2, TX2, 12) rfl 5 (Nat.le_of_ble_eq_true rfl) q305 (Or.inl rfl) rfl 2 rfl dX2_takes_132 135 rfl (fun x1 => ?_)
  refine s_aload_n C rfl 0 rfl dX2_takes_135 136 rfl ?_
  refine x_gr C 1 (RX2, TX2, 12) rfl 7 (Nat.le_of_ble_eq_true rfl) q310 (Or.inl rfl) rfl 2 rfl dX2_takes_136 139 rfl (fun x2 => ?_)
  refine x_callSN (enc := en_v) C 12 2 [vr_ x1, vr_ x2] (ctX1_findsParents C.2.2.2.2.2.2.2.2.1 N m x1 x2) q2292 q2293 q81 q2294 hdX1_findsParents (Nat.le_of_ble_eq_true rfl) (Nat.le_of_ble_eq_true rfl) rfl (Nat.le_of_ble_eq_true rfl) dX2_takes_139 142 rfl rfl hen_v (kk_v (fun m1 k1 n1 => ?_)) (kx_n he_v)
  refine Sm_sub [] rfl ?_
  exact wX2_takes_b142 C hret h0 hin N _ _ _
theorem wX2_takes_b77 {l : Launch} {g : GG} {E : Me_} (C : Cx_ l g E "MasterTree$Master" cX2_takes 3 22) (hret : (eT_ E).sig.returnType = (Option.none : Option Jvm.ClassFile.FieldType)) (h0 : ∀ x ∈ (eC_ E).exceptionTable.toList, False) (hin : (eT_ E).name = "takes") (N : Nat) : ∀ (m : Mm) (v0 : Option Nat) (v1 : Option Nat) (k n : Nat), Sm_ l g E 3 en_v (fX2_takes_b77 (gE_ g) N m v0 v1) k n 77 [(0, vr_ v0), (1, vr_ v1)] [] m := by
  intro m v0 v1 k n
  unfold fX2_takes_b77
  refine s_aload_n C rfl 0 rfl dX2_takes_77 78 rfl ?_
  refine x_gr C 1 (RX2, TX2, 12) rfl 6 (Nat.le_of_ble_eq_true rfl) q307 (Or.inl rfl) rfl 2 rfl dX2_takes_78 81 rfl (fun x1 => ?_)
  refine s_aload_n C rfl 1 rfl dX2_takes_81 82 rfl ?_
  refine x_giN C 6 (RX7, TX7, 9) rfl 4 (Nat.le_of_ble_eq_true rfl) q1745 rfl rfl 7 rfl dX2_takes_82 85 rfl (fun x2 => ?_)
  refine x_ar C 5 (.object "MasterTree$Entry") rfl rfl rfl 205 rfl dX2_takes_85 86 rfl (fun x3 => ?_)
  refine s_astore_n C rfl (Nat.le_of_ble_eq_true rfl) [0, 1] rfl rfl dX2_takes_86 87 rfl ?_
  refine s_aload_n C rfl 1 rfl dX2_takes_87 88 rfl ?_
  refine s_aload_n C rfl 0 rfl dX2_takes_88 89 rfl ?_
  refine s_iconst C 0 rfl dX2_takes_89 90 rfl ?_
  refine x_ck (fun hb_ hb0_ => ?_)
  refine x_callV (enc := en_v) C 18 2 [vr_ x3, vi_ 0] 2 (ctX2_indexes C.2.2.2.2.2.2.2.2.1 N m v0 x3 0) hb_ hb0_ rfl rfl q1824 q1826 qs14 q85 q1827 hdX2_indexes (Nat.le_of_ble_eq_true rfl) (Nat.le_of_ble_eq_true rfl) rfl (Nat.le_of_ble_eq_true rfl) dX2_takes_90 93 rfl rfl hen_v (kk_v (fun m1 k1 n1 => ?_)) (kx_n he_v)
  refine s_aload_n C rfl 2 rfl dX2_takes_93 94 rfl ?_
  refine s_aload_n C rfl 0 rfl dX2_takes_94 95 rfl ?_
  refine x_grN C 2 (RX3, TX3, 9) rfl 2 (Nat.le_of_ble_eq_true rfl) q249 rfl rfl 3 rfl dX2_takes_95 98 rfl (fun x4 => ?_)
  refine x_ck (fun hb_ hb0_ => ?_)
  refine x_callV (enc := en_v) C 15 1 [vr_ x4] 7 (ctX7_comesInto C.2.2.2.2.2.2.2.2.1 N m1 v1 x4) hb_ hb0_ rfl rfl q1789 q1790 q1791 q127 q1792 hdX7_comesInto (Nat.le_of_ble_eq_true rfl) (Nat.le_of_ble_eq_true rfl) rfl (Nat.le_of_ble_eq_true rfl) dX2_takes_98 101 rfl rfl hen_v (kk_v (fun m2 k1 n1 => ?_)) (kx_n he_v)
  refine s_aload_n C rfl 0 rfl dX2_takes_101 102 rfl ?_
  refine x_ck (fun hb_ hb0_ => ?_)
  refine x_callV (enc := en_v) C 21 0 [] 3 (ctX3_does C.2.2.2.2.2.2.2.2.1 N m2 x3) hb_ hb0_ rfl rfl q1955 q1956 q1957 q88 q1958 hdX3_does (Nat.le_of_ble_eq_true rfl) (Nat.le_of_ble_eq_true rfl) rfl (Nat.le_of_ble_eq_true rfl) dX2_takes_102 105 rfl rfl hen_v (kk_v (fun m3 k1 n1 => ?_)) (kx_n he_v)
  refine s_aload_n C rfl 1 rfl dX2_takes_105 106 rfl ?_
  refine s_aload_n C rfl 0 rfl dX2_takes_106 107 rfl ?_
  refine s_iconst C 1 rfl dX2_takes_107 108 rfl ?_
  refine x_ck (fun hb_ hb0_ => ?_)
  refine x_callV (enc := en_v) C 18 2 [vr_ x3, vi_ 1] 2 (ctX2_indexes C.2.2.2.2.2.2.2.2.1 N m3 v0 x3 1) hb_ hb0_ rfl rfl q1824 q1826 qs14 q85 q1827 hdX2_indexes (Nat.le_of_ble_eq_true rfl) (Nat.le_of_ble_eq_true rfl) rfl (Nat.le_of_ble_eq_true rfl) dX2_takes_108 111 rfl rfl hen_v (kk_v (fun m4 k1 n1 => ?_)) (kx_n he_v)
  refine s_aload_n C rfl 2 rfl dX2_takes_111 112 rfl ?_
  refine x_grN C 6 (RX7, TX7, 9) rfl 3 (Nat.le_of_ble_eq_true rfl) q1741 rfl rfl 7 rfl dX2_takes_112 115 rfl (fun x5 => ?_)
  refine x_gs C 8 (vr_ (some (gE_ g 6))) rfl q2289 rfl dX2_takes_115 118 rfl ?_
  refine s_acmp_eq C dX2_takes_118 131 rfl 121 rfl (fun c_ => ?_) (fun c_ => ?_)
  · refine Sm_sub [1] rfl ?_
    exact wX2_takes_b131 C hret h0 hin N _ _ _ _
  · refine s_aload_n C rfl 2 rfl dX2_takes_121 122 rfl ?_
    refine x_grN C 6 (RX7, TX7, 9) rfl 3 (Nat.le_of_ble_eq_true rfl) q1741 rfl rfl 7 rfl dX2_takes_122 125 rfl (fun x6 => ?_)
    refine x_gs C 15 (vr_ (some (gE_ g 13))) rfl q2290 rfl dX2_takes_125 128 rfl ?_
    refine s_acmp_ne C dX2_takes_128 142 rfl 131 rfl (fun c_ => ?_) (fun c_ => ?_)
    · refine Sm_sub [1] rfl ?_
      exact wX2_takes_b131 C hret h0 hin N _ _ _ _
    · refine Sm_sub [] rfl ?_
      exact wX2_takes_b142 C hret h0 hin N _ _ _
theorem wX2_takes {l : Launch} {g : GG} {E : Me_} (C : Cx_ l g E "MasterTree$Master" cX2_takes 3 22) (hret : (eT_ E).sig.returnType = (Option.none : Option Jvm.ClassFile.FieldType)) (h0 : ∀ x ∈ (eC_ E).exceptionTable.toList, False) (hin : (eT_ E).name = "takes") (N : Nat) : ∀ (m : Mm) (v0 : Option Nat) (v1 : Option Nat) (k n : Nat), Sm_ l g E 3 en_v (fX2_takes (gE_ g) N m v0 v1) k n 0 [(0, vr_ v0), (1, vr_ v1)] [] m := by
  intro m v0 v1 k n
  unfold fX2_takes
  refine s_aload_n C rfl 1 rfl dX2_takes_0 1 rfl ?_
  refine s_aload_n C rfl 0 rfl dX2_takes_1 2 rfl ?_
  refine x_gr C 1 (RX2, TX2, 12) rfl 5 (Nat.le_of_ble_eq_true rfl) q305 (Or.inl rfl) rfl 2 rfl dX2_takes_2 5 rfl (fun x1 => ?_)
  refine x_ck (fun hb_ hb0_ => ?_)
  refine x_callV (enc := en_v) C 15 1 [vr_ x1] 7 (ctX7_comesInto C.2.2.2.2.2.2.2.2.1 N m v1 x1) hb_ hb0_ rfl rfl q1789 q1790 q1791 q127 q1792 hdX7_comesInto (Nat.le_of_ble_eq_true rfl) (Nat.le_of_ble_eq_true rfl) rfl (Nat.le_of_ble_eq_true rfl) dX2_takes_5 8 rfl rfl hen_v (kk_v (fun m1 k1 n1 => ?_)) (kx_n he_v)
  refine s_aload_n C rfl 0 rfl dX2_takes_8 9 rfl ?_
  refine x_gr C 1 (RX2, TX2, 12) rfl 8 (Nat.le_of_ble_eq_true rfl) q312 (Or.inl rfl) rfl 2 rfl dX2_takes_9 12 rfl (fun x2 => ?_)
  refine s_aload_n C rfl 0 rfl dX2_takes_12 13 rfl ?_
  refine x_gi C 1 (RX2, TX2, 12) rfl 0 (Nat.le_of_ble_eq_true rfl) q295 (Or.inl rfl) rfl 2 rfl dX2_takes_13 16 rfl (fun x3 => ?_)
  refine x_ar C 6 (.array .int) rfl rfl rfl 206 rfl dX2_takes_16 17 rfl (fun x4 => ?_)
  refine s_aload_n C rfl 1 rfl dX2_takes_17 18 rfl ?_
  refine x_giN C 6 (RX7, TX7, 9) rfl 1 (Nat.le_of_ble_eq_true rfl) q1734 rfl rfl 7 rfl dX2_takes_18 21 rfl (fun x5 => ?_)
  refine s_dup2_11 C rfl rfl dX2_takes_21 22 rfl ?_
  refine x_ai0 C 200 rfl dX2_takes_22 23 rfl (fun x6 => ?_)
  refine s_iconst C 1 rfl dX2_takes_23 24 rfl ?_
  refine s_iadd C dX2_takes_24 25 rfl ?_
  refine x_bi0 C 200 rfl dX2_takes_25 26 rfl (fun m2 => ?_)
  refine s_aload_n C rfl 0 rfl dX2_takes_26 27 rfl ?_
  refine s_aload_n C rfl 0 rfl dX2_takes_27 28 rfl ?_
  refine x_gi C 1 (RX2, TX2, 12) rfl 4 (Nat.le_of_ble_eq_true rfl) q303 (Or.inl rfl) rfl 2 rfl dX2_takes_28 31 rfl (fun x7 => ?_)
  refine s_aload_n C rfl 1 rfl dX2_takes_31 32 rfl ?_
  refine x_giN C 6 (RX7, TX7, 9) rfl 0 (Nat.le_of_ble_eq_true rfl) q1732 rfl rfl 7 rfl dX2_takes_32 35 rfl (fun x8 => ?_)
  refine x_mmax C q1653 q371 q90 q372 (Nat.le_of_ble_eq_true rfl) (Nat.le_of_ble_eq_true rfl) dX2_takes_35 38 rfl ?_
  refine x_pi C 1 (RX2, TX2, 12) rfl 4 (Nat.le_of_ble_eq_true rfl) rfl q303 (Or.inl rfl) rfl trivial 2 rfl dX2_takes_38 41 rfl (fun m3 => ?_)
  refine s_aload_n C rfl 0 rfl dX2_takes_41 42 rfl ?_
  refine x_gr C 1 (RX2, TX2, 12) rfl 6 (Nat.le_of_ble_eq_true rfl) q307 (Or.inl rfl) rfl 2 rfl dX2_takes_42 45 rfl (fun x9 => ?_)
  refine s_aload_n C rfl 1 rfl dX2_takes_45 46 rfl ?_
  refine x_giN C 6 (RX7, TX7, 9) rfl 4 (Nat.le_of_ble_eq_true rfl) q1745 rfl rfl 7 rfl dX2_takes_46 49 rfl (fun x10 => ?_)
  refine x_ar C 5 (.object "MasterTree$Entry") rfl rfl rfl 205 rfl dX2_takes_49 50 rfl (fun x11 => ?_)
  refine s_ifnonnull C dX2_takes_50 77 rfl 53 rfl (fun c_ => ?_) (fun c_ => ?_)
  · refine s_aload_n C rfl 0 rfl dX2_takes_53 54 rfl ?_
    refine x_gr C 1 (RX2, TX2, 12) rfl 6 (Nat.le_of_ble_eq_true rfl) q307 (Or.inl rfl) rfl 2 rfl dX2_takes_54 57 rfl (fun x12 => ?_)
    refine s_aload_n C rfl 1 rfl dX2_takes_57 58 rfl ?_
    refine x_giN C 6 (RX7, TX7, 9) rfl 4 (Nat.le_of_ble_eq_true rfl) q1745 rfl rfl 7 rfl dX2_takes_58 61 rfl (fun x13 => ?_)
    refine x_nw C 2 (RX3, TX3, 9) rfl q191 q236 q88 3 9 rfl rfl dX2_takes_61 64 rfl (fun x14 m4 => ?_)
    refine s_dup C rfl dX2_takes_64 65 rfl ?_
    refine s_aload_n C rfl 1 rfl dX2_takes_65 66 rfl ?_
    refine x_giN C 6 (RX7, TX7, 9) rfl 4 (Nat.le_of_ble_eq_true rfl) q1745 rfl rfl 7 rfl dX2_takes_66 69 rfl (fun x15 => ?_)
    refine s_aload_n C rfl 0 rfl dX2_takes_69 70 rfl ?_
    refine x_gr C 1 (RX2, TX2, 12) rfl 1 (Nat.le_of_ble_eq_true rfl) q298 (Or.inl rfl) rfl 2 rfl dX2_takes_70 73 rfl (fun x16 => ?_)
    refine x_callI (enc := en_v) C 13 2 [vi_ x15, vr_ x16] (ctX3_init C.2.2.2.2.2.2.2.2.1 N m4 (some x14) x15 x16) (fun h => by cases h) rfl q237 q238 q88 q239 rfl hdX3_init (Nat.le_of_ble_eq_true rfl) (Nat.le_of_ble_eq_true rfl) rfl (Nat.le_of_ble_eq_true rfl) dX2_takes_73 76 rfl rfl hen_v (kk_v (fun m5 k1 n1 => ?_)) (kx_n he_v)
    refine x_br C 5 "MasterTree$Entry" rfl _ (fun k hk => by rw [List.mem_singleton.mp hk]; exact ⟨rfl, Or.inr rfl⟩) 205 rfl dX2_takes_76 77 rfl (fun m6 => ?_)
    exact wX2_takes_b77 C hret h0 hin N _ _ _ _ _
  · exact wX2_takes_b77 C hret h0 hin N _ _ _ _ _
theorem hdX2_takes : ((⟨"MasterTree$Master", "takes", "(LMasterTree$Change;)V"⟩ : MethodName)).cls ≠ "java/lang/invoke/MethodHandle" ∧ ((⟨"MasterTree$Master", "takes", "(LMasterTree$Change;)V"⟩ : MethodName)).cls ≠ "java/lang/invoke/VarHandle" ∧ (parseMethodDescriptor ((⟨"MasterTree$Master", "takes", "(LMasterTree$Change;)V"⟩ : MethodName)).desc).map (fun d => d.parameters.length) = some 1 := ⟨by decide +kernel, by decide +kernel, by decide +kernel⟩
theorem ctX2_takes {l : Launch} {g : GG} (hst : l.stackTraces = false) (N : Nat) (m : Mm) (v0 : Option Nat) (v1 : Option Nat) : ∀ v m' k n, fX2_takes (gE_ g) N m v0 v1 = some (v, m', k, n) → Ct_ l g (⟨"MasterTree$Master", "takes", "(LMasterTree$Change;)V"⟩ : MethodName) (ws_ (⟨"MasterTree$Master", "takes", "(LMasterTree$Change;)V"⟩ : MethodName) cX2_takes 3 (Option.none : Option Jvm.ClassFile.FieldType)) 22 [vr_ v0, vr_ v1] m (en_v v) m' k n :=
  Ct_of (by decide +kernel) rfl hst (Nat.le_of_ble_eq_true rfl) rfl (fun E C hret h0 hin => wX2_takes C hret h0 hin N m v0 v1 0 0)
theorem wX1_makes {l : Launch} {g : GG} {E : Me_} (C : Cx_ l g E "MasterTree" cX1_makes 8 23) (hret : (eT_ E).sig.returnType = (Option.none : Option Jvm.ClassFile.FieldType)) (h0 : ∀ x ∈ (eC_ E).exceptionTable.toList, False) (hin : (eT_ E).name = "makes") (N : Nat) : ∀ (m : Mm) (v0 : Option Nat) (v1 : Option Nat) (v2 : Option Nat) (v3 : Int32) (v4 : Int32) (v5 : Int32) (v6 : Int32) (v7 : Option Nat) (k n : Nat), Sm_ l g E 8 en_v (fX1_makes (gE_ g) N m v0 v1 v2 v3 v4 v5 v6 v7) k n 0 [(0, vr_ v0), (1, vr_ v1), (2, vr_ v2), (3, vi_ v3), (4, vi_ v4), (5, vi_ v5), (6, vi_ v6), (7, vr_ v7)] [] m := by
  intro m v0 v1 v2 v3 v4 v5 v6 v7 k n
  unfold fX1_makes
  refine s_aload_n C rfl 0 rfl dX1_makes_0 1 rfl ?_
  refine s_dup C rfl dX1_makes_1 2 rfl ?_
  refine x_gi C 0 (RX1, TX1, 9) rfl 7 (Nat.le_of_ble_eq_true rfl) q453 (Or.inl rfl) rfl 1 rfl dX1_makes_2 5 rfl (fun x1 => ?_)
  refine s_iconst C 1 rfl dX1_makes_5 6 rfl ?_
  refine s_iadd C dX1_makes_6 7 rfl ?_
  refine x_pi C 0 (RX1, TX1, 9) rfl 7 (Nat.le_of_ble_eq_true rfl) rfl q453 (Or.inl rfl) rfl trivial 1 rfl dX1_makes_7 10 rfl (fun m1 => ?_)
  refine s_aload_n C rfl 1 rfl dX1_makes_10 11 rfl ?_
  refine x_nw C 6 (RX7, TX7, 9) rfl q1725 q1726 q127 7 9 rfl rfl dX1_makes_11 14 rfl (fun x2 m2 => ?_)
  refine s_dup C rfl dX1_makes_14 15 rfl ?_
  refine s_aload_n C rfl 1 rfl dX1_makes_15 16 rfl ?_
  refine x_giN C 1 (RX2, TX2, 12) rfl 4 (Nat.le_of_ble_eq_true rfl) q304 rfl rfl 2 rfl dX1_makes_16 19 rfl (fun x3 => ?_)
  refine s_iconst C 1 rfl dX1_makes_19 20 rfl ?_
  refine s_iadd C dX1_makes_20 21 rfl ?_
  refine s_aload_n C rfl 1 rfl dX1_makes_21 22 rfl ?_
  refine x_giN C 1 (RX2, TX2, 12) rfl 0 (Nat.le_of_ble_eq_true rfl) q297 rfl rfl 2 rfl dX1_makes_22 25 rfl (fun x4 => ?_)
  refine s_aload_n C rfl 1 rfl dX1_makes_25 26 rfl ?_
  refine x_grN C 1 (RX2, TX2, 12) rfl 8 (Nat.le_of_ble_eq_true rfl) q313 rfl rfl 2 rfl dX1_makes_26 29 rfl (fun x5 => ?_)
  refine s_aload_n C rfl 1 rfl dX1_makes_29 30 rfl ?_
  refine x_giN C 1 (RX2, TX2, 12) rfl 0 (Nat.le_of_ble_eq_true rfl) q297 rfl rfl 2 rfl dX1_makes_30 33 rfl (fun x6 => ?_)
  refine x_ar C 6 (.array .int) rfl rfl rfl 206 rfl dX1_makes_33 34 rfl (fun x7 => ?_)
  refine s_aload_n C rfl 1 rfl dX1_makes_34 35 rfl ?_
  refine x_giN C 1 (RX2, TX2, 12) rfl 0 (Nat.le_of_ble_eq_true rfl) q297 rfl rfl 2 rfl dX1_makes_35 38 rfl (fun x8 => ?_)
  refine x_ai0 C 200 rfl dX1_makes_38 39 rfl (fun x9 => ?_)
  refine s_aload_n C rfl 2 rfl dX1_makes_39 40 rfl ?_
  refine s_iload_n C rfl 3 rfl dX1_makes_40 41 rfl ?_
  refine s_iload C 4 rfl dX1_makes_41 43 rfl ?_
  refine s_iload C 5 rfl dX1_makes_43 45 rfl ?_
  refine s_iload C 6 rfl dX1_makes_45 47 rfl ?_
  refine s_aload C 7 rfl dX1_makes_47 49 rfl ?_
  refine x_callI (enc := en_v) C 10 9 [vi_ (x3 + 1), vi_ x4, vi_ x9, vr_ v2, vi_ v3, vi_ v4, vi_ v5, vi_ v6, vr_ v7] (ctX7_init C.2.2.2.2.2.2.2.2.1 N m2 (some x2) (x3 + 1) x4 x9 v2 v3 v4 v5 v6 v7) (fun h => by cases h) rfl q1727 q1728 q127 q1729 rfl hdX7_init (Nat.le_of_ble_eq_true rfl) (Nat.le_of_ble_eq_true rfl) rfl (Nat.le_of_ble_eq_true rfl) dX1_makes_49 52 rfl rfl hen_v (kk_v (fun m3 k1 n1 => ?_)) (kx_n he_v)
  refine x_ck (fun hb_ hb0_ => ?_)
  refine x_callV (enc := en_v) C 22 1 [vr_ (some x2)] 2 (ctX2_takes C.2.2.2.2.2.2.2.2.1 N m3 v1 (some x2)) hb_ hb0_ rfl rfl q1785 q1786 q1787 q85 q1788 hdX2_takes (Nat.le_of_ble_eq_true rfl) (Nat.le_of_ble_eq_true rfl) rfl (Nat.le_of_ble_eq_true rfl) dX1_makes_52 55 rfl rfl hen_v (kk_v (fun m4 k1 n1 => ?_)) (kx_n he_v)
  exact x_vret C hret rfl dX1_makes_55
theorem hdX1_makes : ((⟨"MasterTree", "makes", "(LMasterTree$Master;LMasterTree$Kind;IIIILjava/util/List;)V"⟩ : MethodName)).cls ≠ "java/lang/invoke/MethodHandle" ∧ ((⟨"MasterTree", "makes", "(LMasterTree$Master;LMasterTree$Kind;IIIILjava/util/List;)V"⟩ : MethodName)).cls ≠ "java/lang/invoke/VarHandle" ∧ (parseMethodDescriptor ((⟨"MasterTree", "makes", "(LMasterTree$Master;LMasterTree$Kind;IIIILjava/util/List;)V"⟩ : MethodName)).desc).map (fun d => d.parameters.length) = some 7 := ⟨by decide +kernel, by decide +kernel, by decide +kernel⟩
theorem ctX1_makes {l : Launch} {g : GG} (hst : l.stackTraces = false) (N : Nat) (m : Mm) (v0 : Option Nat) (v1 : Option Nat) (v2 : Option Nat) (v3 : Int32) (v4 : Int32) (v5 : Int32) (v6 : Int32) (v7 : Option Nat) : ∀ v m' k n, fX1_makes (gE_ g) N m v0 v1 v2 v3 v4 v5 v6 v7 = some (v, m', k, n) → Ct_ l g (⟨"MasterTree", "makes", "(LMasterTree$Master;LMasterTree$Kind;IIIILjava/util/List;)V"⟩ : MethodName) (ws_ (⟨"MasterTree", "makes", "(LMasterTree$Master;LMasterTree$Kind;IIIILjava/util/List;)V"⟩ : MethodName) cX1_makes 8 (Option.none : Option Jvm.ClassFile.FieldType)) 23 [vr_ v0, vr_ v1, vr_ v2, vi_ v3, vi_ v4, vi_ v5, vi_ v6, vr_ v7] m (en_v v) m' k n :=
  Ct_of (by decide +kernel) rfl hst (Nat.le_of_ble_eq_true rfl) rfl (fun E C hret h0 hin => wX1_makes C hret h0 hin N m v0 v1 v2 v3 v4 v5 v6 v7 0 0)
theorem wX2_isLive_b36 {l : Launch} {g : GG} {E : Me_} (C : Cx_ l g E "MasterTree$Master" cX2_isLive 2 11) (hret : (eT_ E).sig.returnType = (Option.some Jvm.ClassFile.FieldType.boolean)) (h0 : ∀ x ∈ (eC_ E).exceptionTable.toList, False) (hin : (eT_ E).name = "isLive") (N : Nat) : ∀ (m : Mm) (s0 : Int32) (k n : Nat), Sm_ l g E 2 en_i (fX2_isLive_b36 (gE_ g) N m s0) k n 36 [] [vi_ s0] m := by
  intro m s0 k n
  unfold fX2_isLive_b36
  exact x_zret C hret rfl dX2_isLive_36
theorem wX2_isLive_b35 {l : Launch} {g : GG} {E : Me_} (C : Cx_ l g E "MasterTree$Master" cX2_isLive 2 11) (hret : (eT_ E).sig.returnType = (Option.some Jvm.ClassFile.FieldType.boolean)) (h0 : ∀ x ∈ (eC_ E).exceptionTable.toList, False) (hin : (eT_ E).name = "isLive") (N : Nat) : ∀ (m : Mm) (k n : Nat), Sm_ l g E 2 en_i (fX2_isLive_b35 (gE_ g) N m) k n 35 [] [] m := by
  intro m k n
  unfold fX2_isLive_b35
  refine s_iconst C 0 rfl dX2_isLive_35 36 rfl ?_
  exact wX2_isLive_b36 C hret h0 hin N _ _ _ _
theorem wX2_isLive {l : Launch} {g : GG} {E : Me_} (C : Cx_ l g E "MasterTree$Master" cX2_isLive 2 11) (hret : (eT_ E).sig.returnType = (Option.some Jvm.ClassFile.FieldType.boolean)) (h0 : ∀ x ∈ (eC_ E).exceptionTable.toList, False) (hin : (eT_ E).name = "isLive") (N : Nat) : ∀ (m : Mm) (v0 : Option Nat) (v1 : Int32) (k n : Nat), Sm_ l g E 2 en_i (fX2_isLive (gE_ g) N m v0 v1) k n 0 [(0, vr_ v0), (1, vi_ v1)] [] m := by
  intro m v0 v1 k n
  unfold fX2_isLive
  refine s_iload_n C rfl 1 rfl dX2_isLive_0 1 rfl ?_
  refine s_if_lt C dX2_isLive_1 35 rfl 4 rfl (fun c_ => ?_) (fun c_ => ?_)
  · refine Sm_sub [] rfl ?_
    exact wX2_isLive_b35 C hret h0 hin N _ _ _
  · refine s_iload_n C rfl 1 rfl dX2_isLive_4 5 rfl ?_
    refine s_bipush C 48 rfl dX2_isLive_5 7 rfl ?_
    refine s_icmp_ge C dX2_isLive_7 35 rfl 10 rfl (fun c_ => ?_) (fun c_ => ?_)
    · refine s_aload_n C rfl 0 rfl dX2_isLive_10 11 rfl ?_
      refine x_gr C 1 (RX2, TX2, 12) rfl 6 (Nat.le_of_ble_eq_true rfl) q307 (Or.inl rfl) rfl 2 rfl dX2_isLive_11 14 rfl (fun x1 => ?_)
      refine s_iload_n C rfl 1 rfl dX2_isLive_14 15 rfl ?_
      refine x_ar C 5 (.object "MasterTree$Entry") rfl rfl rfl 205 rfl dX2_isLive_15 16 rfl (fun x2 => ?_)
      refine s_ifnull C dX2_isLive_16 35 rfl 19 rfl (fun c_ => ?_) (fun c_ => ?_)
      · refine Sm_sub [] rfl ?_
        exact wX2_isLive_b35 C hret h0 hin N _ _ _
      · refine s_aload_n C rfl 0 rfl dX2_isLive_19 20 rfl ?_
        refine x_gr C 1 (RX2, TX2, 12) rfl 6 (Nat.le_of_ble_eq_true rfl) q307 (Or.inl rfl) rfl 2 rfl dX2_isLive_20 23 rfl (fun x3 => ?_)
        refine s_iload_n C rfl 1 rfl dX2_isLive_23 24 rfl ?_
        refine x_ar C 5 (.object "MasterTree$Entry") rfl rfl rfl 205 rfl dX2_isLive_24 25 rfl (fun x4 => ?_)
        refine x_ck (fun hb_ hb0_ => ?_)
        refine x_callV (enc := en_i) C 10 0 [] 3 (ctX3_isLive C.2.2.2.2.2.2.2.2.1 N m x4) hb_ hb0_ rfl rfl q975 q976 q977 q88 q978 hdX3_isLive (Nat.le_of_ble_eq_true rfl) (Nat.le_of_ble_eq_true rfl) rfl (Nat.le_of_ble_eq_true rfl) dX2_isLive_25 28 rfl rfl hen_i (kk_i (fun x5 m1 k1 n1 => ?_)) (kx_n he_i)
        refine s_if_eq C dX2_isLive_28 35 rfl 31 rfl (fun c_ => ?_) (fun c_ => ?_)
        · refine Sm_sub [] rfl ?_
          exact wX2_isLive_b35 C hret h0 hin N _ _ _
        · refine s_iconst C 1 rfl dX2_isLive_31 32 rfl ?_
          refine s_goto C (off := 4) 36 dX2_isLive_32 rfl ?_
          refine Sm_sub [] rfl ?_
          exact wX2_isLive_b36 C hret h0 hin N _ _ _ _
    · refine Sm_sub [] rfl ?_
      exact wX2_isLive_b35 C hret h0 hin N _ _ _
theorem hdX2_isLive : ((⟨"MasterTree$Master", "isLive", "(I)Z"⟩ : MethodName)).cls ≠ "java/lang/invoke/MethodHandle" ∧ ((⟨"MasterTree$Master", "isLive", "(I)Z"⟩ : MethodName)).cls ≠ "java/lang/invoke/VarHandle" ∧ (parseMethodDescriptor ((⟨"MasterTree$Master", "isLive", "(I)Z"⟩ : MethodName)).desc).map (fun d => d.parameters.length) = some 1 := ⟨by decide +kernel, by decide +kernel, by decide +kernel⟩
theorem ctX2_isLive {l : Launch} {g : GG} (hst : l.stackTraces = false) (N : Nat) (m : Mm) (v0 : Option Nat) (v1 : Int32) : ∀ v m' k n, fX2_isLive (gE_ g) N m v0 v1 = some (v, m', k, n) → Ct_ l g (⟨"MasterTree$Master", "isLive", "(I)Z"⟩ : MethodName) (ws_ (⟨"MasterTree$Master", "isLive", "(I)Z"⟩ : MethodName) cX2_isLive 2 (Option.some Jvm.ClassFile.FieldType.boolean)) 11 [vr_ v0, vi_ v1] m (en_i v) m' k n :=
  Ct_of (by decide +kernel) rfl hst (Nat.le_of_ble_eq_true rfl) rfl (fun E C hret h0 hin => wX2_isLive C hret h0 hin N m v0 v1 0 0)
theorem wX1_liveAt {l : Launch} {g : GG} {E : Me_} (C : Cx_ l g E "MasterTree" cX1_liveAt 2 16) (hret : (eT_ E).sig.returnType = (Option.some (Jvm.ClassFile.FieldType.object "MasterTree$Entry"))) (h0 : ∀ x ∈ (eC_ E).exceptionTable.toList, False) (hin : (eT_ E).name = "liveAt") (N : Nat) : ∀ (m : Mm) (v0 : Option Nat) (v1 : Int32) (k n : Nat), Sm_ l g E 2 (xe_ en_r) (fX1_liveAt (gE_ g) N m v0 v1) k n 0 [(0, vr_ v0), (1, vi_ v1)] [] m := by
  intro m v0 v1 k n
  unfold fX1_liveAt
  refine s_aload_n C rfl 0 rfl dX1_liveAt_0 1 rfl ?_
  refine s_iload_n C rfl 1 rfl dX1_liveAt_1 2 rfl ?_
  refine x_ck (fun hb_ hb0_ => ?_)
  refine x_callV (enc := en_i) C 11 1 [vi_ v1] 2 (ctX2_isLive C.2.2.2.2.2.2.2.2.1 N m v0 v1) hb_ hb0_ rfl rfl q971 q972 q973 q85 q974 hdX2_isLive (Nat.le_of_ble_eq_true rfl) (Nat.le_of_ble_eq_true rfl) rfl (Nat.le_of_ble_eq_true rfl) dX1_liveAt_2 5 rfl rfl hen_i (kk_i (fun x1 m1 k1 n1 => ?_)) (kx_n he_i)
  refine s_if_ne C dX1_liveAt_5 47 rfl 8 rfl (fun c_ => ?_) (fun c_ => ?_)
  · refine x_nx C 0 (by decide) q636 q637 q99 dX1_liveAt_8 11 rfl (fun x2 m2 hz_x2 => ?_)
    refine s_dup C rfl dX1_liveAt_11 12 rfl ?_
    refine x_nw C 29 (RJ16, TJ16, 4) rfl q645 q646 q103 30 4 rfl rfl dX1_liveAt_12 15 rfl (fun x3 m3 => ?_)
    refine s_dup C rfl dX1_liveAt_15 16 rfl ?_
    refine x_callI (enc := en_v) C 11 0 [] (ctJ16_init C.2.2.2.2.2.2.2.2.1 N m3 (some x3)) (fun h => by cases h) rfl q647 q648 q103 q649 rfl hdJ16_init (Nat.le_of_ble_eq_true rfl) (Nat.le_of_ble_eq_true rfl) rfl (Nat.le_of_ble_eq_true rfl) dX1_liveAt_16 19 rfl rfl hen_v (kk_v (fun m4 k1 n1 => ?_)) (kx_n he_v)
    refine x_ls C 13 13 rfl dX1_liveAt_19 21 rfl ?_
    refine x_ck (fun hb_ hb0_ => ?_)
    refine x_callV (enc := en_r) C 14 1 [vr_ (some (gE_ g (100 + 13)))] 30 (ctJ16_append C.2.2.2.2.2.2.2.2.1 N m4 (some x3) (some (gE_ g (100 + 13)))) hb_ hb0_ rfl rfl q677 q678 q679 q103 q680 hdJ16_append (Nat.le_of_ble_eq_true rfl) (Nat.le_of_ble_eq_true rfl) rfl (Nat.le_of_ble_eq_true rfl) dX1_liveAt_21 24 rfl rfl hen_r (kk_r (fun x4 m5 k1 n1 => ?_)) (kx_n he_r)
    refine s_iload_n C rfl 1 rfl dX1_liveAt_24 25 rfl ?_
    refine x_ck (fun hb_ hb0_ => ?_)
    refine x_callV (enc := en_r) C 14 1 [vi_ v1] 30 (ctJ16_append_2 C.2.2.2.2.2.2.2.2.1 N m5 x4 v1) hb_ hb0_ rfl rfl q783 q784 q785 q103 q786 hdJ16_append_2 (Nat.le_of_ble_eq_true rfl) (Nat.le_of_ble_eq_true rfl) rfl (Nat.le_of_ble_eq_true rfl) dX1_liveAt_25 28 rfl rfl hen_r (kk_r (fun x5 m6 k1 n1 => ?_)) (kx_n he_r)
    refine x_ls C 14 14 rfl dX1_liveAt_28 30 rfl ?_
    refine x_ck (fun hb_ hb0_ => ?_)
    refine x_callV (enc := en_r) C 14 1 [vr_ (some (gE_ g (100 + 14)))] 30 (ctJ16_append C.2.2.2.2.2.2.2.2.1 N m6 x5 (some (gE_ g (100 + 14)))) hb_ hb0_ rfl rfl q677 q678 q679 q103 q680 hdJ16_append (Nat.le_of_ble_eq_true rfl) (Nat.le_of_ble_eq_true rfl) rfl (Nat.le_of_ble_eq_true rfl) dX1_liveAt_30 33 rfl rfl hen_r (kk_r (fun x6 m7 k1 n1 => ?_)) (kx_n he_r)
    refine s_aload_n C rfl 0 rfl dX1_liveAt_33 34 rfl ?_
    refine x_giN C 1 (RX2, TX2, 12) rfl 0 (Nat.le_of_ble_eq_true rfl) q297 rfl rfl 2 rfl dX1_liveAt_34 37 rfl (fun x7 => ?_)
    refine x_ck (fun hb_ hb0_ => ?_)
    refine x_callV (enc := en_r) C 14 1 [vi_ x7] 30 (ctJ16_append_2 C.2.2.2.2.2.2.2.2.1 N m7 x6 x7) hb_ hb0_ rfl rfl q783 q784 q785 q103 q786 hdJ16_append_2 (Nat.le_of_ble_eq_true rfl) (Nat.le_of_ble_eq_true rfl) rfl (Nat.le_of_ble_eq_true rfl) dX1_liveAt_37 40 rfl rfl hen_r (kk_r (fun x8 m8 k1 n1 => ?_)) (kx_n he_r)
    refine x_ck (fun hb_ hb0_ => ?_)
    refine x_callV (enc := en_r) C 15 0 [] 30 (ctJ16_toString C.2.2.2.2.2.2.2.2.1 N m8 x8) hb_ hb0_ rfl rfl q808 q809 q810 q103 q811 hdJ16_toString (Nat.le_of_ble_eq_true rfl) (Nat.le_of_ble_eq_true rfl) rfl (Nat.le_of_ble_eq_true rfl) dX1_liveAt_40 43 rfl rfl hen_r (kk_r (fun x9 m9 k1 n1 => ?_)) (kx_n he_r)
    refine x_xi0 C q884 hz_x2 (Nat.le_of_ble_eq_true rfl) (Nat.le_of_ble_eq_true rfl) dX1_liveAt_43 46 rfl (fun m10 => ?_)
    exact x_at C h0 0 (by decide) rfl dX1_liveAt_46
  · refine s_aload_n C rfl 0 rfl dX1_liveAt_47 48 rfl ?_
    refine x_grN C 1 (RX2, TX2, 12) rfl 6 (Nat.le_of_ble_eq_true rfl) q309 rfl rfl 2 rfl dX1_liveAt_48 51 rfl (fun x10 => ?_)
    refine s_iload_n C rfl 1 rfl dX1_liveAt_51 52 rfl ?_
    refine x_ar C 5 (.object "MasterTree$Entry") rfl rfl rfl 205 rfl dX1_liveAt_52 53 rfl (fun x11 => ?_)
    exact x_aret C hret (Or.inl ⟨_, rfl⟩) rfl dX1_liveAt_53
theorem hdX1_liveAt : ((⟨"MasterTree", "liveAt", "(LMasterTree$Master;I)LMasterTree$Entry;"⟩ : MethodName)).cls ≠ "java/lang/invoke/MethodHandle" ∧ ((⟨"MasterTree", "liveAt", "(LMasterTree$Master;I)LMasterTree$Entry;"⟩ : MethodName)).cls ≠ "java/lang/invoke/VarHandle" ∧ (parseMethodDescriptor ((⟨"MasterTree", "liveAt", "(LMasterTree$Master;I)LMasterTree$Entry;"⟩ : MethodName)).desc).map (fun d => d.parameters.length) = some 2 := ⟨by decide +kernel, by decide +kernel, by decide +kernel⟩
theorem ctX1_liveAt {l : Launch} {g : GG} (hst : l.stackTraces = false) (N : Nat) (m : Mm) (v0 : Option Nat) (v1 : Int32) : ∀ v m' k n, fX1_liveAt (gE_ g) N m v0 v1 = some (v, m', k, n) → Ct_ l g (⟨"MasterTree", "liveAt", "(LMasterTree$Master;I)LMasterTree$Entry;"⟩ : MethodName) (ws_ (⟨"MasterTree", "liveAt", "(LMasterTree$Master;I)LMasterTree$Entry;"⟩ : MethodName) cX1_liveAt 2 (Option.some (Jvm.ClassFile.FieldType.object "MasterTree$Entry"))) 16 [vr_ v0, vi_ v1] m ((xe_ en_r) v) m' k n :=
  Ct_of (by decide +kernel) rfl hst (Nat.le_of_ble_eq_true rfl) rfl (fun E C hret h0 hin => wX1_liveAt C hret h0 hin N m v0 v1 0 0)
theorem wJ37_getValue {l : Launch} {g : GG} {E : Me_} (C : Cx_ l g E "java/util/TreeMap$Entry" cJ37_getValue 1 10) (hret : (eT_ E).sig.returnType = (Option.some (Jvm.ClassFile.FieldType.object "java/lang/Object"))) (h0 : ∀ x ∈ (eC_ E).exceptionTable.toList, False) (hin : (eT_ E).name = "getValue") (N : Nat) : ∀ (m : Mm) (v0 : Option Nat) (k n : Nat), Sm_ l g E 1 en_r (fJ37_getValue (gE_ g) N m v0) k n 0 [(0, vr_ v0)] [] m := by
  intro m v0 k n
  unfold fJ37_getValue
  refine s_aload_n C rfl 0 rfl dJ37_getValue_0 1 rfl ?_
  refine x_gr C 15 (RJ37, TJ37, 6) rfl 1 (Nat.le_of_ble_eq_true rfl) q1898 (Or.inl rfl) rfl 16 rfl dJ37_getValue_1 4 rfl (fun x1 => ?_)
  exact x_aret C hret (Or.inl ⟨_, rfl⟩) rfl dJ37_getValue_4
theorem hdJ37_getValue : ((⟨"java/util/TreeMap$Entry", "getValue", "()Ljava/lang/Object;"⟩ : MethodName)).cls ≠ "java/lang/invoke/MethodHandle" ∧ ((⟨"java/util/TreeMap$Entry", "getValue", "()Ljava/lang/Object;"⟩ : MethodName)).cls ≠ "java/lang/invoke/VarHandle" ∧ (parseMethodDescriptor ((⟨"java/util/TreeMap$Entry", "getValue", "()Ljava/lang/Object;"⟩ : MethodName)).desc).map (fun d => d.parameters.length) = some 0 := ⟨by decide +kernel, by decide +kernel, by decide +kernel⟩
theorem ctJ37_getValue {l : Launch} {g : GG} (hst : l.stackTraces = false) (N : Nat) (m : Mm) (v0 : Option Nat) : ∀ v m' k n, fJ37_getValue (gE_ g) N m v0 = some (v, m', k, n) → Ct_ l g (⟨"java/util/TreeMap$Entry", "getValue", "()Ljava/lang/Object;"⟩ : MethodName) (ws_ (⟨"java/util/TreeMap$Entry", "getValue", "()Ljava/lang/Object;"⟩ : MethodName) cJ37_getValue 1 (Option.some (Jvm.ClassFile.FieldType.object "java/lang/Object"))) 10 [vr_ v0] m (en_r v) m' k n :=
  Ct_of (by decide +kernel) rfl hst (Nat.le_of_ble_eq_true rfl) rfl (fun E C hret h0 hin => wJ37_getValue C hret h0 hin N m v0 0 0)
theorem wJ37_getKey {l : Launch} {g : GG} {E : Me_} (C : Cx_ l g E "java/util/TreeMap$Entry" cJ37_getKey 1 10) (hret : (eT_ E).sig.returnType = (Option.some (Jvm.ClassFile.FieldType.object "java/lang/Object"))) (h0 : ∀ x ∈ (eC_ E).exceptionTable.toList, False) (hin : (eT_ E).name = "getKey") (N : Nat) : ∀ (m : Mm) (v0 : Option Nat) (k n : Nat), Sm_ l g E 1 en_r (fJ37_getKey (gE_ g) N m v0) k n 0 [(0, vr_ v0)] [] m := by
  intro m v0 k n
  unfold fJ37_getKey
  refine s_aload_n C rfl 0 rfl dJ37_getKey_0 1 rfl ?_
  refine x_gr C 15 (RJ37, TJ37, 6) rfl 0 (Nat.le_of_ble_eq_true rfl) q1891 (Or.inl rfl) rfl 16 rfl dJ37_getKey_1 4 rfl (fun x1 => ?_)
  exact x_aret C hret (Or.inl ⟨_, rfl⟩) rfl dJ37_getKey_4
theorem hdJ37_getKey : ((⟨"java/util/TreeMap$Entry", "getKey", "()Ljava/lang/Object;"⟩ : MethodName)).cls ≠ "java/lang/invoke/MethodHandle" ∧ ((⟨"java/util/TreeMap$Entry", "getKey", "()Ljava/lang/Object;"⟩ : MethodName)).cls ≠ "java/lang/invoke/VarHandle" ∧ (parseMethodDescriptor ((⟨"java/util/TreeMap$Entry", "getKey", "()Ljava/lang/Object;"⟩ : MethodName)).desc).map (fun d => d.parameters.length) = some 0 := ⟨by decide +kernel, by decide +kernel, by decide +kernel⟩
theorem ctJ37_getKey {l : Launch} {g : GG} (hst : l.stackTraces = false) (N : Nat) (m : Mm) (v0 : Option Nat) : ∀ v m' k n, fJ37_getKey (gE_ g) N m v0 = some (v, m', k, n) → Ct_ l g (⟨"java/util/TreeMap$Entry", "getKey", "()Ljava/lang/Object;"⟩ : MethodName) (ws_ (⟨"java/util/TreeMap$Entry", "getKey", "()Ljava/lang/Object;"⟩ : MethodName) cJ37_getKey 1 (Option.some (Jvm.ClassFile.FieldType.object "java/lang/Object"))) 10 [vr_ v0] m (en_r v) m' k n :=
  Ct_of (by decide +kernel) rfl hst (Nat.le_of_ble_eq_true rfl) rfl (fun E C hret h0 hin => wJ37_getKey C hret h0 hin N m v0 0 0)
theorem wJ2_isEmpty_b12 {l : Launch} {g : GG} {E : Me_} (C : Cx_ l g E "java/util/ArrayList" cJ2_isEmpty 1 10) (hret : (eT_ E).sig.returnType = (Option.some Jvm.ClassFile.FieldType.boolean)) (h0 : ∀ x ∈ (eC_ E).exceptionTable.toList, False) (hin : (eT_ E).name = "isEmpty") (N : Nat) : ∀ (m : Mm) (s0 : Int32) (k n : Nat), Sm_ l g E 1 en_i (fJ2_isEmpty_b12 (gE_ g) N m s0) k n 12 [] [vi_ s0] m := by
  intro m s0 k n
  unfold fJ2_isEmpty_b12
  exact x_zret C hret rfl dJ2_isEmpty_12
theorem wJ2_isEmpty {l : Launch} {g : GG} {E : Me_} (C : Cx_ l g E "java/util/ArrayList" cJ2_isEmpty 1 10) (hret : (eT_ E).sig.returnType = (Option.some Jvm.ClassFile.FieldType.boolean)) (h0 : ∀ x ∈ (eC_ E).exceptionTable.toList, False) (hin : (eT_ E).name = "isEmpty") (N : Nat) : ∀ (m : Mm) (v0 : Option Nat) (k n : Nat), Sm_ l g E 1 en_i (fJ2_isEmpty (gE_ g) N m v0) k n 0 [(0, vr_ v0)] [] m := by
  intro m v0 k n
  unfold fJ2_isEmpty
  refine s_aload_n C rfl 0 rfl dJ2_isEmpty_0 1 rfl ?_
  refine x_gi C 12 (RJ2, TJ2, 3) rfl 2 (Nat.le_of_ble_eq_true rfl) q171 (Or.inl rfl) rfl 13 rfl dJ2_isEmpty_1 4 rfl (fun x1 => ?_)
  refine s_if_ne C dJ2_isEmpty_4 11 rfl 7 rfl (fun c_ => ?_) (fun c_ => ?_)
  · refine s_iconst C 1 rfl dJ2_isEmpty_7 8 rfl ?_
    refine s_goto C (off := 4) 12 dJ2_isEmpty_8 rfl ?_
    refine Sm_sub [] rfl ?_
    exact wJ2_isEmpty_b12 C hret h0 hin N _ _ _ _
  · refine s_iconst C 0 rfl dJ2_isEmpty_11 12 rfl ?_
    refine Sm_sub [] rfl ?_
    exact wJ2_isEmpty_b12 C hret h0 hin N _ _ _ _
theorem hdJ2_isEmpty : ((⟨"java/util/ArrayList", "isEmpty", "()Z"⟩ : MethodName)).cls ≠ "java/lang/invoke/MethodHandle" ∧ ((⟨"java/util/ArrayList", "isEmpty", "()Z"⟩ : MethodName)).cls ≠ "java/lang/invoke/VarHandle" ∧ (parseMethodDescriptor ((⟨"java/util/ArrayList", "isEmpty", "()Z"⟩ : MethodName)).desc).map (fun d => d.parameters.length) = some 0 := ⟨by decide +kernel, by decide +kernel, by decide +kernel⟩
theorem ctJ2_isEmpty {l : Launch} {g : GG} (hst : l.stackTraces = false) (N : Nat) (m : Mm) (v0 : Option Nat) : ∀ v m' k n, fJ2_isEmpty (gE_ g) N m v0 = some (v, m', k, n) → Ct_ l g (⟨"java/util/ArrayList", "isEmpty", "()Z"⟩ : MethodName) (ws_ (⟨"java/util/ArrayList", "isEmpty", "()Z"⟩ : MethodName) cJ2_isEmpty 1 (Option.some Jvm.ClassFile.FieldType.boolean)) 10 [vr_ v0] m (en_i v) m' k n :=
  Ct_of (by decide +kernel) rfl hst (Nat.le_of_ble_eq_true rfl) rfl (fun E C hret h0 hin => wJ2_isEmpty C hret h0 hin N m v0 0 0)
theorem wJ4_containsKey_b13 {l : Launch} {g : GG} {E : Me_} (C : Cx_ l g E "java/util/TreeMap" cJ4_containsKey 2 14) (hret : (eT_ E).sig.returnType = (Option.some Jvm.ClassFile.FieldType.boolean)) (h0 : ∀ x ∈ (eC_ E).exceptionTable.toList, False) (hin : (eT_ E).name = "containsKey") (N : Nat) : ∀ (m : Mm) (s0 : Int32) (k n : Nat), Sm_ l g E 2 en_i (fJ4_containsKey_b13 (gE_ g) N m s0) k n 13 [] [vi_ s0] m := by
  intro m s0 k n
  unfold fJ4_containsKey_b13
  exact x_zret C hret rfl dJ4_containsKey_13
theorem wJ4_containsKey {l : Launch} {g : GG} {E : Me_} (C : Cx_ l g E "java/util/TreeMap" cJ4_containsKey 2 14) (hret : (eT_ E).sig.returnType = (Option.some Jvm.ClassFile.FieldType.boolean)) (h0 : ∀ x ∈ (eC_ E).exceptionTable.toList, False) (hin : (eT_ E).name = "containsKey") (N : Nat) : ∀ (m : Mm) (v0 : Option Nat) (v1 : Option Nat) (k n : Nat), Sm_ l g E 2 en_i (fJ4_containsKey (gE_ g) N m v0 v1) k n 0 [(0, vr_ v0), (1, vr_ v1)] [] m := by
  intro m v0 v1 k n
  unfold fJ4_containsKey
  refine s_aload_n C rfl 0 rfl dJ4_containsKey_0 1 rfl ?_
  refine s_aload_n C rfl 1 rfl dJ4_containsKey_1 2 rfl ?_
  refine x_ck (fun hb_ hb0_ => ?_)
  refine x_callV (enc := en_r) C 13 1 [vr_ v1] 15 (ctJ4_getEntry C.2.2.2.2.2.2.2.2.1 N m v0 v1) hb_ hb0_ rfl rfl q1642 q1643 q1644 q87 q1645 hdJ4_getEntry (Nat.le_of_ble_eq_true rfl) (Nat.le_of_ble_eq_true rfl) rfl (Nat.le_of_ble_eq_true rfl) dJ4_containsKey_2 5 rfl rfl hen_r (kk_r (fun x1 m1 k1 n1 => ?_)) (kx_n he_r)
  refine s_ifnull C dJ4_containsKey_5 12 rfl 8 rfl (fun c_ => ?_) (fun c_ => ?_)
  · refine s_iconst C 0 rfl dJ4_containsKey_12 13 rfl ?_
    refine Sm_sub [] rfl ?_
    exact wJ4_containsKey_b13 C hret h0 hin N _ _ _ _
  · refine s_iconst C 1 rfl dJ4_containsKey_8 9 rfl ?_
    refine s_goto C (off := 4) 13 dJ4_containsKey_9 rfl ?_
    refine Sm_sub [] rfl ?_
    exact wJ4_containsKey_b13 C hret h0 hin N _ _ _ _
theorem hdJ4_containsKey : ((⟨"java/util/TreeMap", "containsKey", "(Ljava/lang/Object;)Z"⟩ : MethodName)).cls ≠ "java/lang/invoke/MethodHandle" ∧ ((⟨"java/util/TreeMap", "containsKey", "(Ljava/lang/Object;)Z"⟩ : MethodName)).cls ≠ "java/lang/invoke/VarHandle" ∧ (parseMethodDescriptor ((⟨"java/util/TreeMap", "containsKey", "(Ljava/lang/Object;)Z"⟩ : MethodName)).desc).map (fun d => d.parameters.length) = some 1 := ⟨by decide +kernel, by decide +kernel, by decide +kernel⟩
theorem ctJ4_containsKey {l : Launch} {g : GG} (hst : l.stackTraces = false) (N : Nat) (m : Mm) (v0 : Option Nat) (v1 : Option Nat) : ∀ v m' k n, fJ4_containsKey (gE_ g) N m v0 v1 = some (v, m', k, n) → Ct_ l g (⟨"java/util/TreeMap", "containsKey", "(Ljava/lang/Object;)Z"⟩ : MethodName) (ws_ (⟨"java/util/TreeMap", "containsKey", "(Ljava/lang/Object;)Z"⟩ : MethodName) cJ4_containsKey 2 (Option.some Jvm.ClassFile.FieldType.boolean)) 14 [vr_ v0, vr_ v1] m (en_i v) m' k n :=
  Ct_of (by decide +kernel) rfl hst (Nat.le_of_ble_eq_true rfl) rfl (fun E C hret h0 hin => wJ4_containsKey C hret h0 hin N m v0 v1 0 0)
theorem wX3_has {l : Launch} {g : GG} {E : Me_} (C : Cx_ l g E "MasterTree$Entry" cX3_has 3 15) (hret : (eT_ E).sig.returnType = (Option.some Jvm.ClassFile.FieldType.boolean)) (h0 : ∀ x ∈ (eC_ E).exceptionTable.toList, False) (hin : (eT_ E).name = "has") (N : Nat) : ∀ (m : Mm) (v0 : Option Nat) (v1 : Int32) (v2 : Int32) (k n : Nat), Sm_ l g E 3 en_i (fX3_has (gE_ g) N m v0 v1 v2) k n 0 [(0, vr_ v0), (1, vi_ v1), (2, vi_ v2)] [] m := by
  intro m v0 v1 v2 k n
  unfold fX3_has
  refine s_aload_n C rfl 0 rfl dX3_has_0 1 rfl ?_
  refine x_gr C 2 (RX3, TX3, 9) rfl 7 (Nat.le_of_ble_eq_true rfl) q267 (Or.inl rfl) rfl 3 rfl dX3_has_1 4 rfl (fun x1 => ?_)
  refine s_aload_n C rfl 0 rfl dX3_has_4 5 rfl ?_
  refine s_iload_n C rfl 1 rfl dX3_has_5 6 rfl ?_
  refine s_iload_n C rfl 2 rfl dX3_has_6 7 rfl ?_
  refine x_ck (fun hb_ hb0_ => ?_)
  refine x_callV (enc := en_i) C 13 2 [vi_ v1, vi_ v2] 3 (ctX3_place C.2.2.2.2.2.2.2.2.1 N m v0 v1 v2) hb_ hb0_ rfl rfl q1608 q1609 q1610 q88 q1611 hdX3_place (Nat.le_of_ble_eq_true rfl) (Nat.le_of_ble_eq_true rfl) rfl (Nat.le_of_ble_eq_true rfl) dX3_has_7 10 rfl rfl hen_i (kk_i (fun x2 m1 k1 n1 => ?_)) (kx_n he_i)
  refine x_callS (enc := en_r) C 12 1 [vi_ x2] (ctJ21_valueOf C.2.2.2.2.2.2.2.2.1 N m1 x2) q1619 q1620 q108 q1621 hdJ21_valueOf (Nat.le_of_ble_eq_true rfl) (Nat.le_of_ble_eq_true rfl) rfl (Nat.le_of_ble_eq_true rfl) dX3_has_10 13 rfl rfl hen_r (kk_r (fun x3 m2 k1 n1 => ?_)) (kx_n he_r)
  refine x_ck (fun hb_ hb0_ => ?_)
  refine x_callV (enc := en_i) C 14 1 [vr_ x3] 15 (ctJ4_containsKey C.2.2.2.2.2.2.2.2.1 N m2 x1 x3) hb_ hb0_ rfl rfl q1638 q1639 q1640 q87 q1641 hdJ4_containsKey (Nat.le_of_ble_eq_true rfl) (Nat.le_of_ble_eq_true rfl) rfl (Nat.le_of_ble_eq_true rfl) dX3_has_13 16 rfl rfl hen_i (kk_i (fun x4 m3 k1 n1 => ?_)) (kx_n he_i)
  exact x_zret C hret rfl dX3_has_16
theorem hdX3_has : ((⟨"MasterTree$Entry", "has", "(II)Z"⟩ : MethodName)).cls ≠ "java/lang/invoke/MethodHandle" ∧ ((⟨"MasterTree$Entry", "has", "(II)Z"⟩ : MethodName)).cls ≠ "java/lang/invoke/VarHandle" ∧ (parseMethodDescriptor ((⟨"MasterTree$Entry", "has", "(II)Z"⟩ : MethodName)).desc).map (fun d => d.parameters.length) = some 2 := ⟨by decide +kernel, by decide +kernel, by decide +kernel⟩
theorem ctX3_has {l : Launch} {g : GG} (hst : l.stackTraces = false) (N : Nat) (m : Mm) (v0 : Option Nat) (v1 : Int32) (v2 : Int32) : ∀ v m' k n, fX3_has (gE_ g) N m v0 v1 v2 = some (v, m', k, n) → Ct_ l g (⟨"MasterTree$Entry", "has", "(II)Z"⟩ : MethodName) (ws_ (⟨"MasterTree$Entry", "has", "(II)Z"⟩ : MethodName) cX3_has 3 (Option.some Jvm.ClassFile.FieldType.boolean)) 15 [vr_ v0, vi_ v1, vi_ v2] m (en_i v) m' k n :=
  Ct_of (by decide +kernel) rfl hst (Nat.le_of_ble_eq_true rfl) rfl (fun E C hret h0 hin => wX3_has C hret h0 hin N m v0 v1 v2 0 0)
theorem wX2_sort_b23 {l : Launch} {g : GG} {E : Me_} (C : Cx_ l g E "MasterTree$Master" cX2_sort 4 16) (hret : (eT_ E).sig.returnType = (Option.some Jvm.ClassFile.FieldType.int)) (h0 : ∀ x ∈ (eC_ E).exceptionTable.toList, False) (hin : (eT_ E).name = "sort") (N : Nat) : ∀ (m : Mm) (s0 : Int32) (k n : Nat), Sm_ l g E 4 en_i (fX2_sort_b23 (gE_ g) N m s0) k n 23 [] [vi_ s0] m := by
  intro m s0 k n
  unfold fX2_sort_b23
  exact x_iret C hret rfl dX2_sort_23
theorem wX2_sort_b79 {l : Launch} {g : GG} {E : Me_} (C : Cx_ l g E "MasterTree$Master" cX2_sort 4 16) (hret : (eT_ E).sig.returnType = (Option.some Jvm.ClassFile.FieldType.int)) (h0 : ∀ x ∈ (eC_ E).exceptionTable.toList, False) (hin : (eT_ E).name = "sort") (N : Nat) : ∀ (m : Mm) (s0 : Int32) (k n : Nat), Sm_ l g E 4 en_i (fX2_sort_b79 (gE_ g) N m s0) k n 79 [] [vi_ s0] m := by
  intro m s0 k n
  unfold fX2_sort_b79
  exact x_iret C hret rfl dX2_sort_79
theorem wX2_sort_b69 {l : Launch} {g : GG} {E : Me_} (C : Cx_ l g E "MasterTree$Master" cX2_sort 4 16) (hret : (eT_ E).sig.returnType = (Option.some Jvm.ClassFile.FieldType.int)) (h0 : ∀ x ∈ (eC_ E).exceptionTable.toList, False) (hin : (eT_ E).name = "sort") (N : Nat) : ∀ (m : Mm) (s0 : Int32) (k n : Nat), Sm_ l g E 4 en_i (fX2_sort_b69 (gE_ g) N m s0) k n 69 [] [vi_ s0] m := by
  intro m s0 k n
  unfold fX2_sort_b69
  refine s_istore_n C rfl (Nat.le_of_ble_eq_true rfl) [] rfl rfl dX2_sort_69 70 rfl ?_
  refine s_iload_n C rfl 0 rfl dX2_sort_70 71 rfl ?_
  refine s_if_eq C dX2_sort_71 78 rfl 74 rfl (fun c_ => ?_) (fun c_ => ?_)
  · refine s_iconst C (-1) rfl dX2_sort_78 79 rfl ?_
    refine Sm_sub [] rfl ?_
    exact wX2_sort_b79 C hret h0 hin N _ _ _ _
  · refine s_iconst C 1 rfl dX2_sort_74 75 rfl ?_
    refine s_goto C (off := 4) 79 dX2_sort_75 rfl ?_
    refine Sm_sub [] rfl ?_
    exact wX2_sort_b79 C hret h0 hin N _ _ _ _
theorem wX2_sort_b68 {l : Launch} {g : GG} {E : Me_} (C : Cx_ l g E "MasterTree$Master" cX2_sort 4 16) (hret : (eT_ E).sig.returnType = (Option.some Jvm.ClassFile.FieldType.int)) (h0 : ∀ x ∈ (eC_ E).exceptionTable.toList, False) (hin : (eT_ E).name = "sort") (N : Nat) : ∀ (m : Mm) (k n : Nat), Sm_ l g E 4 en_i (fX2_sort_b68 (gE_ g) N m) k n 68 [] [] m := by
  intro m k n
  unfold fX2_sort_b68
  refine s_iconst C 0 rfl dX2_sort_68 69 rfl ?_
  exact wX2_sort_b69 C hret h0 hin N _ _ _ _
theorem wX2_sort {l : Launch} {g : GG} {E : Me_} (C : Cx_ l g E "MasterTree$Master" cX2_sort 4 16) (hret : (eT_ E).sig.returnType = (Option.some Jvm.ClassFile.FieldType.int)) (h0 : ∀ x ∈ (eC_ E).exceptionTable.toList, False) (hin : (eT_ E).name = "sort") (N : Nat) : ∀ (m : Mm) (v0 : Option Nat) (v1 : Int32) (v2 : Int32) (k n : Nat), Sm_ l g E 4 en_i (fX2_sort (gE_ g) N m v0 v1 v2) k n 0 [(0, vr_ v0), (1, vi_ v1), (2, vi_ v2)] [] m := by
  intro m v0 v1 v2 k n
  unfold fX2_sort
  refine s_iload_n C rfl 1 rfl dX2_sort_0 1 rfl ?_
  refine s_iconst C (-1) rfl dX2_sort_1 2 rfl ?_
  refine s_icmp_ne C dX2_sort_2 7 rfl 5 rfl (fun c_ => ?_) (fun c_ => ?_)
  · refine s_iconst C 2 rfl dX2_sort_5 6 rfl ?_
    exact x_iret C hret rfl dX2_sort_6
  · refine s_iload_n C rfl 1 rfl dX2_sort_7 8 rfl ?_
    refine s_bipush C 100 rfl dX2_sort_8 10 rfl ?_
    refine s_icmp_ge C dX2_sort_10 24 rfl 13 rfl (fun c_ => ?_) (fun c_ => ?_)
    · refine s_iload_n C rfl 1 rfl dX2_sort_13 14 rfl ?_
      refine s_iload_n C rfl 2 rfl dX2_sort_14 15 rfl ?_
      refine s_icmp_ne C dX2_sort_15 22 rfl 18 rfl (fun c_ => ?_) (fun c_ => ?_)
      · refine s_iconst C 0 rfl dX2_sort_18 19 rfl ?_
        refine s_goto C (off := 4) 23 dX2_sort_19 rfl ?_
        refine Sm_sub [] rfl ?_
        exact wX2_sort_b23 C hret h0 hin N _ _ _ _
      · refine s_iconst C (-1) rfl dX2_sort_22 23 rfl ?_
        refine Sm_sub [] rfl ?_
        exact wX2_sort_b23 C hret h0 hin N _ _ _ _
    · refine s_aload_n C rfl 0 rfl dX2_sort_24 25 rfl ?_
      refine s_iload_n C rfl 1 rfl dX2_sort_25 26 rfl ?_
      refine s_bipush C 100 rfl dX2_sort_26 28 rfl ?_
      refine s_isub C dX2_sort_28 29 rfl ?_
      refine x_ck (fun hb_ hb0_ => ?_)
      refine x_callV (enc := en_i) C 11 1 [vi_ (v1 - 100)] 2 (ctX2_isLive C.2.2.2.2.2.2.2.2.1 N m v0 (v1 - 100)) hb_ hb0_ rfl rfl q1594 q972 q973 q85 q974 hdX2_isLive (Nat.le_of_ble_eq_true rfl) (Nat.le_of_ble_eq_true rfl) rfl (Nat.le_of_ble_eq_true rfl) dX2_sort_29 32 rfl rfl hen_i (kk_i (fun x1 m1 k1 n1 => ?_)) (kx_n he_i)
      refine s_if_eq C dX2_sort_32 68 rfl 35 rfl (fun c_ => ?_) (fun c_ => ?_)
      · refine Sm_sub [] rfl ?_
        exact wX2_sort_b68 C hret h0 hin N _ _ _
      · refine s_aload_n C rfl 0 rfl dX2_sort_35 36 rfl ?_
        refine x_gr C 1 (RX2, TX2, 12) rfl 1 (Nat.le_of_ble_eq_true rfl) q298 (Or.inl rfl) rfl 2 rfl dX2_sort_36 39 rfl (fun x2 => ?_)
        refine x_ck (fun hb_ hb0_ => ?_)
        refine x_callF (enc := en_i) C 10 0 [] 13 (ctJ2_isEmpty C.2.2.2.2.2.2.2.2.1 N m1 x2) hb_ hb0_ rfl rfl rfl fw_26 q1596 q1599 q1601 q84 q1603 hx15 (Nat.le_of_ble_eq_true rfl) (Nat.le_of_ble_eq_true rfl) rfl (Nat.le_of_ble_eq_true rfl) dX2_sort_39 44 rfl rfl hen_i (kk_i (fun x3 m2 k1 n1 => ?_)) (kx_n he_i)
        refine s_if_ne C dX2_sort_44 68 rfl 47 rfl (fun c_ => ?_) (fun c_ => ?_)
        · refine s_aload_n C rfl 0 rfl dX2_sort_47 48 rfl ?_
          refine x_gr C 1 (RX2, TX2, 12) rfl 6 (Nat.le_of_ble_eq_true rfl) q307 (Or.inl rfl) rfl 2 rfl dX2_sort_48 51 rfl (fun x4 => ?_)
          refine s_iload_n C rfl 1 rfl dX2_sort_51 52 rfl ?_
          refine s_bipush C 100 rfl dX2_sort_52 54 rfl ?_
          refine s_isub C dX2_sort_54 55 rfl ?_
          refine x_ar C 5 (.object "MasterTree$Entry") rfl rfl rfl 205 rfl dX2_sort_55 56 rfl (fun x5 => ?_)
          refine s_iconst C 0 rfl dX2_sort_56 57 rfl ?_
          refine s_iload_n C rfl 2 rfl dX2_sort_57 58 rfl ?_
          refine x_ck (fun hb_ hb0_ => ?_)
          refine x_callV (enc := en_i) C 15 2 [vi_ 0, vi_ v2] 3 (ctX3_has C.2.2.2.2.2.2.2.2.1 N m2 x5 0 v2) hb_ hb0_ rfl rfl q1604 q1605 q1606 q88 q1607 hdX3_has (Nat.le_of_ble_eq_true rfl) (Nat.le_of_ble_eq_true rfl) rfl (Nat.le_of_ble_eq_true rfl) dX2_sort_58 61 rfl rfl hen_i (kk_i (fun x6 m3 k1 n1 => ?_)) (kx_n he_i)
          refine s_if_eq C dX2_sort_61 68 rfl 64 rfl (fun c_ => ?_) (fun c_ => ?_)
          · refine Sm_sub [] rfl ?_
            exact wX2_sort_b68 C hret h0 hin N _ _ _
          · refine s_iconst C 1 rfl dX2_sort_64 65 rfl ?_
            refine s_goto C (off := 4) 69 dX2_sort_65 rfl ?_
            refine Sm_sub [] rfl ?_
            exact wX2_sort_b69 C hret h0 hin N _ _ _ _
        · refine Sm_sub [] rfl ?_
          exact wX2_sort_b68 C hret h0 hin N _ _ _
theorem hdX2_sort : ((⟨"MasterTree$Master", "sort", "(II)I"⟩ : MethodName)).cls ≠ "java/lang/invoke/MethodHandle" ∧ ((⟨"MasterTree$Master", "sort", "(II)I"⟩ : MethodName)).cls ≠ "java/lang/invoke/VarHandle" ∧ (parseMethodDescriptor ((⟨"MasterTree$Master", "sort", "(II)I"⟩ : MethodName)).desc).map (fun d => d.parameters.length) = some 2 := ⟨by decide +kernel, by decide +kernel, by decide +kernel⟩
theorem ctX2_sort {l : Launch} {g : GG} (hst : l.stackTraces = false) (N : Nat) (m : Mm) (v0 : Option Nat) (v1 : Int32) (v2 : Int32) : ∀ v m' k n, fX2_sort (gE_ g) N m v0 v1 v2 = some (v, m', k, n) → Ct_ l g (⟨"MasterTree$Master", "sort", "(II)I"⟩ : MethodName) (ws_ (⟨"MasterTree$Master", "sort", "(II)I"⟩ : MethodName) cX2_sort 4 (Option.some Jvm.ClassFile.FieldType.int)) 16 [vr_ v0, vi_ v1, vi_ v2] m (en_i v) m' k n :=
  Ct_of (by decide +kernel) rfl hst (Nat.le_of_ble_eq_true rfl) rfl (fun E C hret h0 hin => wX2_sort C hret h0 hin N m v0 v1 v2 0 0)
theorem wJ30_hasNext_t20_b12 {l : Launch} {g : GG} {E : Me_} (C : Cx_ l g E "java/util/TreeMap$PrivateEntryIterator" cJ30_hasNext 1 10) (hret : (eT_ E).sig.returnType = (Option.some Jvm.ClassFile.FieldType.boolean)) (h0 : ∀ x ∈ (eC_ E).exceptionTable.toList, False) (hin : (eT_ E).name = "hasNext") (N : Nat) : ∀ (m : Mm) (s0 : Int32) (k n : Nat), Sm_ l g E 1 en_i (fJ30_hasNext_t20_b12 (gE_ g) N m s0) k n 12 [] [vi_ s0] m := by
  intro m s0 k n
  unfold fJ30_hasNext_t20_b12
  exact x_zret C hret rfl dJ30_hasNext_12
theorem wJ30_hasNext_t20 {l : Launch} {g : GG} {E : Me_} (C : Cx_ l g E "java/util/TreeMap$PrivateEntryIterator" cJ30_hasNext 1 10) (hret : (eT_ E).sig.returnType = (Option.some Jvm.ClassFile.FieldType.boolean)) (h0 : ∀ x ∈ (eC_ E).exceptionTable.toList, False) (hin : (eT_ E).name = "hasNext") (N : Nat) : ∀ (m : Mm) (v0 : Option Nat) (k n : Nat), Sm_ l g E 1 en_i (fJ30_hasNext_t20 (gE_ g) N m v0) k n 0 [(0, vr_ v0)] [] m := by
  intro m v0 k n
  unfold fJ30_hasNext_t20
  refine s_aload_n C rfl 0 rfl dJ30_hasNext_0 1 rfl ?_
  refine x_gr C 19 (RJ31, TJ31, 4) rfl 0 (Nat.le_of_ble_eq_true rfl) q1385 (Or.inl rfl) rfl 20 rfl dJ30_hasNext_1 4 rfl (fun x1 => ?_)
  refine s_ifnull C dJ30_hasNext_4 11 rfl 7 rfl (fun c_ => ?_) (fun c_ => ?_)
  · refine s_iconst C 0 rfl dJ30_hasNext_11 12 rfl ?_
    refine Sm_sub [] rfl ?_
    exact wJ30_hasNext_t20_b12 C hret h0 hin N _ _ _ _
  · refine s_iconst C 1 rfl dJ30_hasNext_7 8 rfl ?_
    refine s_goto C (off := 4) 12 dJ30_hasNext_8 rfl ?_
    refine Sm_sub [] rfl ?_
    exact wJ30_hasNext_t20_b12 C hret h0 hin N _ _ _ _
theorem hdJ30_hasNext_t20 : ((⟨"java/util/TreeMap$PrivateEntryIterator", "hasNext", "()Z"⟩ : MethodName)).cls ≠ "java/lang/invoke/MethodHandle" ∧ ((⟨"java/util/TreeMap$PrivateEntryIterator", "hasNext", "()Z"⟩ : MethodName)).cls ≠ "java/lang/invoke/VarHandle" ∧ (parseMethodDescriptor ((⟨"java/util/TreeMap$PrivateEntryIterator", "hasNext", "()Z"⟩ : MethodName)).desc).map (fun d => d.parameters.length) = some 0 := ⟨by decide +kernel, by decide +kernel, by decide +kernel⟩
theorem ctJ30_hasNext_t20 {l : Launch} {g : GG} (hst : l.stackTraces = false) (N : Nat) (m : Mm) (v0 : Option Nat) : ∀ v m' k n, fJ30_hasNext_t20 (gE_ g) N m v0 = some (v, m', k, n) → Ct_ l g (⟨"java/util/TreeMap$PrivateEntryIterator", "hasNext", "()Z"⟩ : MethodName) (ws_ (⟨"java/util/TreeMap$PrivateEntryIterator", "hasNext", "()Z"⟩ : MethodName) cJ30_hasNext 1 (Option.some Jvm.ClassFile.FieldType.boolean)) 10 [vr_ v0] m (en_i v) m' k n :=
  Ct_of (by decide +kernel) rfl hst (Nat.le_of_ble_eq_true rfl) rfl (fun E C hret h0 hin => wJ30_hasNext_t20 C hret h0 hin N m v0 0 0)
theorem wJ30_nextEntry_t20 {l : Launch} {g : GG} {E : Me_} (C : Cx_ l g E "java/util/TreeMap$PrivateEntryIterator" cJ30_nextEntry 2 11) (hret : (eT_ E).sig.returnType = (Option.some (Jvm.ClassFile.FieldType.object "java/util/TreeMap$Entry"))) (h0 : ∀ x ∈ (eC_ E).exceptionTable.toList, False) (hin : (eT_ E).name = "nextEntry") (N : Nat) : ∀ (m : Mm) (v0 : Option Nat) (k n : Nat), Sm_ l g E 2 en_r (fJ30_nextEntry_t20 (gE_ g) N m v0) k n 0 [(0, vr_ v0)] [] m := by
  intro m v0 k n
  unfold fJ30_nextEntry_t20
  refine s_aload_n C rfl 0 rfl dJ30_nextEntry_0 1 rfl ?_
  refine x_gr C 19 (RJ31, TJ31, 4) rfl 0 (Nat.le_of_ble_eq_true rfl) q1385 (Or.inl rfl) rfl 20 rfl dJ30_nextEntry_1 4 rfl (fun x1 => ?_)
  refine s_astore_n C rfl (Nat.le_of_ble_eq_true rfl) [0] rfl rfl dJ30_nextEntry_4 5 rfl ?_
  refine s_aload_n C rfl 0 rfl dJ30_nextEntry_5 6 rfl ?_
  refine s_ifnonnull C dJ30_nextEntry_6 17 rfl 9 rfl (fun c_ => ?_) (fun c_ => ?_)
  · exact Sm_none
  · refine s_aload_n C rfl 1 rfl dJ30_nextEntry_17 18 rfl ?_
    refine x_gr C 19 (RJ31, TJ31, 4) rfl 3 (Nat.le_of_ble_eq_true rfl) q1388 (Or.inl rfl) rfl 20 rfl dJ30_nextEntry_18 21 rfl (fun x2 => ?_)
    refine x_giN C 14 (RJ4, TJ4, 9) rfl 5 (Nat.le_of_ble_eq_true rfl) q208 rfl rfl 15 rfl dJ30_nextEntry_21 24 rfl (fun x3 => ?_)
    refine s_aload_n C rfl 1 rfl dJ30_nextEntry_24 25 rfl ?_
    refine x_gi C 19 (RJ31, TJ31, 4) rfl 2 (Nat.le_of_ble_eq_true rfl) q1387 (Or.inl rfl) rfl 20 rfl dJ30_nextEntry_25 28 rfl (fun x4 => ?_)
    refine s_icmp_eq C dJ30_nextEntry_28 39 rfl 31 rfl (fun c_ => ?_) (fun c_ => ?_)
    · refine s_aload_n C rfl 1 rfl dJ30_nextEntry_39 40 rfl ?_
      refine s_aload_n C rfl 0 rfl dJ30_nextEntry_40 41 rfl ?_
      refine x_callS (enc := en_r) C 10 1 [vr_ x1] (ctJ4_successor C.2.2.2.2.2.2.2.2.1 N m x1) q1519 q1520 q87 q1521 hdJ4_successor (Nat.le_of_ble_eq_true rfl) (Nat.le_of_ble_eq_true rfl) rfl (Nat.le_of_ble_eq_true rfl) dJ30_nextEntry_41 44 rfl rfl hen_r (kk_r (fun x5 m1 k1 n1 => ?_)) (kx_n he_r)
      refine x_pr C 19 (RJ31, TJ31, 4) rfl 0 (Nat.le_of_ble_eq_true rfl) rfl q1385 (Or.inl rfl) rfl trivial 20 rfl dJ30_nextEntry_44 47 rfl (fun m2 => ?_)
      refine s_aload_n C rfl 1 rfl dJ30_nextEntry_47 48 rfl ?_
      refine s_aload_n C rfl 0 rfl dJ30_nextEntry_48 49 rfl ?_
      refine x_pr C 19 (RJ31, TJ31, 4) rfl 1 (Nat.le_of_ble_eq_true rfl) rfl q1386 (Or.inl rfl) rfl trivial 20 rfl dJ30_nextEntry_49 52 rfl (fun m3 => ?_)
      refine s_aload_n C rfl 0 rfl dJ30_nextEntry_52 53 rfl ?_
      exact x_aret C hret (Or.inl ⟨_, rfl⟩) rfl dJ30_nextEntry_53
    · exact Sm_none
theorem hdJ30_nextEntry_t20 : ((⟨"java/util/TreeMap$PrivateEntryIterator", "nextEntry", "()Ljava/util/TreeMap$Entry;"⟩ : MethodName)).cls ≠ "java/lang/invoke/MethodHandle" ∧ ((⟨"java/util/TreeMap$PrivateEntryIterator", "nextEntry", "()Ljava/util/TreeMap$Entry;"⟩ : MethodName)).cls ≠ "java/lang/invoke/VarHandle" ∧ (parseMethodDescriptor ((⟨"java/util/TreeMap$PrivateEntryIterator", "nextEntry", "()Ljava/util/TreeMap$Entry;"⟩ : MethodName)).desc).map (fun d => d.parameters.length) = some 0 := ⟨by decide +kernel, by decide +kernel, by decide +kernel⟩
theorem ctJ30_nextEntry_t20 {l : Launch} {g : GG} (hst : l.stackTraces = false) (N : Nat) (m : Mm) (v0 : Option Nat) : ∀ v m' k n, fJ30_nextEntry_t20 (gE_ g) N m v0 = some (v, m', k, n) → Ct_ l g (⟨"java/util/TreeMap$PrivateEntryIterator", "nextEntry", "()Ljava/util/TreeMap$Entry;"⟩ : MethodName) (ws_ (⟨"java/util/TreeMap$PrivateEntryIterator", "nextEntry", "()Ljava/util/TreeMap$Entry;"⟩ : MethodName) cJ30_nextEntry 2 (Option.some (Jvm.ClassFile.FieldType.object "java/util/TreeMap$Entry"))) 11 [vr_ v0] m (en_r v) m' k n :=
  Ct_of (by decide +kernel) rfl hst (Nat.le_of_ble_eq_true rfl) rfl (fun E C hret h0 hin => wJ30_nextEntry_t20 C hret h0 hin N m v0 0 0)
theorem wJ31_next_2 {l : Launch} {g : GG} {E : Me_} (C : Cx_ l g E "java/util/TreeMap$EntryIterator" cJ31_next_2 1 12) (hret : (eT_ E).sig.returnType = (Option.some (Jvm.ClassFile.FieldType.object "java/util/Map$Entry"))) (h0 : ∀ x ∈ (eC_ E).exceptionTable.toList, False) (hin : (eT_ E).name = "next") (N : Nat) : ∀ (m : Mm) (v0 : Option Nat) (k n : Nat), Sm_ l g E 1 en_r (fJ31_next_2 (gE_ g) N m v0) k n 0 [(0, vr_ v0)] [] m := by
  intro m v0 k n
  unfold fJ31_next_2
  refine s_aload_n C rfl 0 rfl dJ31_next_2_0 1 rfl ?_
  refine x_ck (fun hb_ hb0_ => ?_)
  refine x_callU (enc := en_r) (owner := "java/util/TreeMap$PrivateEntryIterator") C 11 0 [] 20 (ctJ30_nextEntry_t20 C.2.2.2.2.2.2.2.2.1 N m v0) hb_ hb0_ rfl rfl q1513 q1514 q1516 q1517 q119 q1518 rfl ⟨by decide +kernel, by decide +kernel, by decide +kernel⟩ (Nat.le_of_ble_eq_true rfl) (Nat.le_of_ble_eq_true rfl) rfl (Nat.le_of_ble_eq_true rfl) dJ31_next_2_1 4 rfl rfl hen_r (kk_r (fun x1 m1 k1 n1 => ?_)) (kx_n he_r)
  exact x_aret C hret (Or.inl ⟨_, rfl⟩) rfl dJ31_next_2_4
theorem hdJ31_next_2 : ((⟨"java/util/TreeMap$EntryIterator", "next", "()Ljava/util/Map$Entry;"⟩ : MethodName)).cls ≠ "java/lang/invoke/MethodHandle" ∧ ((⟨"java/util/TreeMap$EntryIterator", "next", "()Ljava/util/Map$Entry;"⟩ : MethodName)).cls ≠ "java/lang/invoke/VarHandle" ∧ (parseMethodDescriptor ((⟨"java/util/TreeMap$EntryIterator", "next", "()Ljava/util/Map$Entry;"⟩ : MethodName)).desc).map (fun d => d.parameters.length) = some 0 := ⟨by decide +kernel, by decide +kernel, by decide +kernel⟩
theorem ctJ31_next_2 {l : Launch} {g : GG} (hst : l.stackTraces = false) (N : Nat) (m : Mm) (v0 : Option Nat) : ∀ v m' k n, fJ31_next_2 (gE_ g) N m v0 = some (v, m', k, n) → Ct_ l g (⟨"java/util/TreeMap$EntryIterator", "next", "()Ljava/util/Map$Entry;"⟩ : MethodName) (ws_ (⟨"java/util/TreeMap$EntryIterator", "next", "()Ljava/util/Map$Entry;"⟩ : MethodName) cJ31_next_2 1 (Option.some (Jvm.ClassFile.FieldType.object "java/util/Map$Entry"))) 12 [vr_ v0] m (en_r v) m' k n :=
  Ct_of (by decide +kernel) rfl hst (Nat.le_of_ble_eq_true rfl) rfl (fun E C hret h0 hin => wJ31_next_2 C hret h0 hin N m v0 0 0)
theorem wJ31_next {l : Launch} {g : GG} {E : Me_} (C : Cx_ l g E "java/util/TreeMap$EntryIterator" cJ31_next 1 13) (hret : (eT_ E).sig.returnType = (Option.some (Jvm.ClassFile.FieldType.object "java/lang/Object"))) (h0 : ∀ x ∈ (eC_ E).exceptionTable.toList, False) (hin : (eT_ E).name = "next") (N : Nat) : ∀ (m : Mm) (v0 : Option Nat) (k n : Nat), Sm_ l g E 1 en_r (fJ31_next (gE_ g) N m v0) k n 0 [(0, vr_ v0)] [] m := by
  intro m v0 k n
  unfold fJ31_next
  refine s_aload_n C rfl 0 rfl dJ31_next_0 1 rfl ?_
  refine x_ck (fun hb_ hb0_ => ?_)
  refine x_callV (enc := en_r) C 12 0 [] 20 (ctJ31_next_2 C.2.2.2.2.2.2.2.2.1 N m v0) hb_ hb0_ rfl rfl q1509 q1510 q1511 q120 q1512 hdJ31_next_2 (Nat.le_of_ble_eq_true rfl) (Nat.le_of_ble_eq_true rfl) rfl (Nat.le_of_ble_eq_true rfl) dJ31_next_1 4 rfl rfl hen_r (kk_r (fun x1 m1 k1 n1 => ?_)) (kx_n he_r)
  exact x_aret C hret (Or.inl ⟨_, rfl⟩) rfl dJ31_next_4
theorem hdJ31_next : ((⟨"java/util/TreeMap$EntryIterator", "next", "()Ljava/lang/Object;"⟩ : MethodName)).cls ≠ "java/lang/invoke/MethodHandle" ∧ ((⟨"java/util/TreeMap$EntryIterator", "next", "()Ljava/lang/Object;"⟩ : MethodName)).cls ≠ "java/lang/invoke/VarHandle" ∧ (parseMethodDescriptor ((⟨"java/util/TreeMap$EntryIterator", "next", "()Ljava/lang/Object;"⟩ : MethodName)).desc).map (fun d => d.parameters.length) = some 0 := ⟨by decide +kernel, by decide +kernel, by decide +kernel⟩
theorem ctJ31_next {l : Launch} {g : GG} (hst : l.stackTraces = false) (N : Nat) (m : Mm) (v0 : Option Nat) : ∀ v m' k n, fJ31_next (gE_ g) N m v0 = some (v, m', k, n) → Ct_ l g (⟨"java/util/TreeMap$EntryIterator", "next", "()Ljava/lang/Object;"⟩ : MethodName) (ws_ (⟨"java/util/TreeMap$EntryIterator", "next", "()Ljava/lang/Object;"⟩ : MethodName) cJ31_next 1 (Option.some (Jvm.ClassFile.FieldType.object "java/lang/Object"))) 13 [vr_ v0] m (en_r v) m' k n :=
  Ct_of (by decide +kernel) rfl hst (Nat.le_of_ble_eq_true rfl) rfl (fun E C hret h0 hin => wJ31_next C hret h0 hin N m v0 0 0)
theorem wJ0_init_t19 {l : Launch} {g : GG} {E : Me_} (C : Cx_ l g E "java/util/AbstractCollection" cJ0_init 1 10) (hret : (eT_ E).sig.returnType = (Option.none : Option Jvm.ClassFile.FieldType)) (h0 : ∀ x ∈ (eC_ E).exceptionTable.toList, False) (hin : (eT_ E).name = "<init>") (N : Nat) : ∀ (m : Mm) (v0 : Option Nat) (k n : Nat), Sm_ l g E 1 en_v (fJ0_init_t19 (gE_ g) N m v0) k n 0 [(0, vr_ v0)] [] m := by
  intro m v0 k n
  unfold fJ0_init_t19
  refine s_aload_n C rfl 0 rfl dJ0_init_0 1 rfl ?_
  refine x_ok (fun hb_ => ?_)
  refine x_obj C hb_ q165 q152 q153 (by decide) (Nat.le_of_ble_eq_true rfl) dJ0_init_1 4 rfl ?_
  exact x_vret C hret rfl dJ0_init_4
theorem hdJ0_init_t19 : ((⟨"java/util/AbstractCollection", "<init>", "()V"⟩ : MethodName)).cls ≠ "java/lang/invoke/MethodHandle" ∧ ((⟨"java/util/AbstractCollection", "<init>", "()V"⟩ : MethodName)).cls ≠ "java/lang/invoke/VarHandle" ∧ (parseMethodDescriptor ((⟨"java/util/AbstractCollection", "<init>", "()V"⟩ : MethodName)).desc).map (fun d => d.parameters.length) = some 0 := ⟨by decide +kernel, by decide +kernel, by decide +kernel⟩
theorem ctJ0_init_t19 {l : Launch} {g : GG} (hst : l.stackTraces = false) (N : Nat) (m : Mm) (v0 : Option Nat) : ∀ v m' k n, fJ0_init_t19 (gE_ g) N m v0 = some (v, m', k, n) → Ct_ l g (⟨"java/util/AbstractCollection", "<init>", "()V"⟩ : MethodName) (ws_ (⟨"java/util/AbstractCollection", "<init>", "()V"⟩ : MethodName) cJ0_init 1 (Option.none : Option Jvm.ClassFile.FieldType)) 10 [vr_ v0] m (en_v v) m' k n :=
  Ct_of (by decide +kernel) rfl hst (Nat.le_of_ble_eq_true rfl) rfl (fun E C hret h0 hin => wJ0_init_t19 C hret h0 hin N m v0 0 0)
theorem wJ24_init_t19 {l : Launch} {g : GG} {E : Me_} (C : Cx_ l g E "java/util/AbstractSet" cJ24_init 1 11) (hret : (eT_ E).sig.returnType = (Option.none : Option Jvm.ClassFile.FieldType)) (h0 : ∀ x ∈ (eC_ E).exceptionTable.toList, False) (hin : (eT_ E).name = "<init>") (N : Nat) : ∀ (m : Mm) (v0 : Option Nat) (k n : Nat), Sm_ l g E 1 en_v (fJ24_init_t19 (gE_ g) N m v0) k n 0 [(0, vr_ v0)] [] m := by
  intro m v0 k n
  unfold fJ24_init_t19
  refine s_aload_n C rfl 0 rfl dJ24_init_0 1 rfl ?_
  refine x_ok (fun hb0_ => ?_)
  refine x_callI (enc := en_v) C 10 0 [] (ctJ0_init_t19 C.2.2.2.2.2.2.2.2.1 N m v0) hb0_ rfl q1007 q163 q82 q164 rfl hdJ0_init_t19 (Nat.le_of_ble_eq_true rfl) (Nat.le_of_ble_eq_true rfl) rfl (Nat.le_of_ble_eq_true rfl) dJ24_init_1 4 rfl rfl hen_v (kk_v (fun m1 k1 n1 => ?_)) (kx_n he_v)
  exact x_vret C hret rfl dJ24_init_4
theorem hdJ24_init_t19 : ((⟨"java/util/AbstractSet", "<init>", "()V"⟩ : MethodName)).cls ≠ "java/lang/invoke/MethodHandle" ∧ ((⟨"java/util/AbstractSet", "<init>", "()V"⟩ : MethodName)).cls ≠ "java/lang/invoke/VarHandle" ∧ (parseMethodDescriptor ((⟨"java/util/AbstractSet", "<init>", "()V"⟩ : MethodName)).desc).map (fun d => d.parameters.length) = some 0 := ⟨by decide +kernel, by decide +kernel, by decide +kernel⟩
theorem ctJ24_init_t19 {l : Launch} {g : GG} (hst : l.stackTraces = false) (N : Nat) (m : Mm) (v0 : Option Nat) : ∀ v m' k n, fJ24_init_t19 (gE_ g) N m v0 = some (v, m', k, n) → Ct_ l g (⟨"java/util/AbstractSet", "<init>", "()V"⟩ : MethodName) (ws_ (⟨"java/util/AbstractSet", "<init>", "()V"⟩ : MethodName) cJ24_init 1 (Option.none : Option Jvm.ClassFile.FieldType)) 11 [vr_ v0] m (en_v v) m' k n :=
  Ct_of (by decide +kernel) rfl hst (Nat.le_of_ble_eq_true rfl) rfl (fun E C hret h0 hin => wJ24_init_t19 C hret h0 hin N m v0 0 0)
theorem wJ25_init {l : Launch} {g : GG} {E : Me_} (C : Cx_ l g E "java/util/TreeMap$EntrySet" cJ25_init 2 12) (hret : (eT_ E).sig.returnType = (Option.none : Option Jvm.ClassFile.FieldType)) (h0 : ∀ x ∈ (eC_ E).exceptionTable.toList, False) (hin : (eT_ E).name = "<init>") (N : Nat) : ∀ (m : Mm) (v0 : Option Nat) (v1 : Option Nat) (k n : Nat), Sm_ l g E 2 en_v (fJ25_init (gE_ g) N m v0 v1) k n 0 [(0, vr_ v0), (1, vr_ v1)] [] m := by
  intro m v0 v1 k n
  unfold fJ25_init
  refine s_aload_n C rfl 0 rfl dJ25_init_0 1 rfl ?_
  refine s_aload_n C rfl 1 rfl dJ25_init_1 2 rfl ?_
  refine x_prF C hin 18 (RJ25, TJ25, 1) rfl 0 (Nat.le_of_ble_eq_true rfl) rfl q1008 rfl rfl trivial 19 rfl dJ25_init_2 5 rfl (fun m1 => ?_)
  refine s_aload_n C rfl 0 rfl dJ25_init_5 6 rfl ?_
  refine x_ok (fun hb0_ => ?_)
  refine x_callI (enc := en_v) C 11 0 [] (ctJ24_init_t19 C.2.2.2.2.2.2.2.2.1 N m1 v0) hb0_ rfl q1004 q1005 q112 q1006 rfl hdJ24_init_t19 (Nat.le_of_ble_eq_true rfl) (Nat.le_of_ble_eq_true rfl) rfl (Nat.le_of_ble_eq_true rfl) dJ25_init_6 9 rfl rfl hen_v (kk_v (fun m2 k1 n1 => ?_)) (kx_n he_v)
  exact x_vret C hret rfl dJ25_init_9
theorem hdJ25_init : ((⟨"java/util/TreeMap$EntrySet", "<init>", "(Ljava/util/TreeMap;)V"⟩ : MethodName)).cls ≠ "java/lang/invoke/MethodHandle" ∧ ((⟨"java/util/TreeMap$EntrySet", "<init>", "(Ljava/util/TreeMap;)V"⟩ : MethodName)).cls ≠ "java/lang/invoke/VarHandle" ∧ (parseMethodDescriptor ((⟨"java/util/TreeMap$EntrySet", "<init>", "(Ljava/util/TreeMap;)V"⟩ : MethodName)).desc).map (fun d => d.parameters.length) = some 1 := ⟨by decide +kernel, by decide +kernel, by decide +kernel⟩
theorem ctJ25_init {l : Launch} {g : GG} (hst : l.stackTraces = false) (N : Nat) (m : Mm) (v0 : Option Nat) (v1 : Option Nat) : ∀ v m' k n, fJ25_init (gE_ g) N m v0 v1 = some (v, m', k, n) → Ct_ l g (⟨"java/util/TreeMap$EntrySet", "<init>", "(Ljava/util/TreeMap;)V"⟩ : MethodName) (ws_ (⟨"java/util/TreeMap$EntrySet", "<init>", "(Ljava/util/TreeMap;)V"⟩ : MethodName) cJ25_init 2 (Option.none : Option Jvm.ClassFile.FieldType)) 12 [vr_ v0, vr_ v1] m (en_v v) m' k n :=
  Ct_of (by decide +kernel) rfl hst (Nat.le_of_ble_eq_true rfl) rfl (fun E C hret h0 hin => wJ25_init C hret h0 hin N m v0 v1 0 0)
theorem wJ4_entrySet_b26 {l : Launch} {g : GG} {E : Me_} (C : Cx_ l g E "java/util/TreeMap" cJ4_entrySet 2 13) (hret : (eT_ E).sig.returnType = (Option.some (Jvm.ClassFile.FieldType.object "java/util/Set"))) (h0 : ∀ x ∈ (eC_ E).exceptionTable.toList, False) (hin : (eT_ E).name = "entrySet") (N : Nat) : ∀ (m : Mm) (s0 : Option Nat) (k n : Nat), Sm_ l g E 2 en_r (fJ4_entrySet_b26 (gE_ g) N m s0) k n 26 [] [vr_ s0] m := by
  intro m s0 k n
  unfold fJ4_entrySet_b26
  exact x_aret C hret (Or.inl ⟨_, rfl⟩) rfl dJ4_entrySet_26
theorem wJ4_entrySet {l : Launch} {g : GG} {E : Me_} (C : Cx_ l g E "java/util/TreeMap" cJ4_entrySet 2 13) (hret : (eT_ E).sig.returnType = (Option.some (Jvm.ClassFile.FieldType.object "java/util/Set"))) (h0 : ∀ x ∈ (eC_ E).exceptionTable.toList, False) (hin : (eT_ E).name = "entrySet") (N : Nat) : ∀ (m : Mm) (v0 : Option Nat) (k n : Nat), Sm_ l g E 2 en_r (fJ4_entrySet (gE_ g) N m v0) k n 0 [(0, vr_ v0)] [] m := by
  intro m v0 k n
  unfold fJ4_entrySet
  refine s_aload_n C rfl 0 rfl dJ4_entrySet_0 1 rfl ?_
  refine x_gr C 14 (RJ4, TJ4, 9) rfl 6 (Nat.le_of_ble_eq_true rfl) q211 (Or.inl rfl) rfl 15 rfl dJ4_entrySet_1 4 rfl (fun x1 => ?_)
  refine s_astore_n C rfl (Nat.le_of_ble_eq_true rfl) [0] rfl rfl dJ4_entrySet_4 5 rfl ?_
  refine s_aload_n C rfl 0 rfl dJ4_entrySet_5 6 rfl ?_
  refine s_ifnull C dJ4_entrySet_6 13 rfl 9 rfl (fun c_ => ?_) (fun c_ => ?_)
  · refine s_aload_n C rfl 1 rfl dJ4_entrySet_13 14 rfl ?_
    refine x_nw C 18 (RJ25, TJ25, 1) rfl q999 q1000 q113 19 1 rfl rfl dJ4_entrySet_14 17 rfl (fun x2 m1 => ?_)
    refine s_dup C rfl dJ4_entrySet_17 18 rfl ?_
    refine s_aload_n C rfl 1 rfl dJ4_entrySet_18 19 rfl ?_
    refine x_callI (enc := en_v) C 12 1 [vr_ v0] (ctJ25_init C.2.2.2.2.2.2.2.2.1 N m1 (some x2) v0) (fun h => by cases h) rfl q1001 q1002 q113 q1003 rfl hdJ25_init (Nat.le_of_ble_eq_true rfl) (Nat.le_of_ble_eq_true rfl) rfl (Nat.le_of_ble_eq_true rfl) dJ4_entrySet_19 22 rfl rfl hen_v (kk_v (fun m2 k1 n1 => ?_)) (kx_n he_v)
    refine s_dup_x1 C rfl rfl dJ4_entrySet_22 23 rfl ?_
    refine x_pr C 14 (RJ4, TJ4, 9) rfl 6 (Nat.le_of_ble_eq_true rfl) rfl q211 (Or.inl rfl) rfl trivial 15 rfl dJ4_entrySet_23 26 rfl (fun m3 => ?_)
    refine Sm_sub [] rfl ?_
    exact wJ4_entrySet_b26 C hret h0 hin N _ _ _ _
  · refine s_aload_n C rfl 0 rfl dJ4_entrySet_9 10 rfl ?_
    refine s_goto C (off := 16) 26 dJ4_entrySet_10 rfl ?_
    refine Sm_sub [] rfl ?_
    exact wJ4_entrySet_b26 C hret h0 hin N _ _ _ _
theorem hdJ4_entrySet : ((⟨"java/util/TreeMap", "entrySet", "()Ljava/util/Set;"⟩ : MethodName)).cls ≠ "java/lang/invoke/MethodHandle" ∧ ((⟨"java/util/TreeMap", "entrySet", "()Ljava/util/Set;"⟩ : MethodName)).cls ≠ "java/lang/invoke/VarHandle" ∧ (parseMethodDescriptor ((⟨"java/util/TreeMap", "entrySet", "()Ljava/util/Set;"⟩ : MethodName)).desc).map (fun d => d.parameters.length) = some 0 := ⟨by decide +kernel, by decide +kernel, by decide +kernel⟩
theorem ctJ4_entrySet {l : Launch} {g : GG} (hst : l.stackTraces = false) (N : Nat) (m : Mm) (v0 : Option Nat) : ∀ v m' k n, fJ4_entrySet (gE_ g) N m v0 = some (v, m', k, n) → Ct_ l g (⟨"java/util/TreeMap", "entrySet", "()Ljava/util/Set;"⟩ : MethodName) (ws_ (⟨"java/util/TreeMap", "entrySet", "()Ljava/util/Set;"⟩ : MethodName) cJ4_entrySet 2 (Option.some (Jvm.ClassFile.FieldType.object "java/util/Set"))) 13 [vr_ v0] m (en_r v) m' k n :=
  Ct_of (by decide +kernel) rfl hst (Nat.le_of_ble_eq_true rfl) rfl (fun E C hret h0 hin => wJ4_entrySet C hret h0 hin N m v0 0 0)
theorem wJ30_init_t20 {l : Launch} {g : GG} {E : Me_} (C : Cx_ l g E "java/util/TreeMap$PrivateEntryIterator" cJ30_init 3 10) (hret : (eT_ E).sig.returnType = (Option.none : Option Jvm.ClassFile.FieldType)) (h0 : ∀ x ∈ (eC_ E).exceptionTable.toList, False) (hin : (eT_ E).name = "<init>") (N : Nat) : ∀ (m : Mm) (v0 : Option Nat) (v1 : Option Nat) (v2 : Option Nat) (k n : Nat), Sm_ l g E 3 en_v (fJ30_init_t20 (gE_ g) N m v0 v1 v2) k n 0 [(0, vr_ v0), (1, vr_ v1), (2, vr_ v2)] [] m := by
  intro m v0 v1 v2 k n
  unfold fJ30_init_t20
  refine s_aload_n C rfl 0 rfl dJ30_init_0 1 rfl ?_
  refine s_aload_n C rfl 1 rfl dJ30_init_1 2 rfl ?_
  refine x_prF C hin 19 (RJ31, TJ31, 4) rfl 3 (Nat.le_of_ble_eq_true rfl) rfl q1388 rfl rfl trivial 20 rfl dJ30_init_2 5 rfl (fun m1 => ?_)
  refine s_aload_n C rfl 0 rfl dJ30_init_5 6 rfl ?_
  refine x_ok (fun hb_ => ?_)
  refine x_obj C hb_ q1384 q152 q153 (by decide) (Nat.le_of_ble_eq_true rfl) dJ30_init_6 9 rfl ?_
  refine s_aload_n C rfl 0 rfl dJ30_init_9 10 rfl ?_
  refine s_aload_n C rfl 1 rfl dJ30_init_10 11 rfl ?_
  refine x_giN C 14 (RJ4, TJ4, 9) rfl 5 (Nat.le_of_ble_eq_true rfl) q208 rfl rfl 15 rfl dJ30_init_11 14 rfl (fun x1 => ?_)
  refine x_pi C 19 (RJ31, TJ31, 4) rfl 2 (Nat.le_of_ble_eq_true rfl) rfl q1387 (Or.inl rfl) rfl trivial 20 rfl dJ30_init_14 17 rfl (fun m2 => ?_)
  refine s_aload_n C rfl 0 rfl dJ30_init_17 18 rfl ?_
  refine s_null C dJ30_init_18 19 rfl ?_
  refine x_pr C 19 (RJ31, TJ31, 4) rfl 1 (Nat.le_of_ble_eq_true rfl) rfl q1386 (Or.inl rfl) rfl trivial 20 rfl dJ30_init_19 22 rfl (fun m3 => ?_)
  refine s_aload_n C rfl 0 rfl dJ30_init_22 23 rfl ?_
  refine s_aload_n C rfl 2 rfl dJ30_init_23 24 rfl ?_
  refine x_pr C 19 (RJ31, TJ31, 4) rfl 0 (Nat.le_of_ble_eq_true rfl) rfl q1385 (Or.inl rfl) rfl trivial 20 rfl dJ30_init_24 27 rfl (fun m4 => ?_)
  exact x_vret C hret rfl dJ30_init_27
theorem hdJ30_init_t20 : ((⟨"java/util/TreeMap$PrivateEntryIterator", "<init>", "(Ljava/util/TreeMap;Ljava/util/TreeMap$Entry;)V"⟩ : MethodName)).cls ≠ "java/lang/invoke/MethodHandle" ∧ ((⟨"java/util/TreeMap$PrivateEntryIterator", "<init>", "(Ljava/util/TreeMap;Ljava/util/TreeMap$Entry;)V"⟩ : MethodName)).cls ≠ "java/lang/invoke/VarHandle" ∧ (parseMethodDescriptor ((⟨"java/util/TreeMap$PrivateEntryIterator", "<init>", "(Ljava/util/TreeMap;Ljava/util/TreeMap$Entry;)V"⟩ : MethodName)).desc).map (fun d => d.parameters.length) = some 2 := ⟨by decide +kernel, by decide +kernel, by decide +kernel⟩
theorem ctJ30_init_t20 {l : Launch} {g : GG} (hst : l.stackTraces = false) (N : Nat) (m : Mm) (v0 : Option Nat) (v1 : Option Nat) (v2 : Option Nat) : ∀ v m' k n, fJ30_init_t20 (gE_ g) N m v0 v1 v2 = some (v, m', k, n) → Ct_ l g (⟨"java/util/TreeMap$PrivateEntryIterator", "<init>", "(Ljava/util/TreeMap;Ljava/util/TreeMap$Entry;)V"⟩ : MethodName) (ws_ (⟨"java/util/TreeMap$PrivateEntryIterator", "<init>", "(Ljava/util/TreeMap;Ljava/util/TreeMap$Entry;)V"⟩ : MethodName) cJ30_init 3 (Option.none : Option Jvm.ClassFile.FieldType)) 10 [vr_ v0, vr_ v1, vr_ v2] m (en_v v) m' k n :=
  Ct_of (by decide +kernel) rfl hst (Nat.le_of_ble_eq_true rfl) rfl (fun E C hret h0 hin => wJ30_init_t20 C hret h0 hin N m v0 v1 v2 0 0)
theorem wJ31_init {l : Launch} {g : GG} {E : Me_} (C : Cx_ l g E "java/util/TreeMap$EntryIterator" cJ31_init 3 11) (hret : (eT_ E).sig.returnType = (Option.none : Option Jvm.ClassFile.FieldType)) (h0 : ∀ x ∈ (eC_ E).exceptionTable.toList, False) (hin : (eT_ E).name = "<init>") (N : Nat) : ∀ (m : Mm) (v0 : Option Nat) (v1 : Option Nat) (v2 : Option Nat) (k n : Nat), Sm_ l g E 3 en_v (fJ31_init (gE_ g) N m v0 v1 v2) k n 0 [(0, vr_ v0), (1, vr_ v1), (2, vr_ v2)] [] m := by
  intro m v0 v1 v2 k n
  unfold fJ31_init
  refine s_aload_n C rfl 0 rfl dJ31_init_0 1 rfl ?_
  refine s_aload_n C rfl 1 rfl dJ31_init_1 2 rfl ?_
  refine s_aload_n C rfl 2 rfl dJ31_init_2 3 rfl ?_
  refine x_ok (fun hb0_ => ?_)
  refine x_callI (enc := en_v) C 10 2 [vr_ v1, vr_ v2] (ctJ30_init_t20 C.2.2.2.2.2.2.2.2.1 N m v0 v1 v2) hb0_ rfl q1381 q1382 q119 q1383 rfl hdJ30_init_t20 (Nat.le_of_ble_eq_true rfl) (Nat.le_of_ble_eq_true rfl) rfl (Nat.le_of_ble_eq_true rfl) dJ31_init_3 6 rfl rfl hen_v (kk_v (fun m1 k1 n1 => ?_)) (kx_n he_v)
  exact x_vret C hret rfl dJ31_init_6
theorem hdJ31_init : ((⟨"java/util/TreeMap$EntryIterator", "<init>", "(Ljava/util/TreeMap;Ljava/util/TreeMap$Entry;)V"⟩ : MethodName)).cls ≠ "java/lang/invoke/MethodHandle" ∧ ((⟨"java/util/TreeMap$EntryIterator", "<init>", "(Ljava/util/TreeMap;Ljava/util/TreeMap$Entry;)V"⟩ : MethodName)).cls ≠ "java/lang/invoke/VarHandle" ∧ (parseMethodDescriptor ((⟨"java/util/TreeMap$EntryIterator", "<init>", "(Ljava/util/TreeMap;Ljava/util/TreeMap$Entry;)V"⟩ : MethodName)).desc).map (fun d => d.parameters.length) = some 2 := ⟨by decide +kernel, by decide +kernel, by decide +kernel⟩
theorem ctJ31_init {l : Launch} {g : GG} (hst : l.stackTraces = false) (N : Nat) (m : Mm) (v0 : Option Nat) (v1 : Option Nat) (v2 : Option Nat) : ∀ v m' k n, fJ31_init (gE_ g) N m v0 v1 v2 = some (v, m', k, n) → Ct_ l g (⟨"java/util/TreeMap$EntryIterator", "<init>", "(Ljava/util/TreeMap;Ljava/util/TreeMap$Entry;)V"⟩ : MethodName) (ws_ (⟨"java/util/TreeMap$EntryIterator", "<init>", "(Ljava/util/TreeMap;Ljava/util/TreeMap$Entry;)V"⟩ : MethodName) cJ31_init 3 (Option.none : Option Jvm.ClassFile.FieldType)) 11 [vr_ v0, vr_ v1, vr_ v2] m (en_v v) m' k n :=
  Ct_of (by decide +kernel) rfl hst (Nat.le_of_ble_eq_true rfl) rfl (fun E C hret h0 hin => wJ31_init C hret h0 hin N m v0 v1 v2 0 0)
theorem wJ25_iterator {l : Launch} {g : GG} {E : Me_} (C : Cx_ l g E "java/util/TreeMap$EntrySet" cJ25_iterator 1 12) (hret : (eT_ E).sig.returnType = (Option.some (Jvm.ClassFile.FieldType.object "java/util/Iterator"))) (h0 : ∀ x ∈ (eC_ E).exceptionTable.toList, False) (hin : (eT_ E).name = "iterator") (N : Nat) : ∀ (m : Mm) (v0 : Option Nat) (k n : Nat), Sm_ l g E 1 en_r (fJ25_iterator (gE_ g) N m v0) k n 0 [(0, vr_ v0)] [] m := by
  intro m v0 k n
  unfold fJ25_iterator
  refine x_nw C 19 (RJ31, TJ31, 4) rfl q1375 q1376 q120 20 4 rfl rfl dJ25_iterator_0 3 rfl (fun x1 m1 => ?_)
  refine s_dup C rfl dJ25_iterator_3 4 rfl ?_
  refine s_aload_n C rfl 0 rfl dJ25_iterator_4 5 rfl ?_
  refine x_gr C 18 (RJ25, TJ25, 1) rfl 0 (Nat.le_of_ble_eq_true rfl) q1008 (Or.inl rfl) rfl 19 rfl dJ25_iterator_5 8 rfl (fun x2 => ?_)
  refine s_aload_n C rfl 0 rfl dJ25_iterator_8 9 rfl ?_
  refine x_gr C 18 (RJ25, TJ25, 1) rfl 0 (Nat.le_of_ble_eq_true rfl) q1008 (Or.inl rfl) rfl 19 rfl dJ25_iterator_9 12 rfl (fun x3 => ?_)
  refine x_ck (fun hb_ hb0_ => ?_)
  refine x_callV (enc := en_r) C 10 0 [] 15 (ctJ4_getFirstEntry C.2.2.2.2.2.2.2.2.1 N m1 x3) hb_ hb0_ rfl rfl q1377 q1031 q1032 q87 q1033 hdJ4_getFirstEntry (Nat.le_of_ble_eq_true rfl) (Nat.le_of_ble_eq_true rfl) rfl (Nat.le_of_ble_eq_true rfl) dJ25_iterator_12 15 rfl rfl hen_r (kk_r (fun x4 m2 k1 n1 => ?_)) (kx_n he_r)
  refine x_callI (enc := en_v) C 11 2 [vr_ x2, vr_ x4] (ctJ31_init C.2.2.2.2.2.2.2.2.1 N m2 (some x1) x2 x4) (fun h => by cases h) rfl q1378 q1379 q120 q1380 rfl hdJ31_init (Nat.le_of_ble_eq_true rfl) (Nat.le_of_ble_eq_true rfl) rfl (Nat.le_of_ble_eq_true rfl) dJ25_iterator_15 18 rfl rfl hen_v (kk_v (fun m3 k1 n1 => ?_)) (kx_n he_v)
  exact x_aret C hret (Or.inl ⟨_, rfl⟩) rfl dJ25_iterator_18
theorem hdJ25_iterator : ((⟨"java/util/TreeMap$EntrySet", "iterator", "()Ljava/util/Iterator;"⟩ : MethodName)).cls ≠ "java/lang/invoke/MethodHandle" ∧ ((⟨"java/util/TreeMap$EntrySet", "iterator", "()Ljava/util/Iterator;"⟩ : MethodName)).cls ≠ "java/lang/invoke/VarHandle" ∧ (parseMethodDescriptor ((⟨"java/util/TreeMap$EntrySet", "iterator", "()Ljava/util/Iterator;"⟩ : MethodName)).desc).map (fun d => d.parameters.length) = some 0 := ⟨by decide +kernel, by decide +kernel, by decide +kernel⟩
theorem ctJ25_iterator {l : Launch} {g : GG} (hst : l.stackTraces = false) (N : Nat) (m : Mm) (v0 : Option Nat) : ∀ v m' k n, fJ25_iterator (gE_ g) N m v0 = some (v, m', k, n) → Ct_ l g (⟨"java/util/TreeMap$EntrySet", "iterator", "()Ljava/util/Iterator;"⟩ : MethodName) (ws_ (⟨"java/util/TreeMap$EntrySet", "iterator", "()Ljava/util/Iterator;"⟩ : MethodName) cJ25_iterator 1 (Option.some (Jvm.ClassFile.FieldType.object "java/util/Iterator"))) 12 [vr_ v0] m (en_r v) m' k n :=
  Ct_of (by decide +kernel) rfl hst (Nat.le_of_ble_eq_true rfl) rfl (fun E C hret h0 hin => wJ25_iterator C hret h0 hin N m v0 0 0)
theorem wX2_says_b219 {l : Launch} {g : GG} {E : Me_} (C : Cx_ l g E "MasterTree$Master" cX2_says 12 17) (hret : (eT_ E).sig.returnType = (Option.some Jvm.ClassFile.FieldType.int)) (h0 : ∀ x ∈ (eC_ E).exceptionTable.toList, False) (hin : (eT_ E).name = "says") (N : Nat) {k20 : Mm → Option Nat → Int32 → Int32 → Int32 → Int32 → Int32 → Option Nat → Rs (Int32)} (hk20 : ∀ (m : Mm) (v0 : Option Nat) (v2 : Int32) (v3 : Int32) (v4 : Int32) (v5 : Int32) (v6 : Int32) (v7 : Option Nat) (k n : Nat), Sm_ l g E 12 en_i (k20 m v0 v2 v3 v4 v5 v6 v7) k n 20 [(0, vr_ v0), (2, vi_ v2), (3, vi_ v3), (4, vi_ v4), (5, vi_ v5), (6, vi_ v6), (7, vr_ v7)] [] m) : ∀ (m : Mm) (v0 : Option Nat) (v2 : Int32) (v3 : Int32) (v4 : Int32) (v5 : Int32) (v6 : Int32) (v7 : Option Nat) (k n : Nat), Sm_ l g E 12 en_i (fX2_says_b219 (gE_ g) N k20 m v0 v2 v3 v4 v5 v6 v7) k n 219 [(0, vr_ v0), (2, vi_ v2), (3, vi_ v3), (4, vi_ v4), (5, vi_ v5), (6, vi_ v6), (7, vr_ v7)] [] m := by
  intro m v0 v2 v3 v4 v5 v6 v7 k n
  unfold fX2_says_b219
  refine s_goto C (off := -199) 20 dX2_says_219 rfl ?_
  exact hk20 _ _ _ _ _ _ _ _ _ _
theorem wX2_says_b186 {l : Launch} {g : GG} {E : Me_} (C : Cx_ l g E "MasterTree$Master" cX2_says 12 17) (hret : (eT_ E).sig.returnType = (Option.some Jvm.ClassFile.FieldType.int)) (h0 : ∀ x ∈ (eC_ E).exceptionTable.toList, False) (hin : (eT_ E).name = "says") (N : Nat) {k20 : Mm → Option Nat → Int32 → Int32 → Int32 → Int32 → Int32 → Option Nat → Rs (Int32)} (hk20 : ∀ (m : Mm) (v0 : Option Nat) (v2 : Int32) (v3 : Int32) (v4 : Int32) (v5 : Int32) (v6 : Int32) (v7 : Option Nat) (k n : Nat), Sm_ l g E 12 en_i (k20 m v0 v2 v3 v4 v5 v6 v7) k n 20 [(0, vr_ v0), (2, vi_ v2), (3, vi_ v3), (4, vi_ v4), (5, vi_ v5), (6, vi_ v6), (7, vr_ v7)] [] m) : ∀ (m : Mm) (v0 : Option Nat) (v2 : Int32) (v3 : Int32) (v4 : Int32) (v5 : Int32) (v6 : Int32) (v7 : Option Nat) (v8 : Option Nat) (v11 : Int32) (k n : Nat), Sm_ l g E 12 en_i (fX2_says_b186 (gE_ g) N k20 m v0 v2 v3 v4 v5 v6 v7 v8 v11) k n 186 [(0, vr_ v0), (2, vi_ v2), (3, vi_ v3), (4, vi_ v4), (5, vi_ v5), (6, vi_ v6), (7, vr_ v7), (8, vr_ v8), (11, vi_ v11)] [] m := by
  intro m v0 v2 v3 v4 v5 v6 v7 v8 v11 k n
  unfold fX2_says_b186
  refine s_iload C 8 rfl dX2_says_186 188 rfl ?_
  refine s_iconst C (-1) rfl dX2_says_188 189 rfl ?_
  refine s_icmp_eq C dX2_says_189 219 rfl 192 rfl (fun c_ => ?_) (fun c_ => ?_)
  · refine Sm_sub [0, 1, 2, 3, 4, 5, 6] rfl ?_
    exact wX2_says_b219 C hret h0 hin N hk20 _ _ _ _ _ _ _ _ _ _
  · refine s_iload C 8 rfl dX2_says_192 194 rfl ?_
    refine s_iload C 4 rfl dX2_says_194 196 rfl ?_
    refine s_icmp_ne C dX2_says_196 219 rfl 199 rfl (fun c_ => ?_) (fun c_ => ?_)
    · refine s_iload C 5 rfl dX2_says_199 201 rfl ?_
      refine s_aload C 7 rfl dX2_says_201 203 rfl ?_
      refine x_ck (fun hb_ hb0_ => ?_)
      refine x_callF (enc := en_r) C 10 0 [] 16 (ctJ37_getValue C.2.2.2.2.2.2.2.2.1 N m v8) hb_ hb0_ rfl rfl rfl fw_24 q1589 q1568 q1570 q130 q1572 hx13 (Nat.le_of_ble_eq_true rfl) (Nat.le_of_ble_eq_true rfl) rfl (Nat.le_of_ble_eq_true rfl) dX2_says_203 208 rfl rfl hen_r (kk_r (fun x1 m1 k1 n1 => ?_)) (kx_n he_r)
      refine x_cc C "java/lang/Integer" [27] (fun k hk => by rw [List.mem_singleton.mp hk]; exact ⟨rfl, Or.inr rfl⟩) q1583 dX2_says_208 211 rfl ?_
      refine x_ck (fun hb_ hb0_ => ?_)
      refine x_callV (enc := en_i) C 10 0 [] 27 (ctJ21_intValue C.2.2.2.2.2.2.2.2.1 N m1 x1) hb_ hb0_ rfl rfl q1584 q1585 q1586 q108 q1587 hdJ21_intValue (Nat.le_of_ble_eq_true rfl) (Nat.le_of_ble_eq_true rfl) rfl (Nat.le_of_ble_eq_true rfl) dX2_says_211 214 rfl rfl hen_i (kk_i (fun x2 m2 k1 n1 => ?_)) (kx_n he_i)
      refine x_mmax C q1653 q371 q90 q372 (Nat.le_of_ble_eq_true rfl) (Nat.le_of_ble_eq_true rfl) dX2_says_214 217 rfl ?_
      refine s_istore C (Nat.le_of_ble_eq_true rfl) [0, 1, 2, 3, 4, 6] rfl rfl dX2_says_217 219 rfl ?_
      refine Sm_sub [1, 2, 3, 4, 5, 0, 6] rfl ?_
      exact wX2_says_b219 C hret h0 hin N hk20 _ _ _ _ _ _ _ _ _ _
    · refine Sm_sub [0, 1, 2, 3, 4, 5, 6] rfl ?_
      exact wX2_says_b219 C hret h0 hin N hk20 _ _ _ _ _ _ _ _ _ _
theorem wX2_says_b149 {l : Launch} {g : GG} {E : Me_} (C : Cx_ l g E "MasterTree$Master" cX2_says 12 17) (hret : (eT_ E).sig.returnType = (Option.some Jvm.ClassFile.FieldType.int)) (h0 : ∀ x ∈ (eC_ E).exceptionTable.toList, False) (hin : (eT_ E).name = "says") (N : Nat) {k20 : Mm → Option Nat → Int32 → Int32 → Int32 → Int32 → Int32 → Option Nat → Rs (Int32)} (hk20 : ∀ (m : Mm) (v0 : Option Nat) (v2 : Int32) (v3 : Int32) (v4 : Int32) (v5 : Int32) (v6 : Int32) (v7 : Option Nat) (k n : Nat), Sm_ l g E 12 en_i (k20 m v0 v2 v3 v4 v5 v6 v7) k n 20 [(0, vr_ v0), (2, vi_ v2), (3, vi_ v3), (4, vi_ v4), (5, vi_ v5), (6, vi_ v6), (7, vr_ v7)] [] m) : ∀ (m : Mm) (v0 : Option Nat) (v2 : Int32) (v3 : Int32) (v4 : Int32) (v5 : Int32) (v6 : Int32) (v7 : Option Nat) (v8 : Option Nat) (s0 : Int32) (k n : Nat), Sm_ l g E 12 en_i (fX2_says_b149 (gE_ g) N k20 m v0 v2 v3 v4 v5 v6 v7 v8 s0) k n 149 [(0, vr_ v0), (2, vi_ v2), (3, vi_ v3), (4, vi_ v4), (5, vi_ v5), (6, vi_ v6), (7, vr_ v7), (8, vr_ v8)] [vi_ s0] m := by
  intro m v0 v2 v3 v4 v5 v6 v7 v8 s0 k n
  unfold fX2_says_b149
  refine s_istore C (Nat.le_of_ble_eq_true rfl) [0, 1, 2, 3, 4, 5, 6, 7] rfl rfl dX2_says_149 151 rfl ?_
  refine s_iload C 0 rfl dX2_says_151 153 rfl ?_
  refine s_iconst C (-1) rfl dX2_says_153 154 rfl ?_
  refine s_icmp_eq C dX2_says_154 186 rfl 157 rfl (fun c_ => ?_) (fun c_ => ?_)
  · refine Sm_sub [1, 2, 3, 4, 5, 6, 7, 8, 0] rfl ?_
    exact wX2_says_b186 C hret h0 hin N hk20 _ _ _ _ _ _ _ _ _ _ _ _
  · refine s_iload C 0 rfl dX2_says_157 159 rfl ?_
    refine s_iload C 5 rfl dX2_says_159 161 rfl ?_
    refine s_icmp_ge C dX2_says_161 186 rfl 164 rfl (fun c_ => ?_) (fun c_ => ?_)
    · refine s_iload C 0 rfl dX2_says_164 166 rfl ?_
      refine s_istore C (Nat.le_of_ble_eq_true rfl) [1, 2, 3, 4, 7, 8] rfl rfl dX2_says_166 168 rfl ?_
      refine s_aload C 6 rfl dX2_says_168 170 rfl ?_
      refine x_ck (fun hb_ hb0_ => ?_)
      refine x_callF (enc := en_r) C 10 0 [] 16 (ctJ37_getValue C.2.2.2.2.2.2.2.2.1 N m v8) hb_ hb0_ rfl rfl rfl fw_24 q1589 q1568 q1570 q130 q1572 hx13 (Nat.le_of_ble_eq_true rfl) (Nat.le_of_ble_eq_true rfl) rfl (Nat.le_of_ble_eq_true rfl) dX2_says_170 175 rfl rfl hen_r (kk_r (fun x1 m1 k1 n1 => ?_)) (kx_n he_r)
      refine x_cc C "java/lang/Integer" [27] (fun k hk => by rw [List.mem_singleton.mp hk]; exact ⟨rfl, Or.inr rfl⟩) q1583 dX2_says_175 178 rfl ?_
      refine x_ck (fun hb_ hb0_ => ?_)
      refine x_callV (enc := en_i) C 10 0 [] 27 (ctJ21_intValue C.2.2.2.2.2.2.2.2.1 N m1 x1) hb_ hb0_ rfl rfl q1584 q1585 q1586 q108 q1587 hdJ21_intValue (Nat.le_of_ble_eq_true rfl) (Nat.le_of_ble_eq_true rfl) rfl (Nat.le_of_ble_eq_true rfl) dX2_says_178 181 rfl rfl hen_i (kk_i (fun x2 m2 k1 n1 => ?_)) (kx_n he_i)
      refine s_istore C (Nat.le_of_ble_eq_true rfl) [0, 1, 2, 3, 4, 5] rfl rfl dX2_says_181 183 rfl ?_
      refine s_goto C (off := 36) 219 dX2_says_183 rfl ?_
      refine Sm_sub [2, 3, 4, 5, 1, 0, 6] rfl ?_
      exact wX2_says_b219 C hret h0 hin N hk20 _ _ _ _ _ _ _ _ _ _
    · refine Sm_sub [1, 2, 3, 4, 5, 6, 7, 8, 0] rfl ?_
      exact wX2_says_b186 C hret h0 hin N hk20 _ _ _ _ _ _ _ _ _ _ _ _
theorem wX2_says_b114 {l : Launch} {g : GG} {E : Me_} (C : Cx_ l g E "MasterTree$Master" cX2_says 12 17) (hret : (eT_ E).sig.returnType = (Option.some Jvm.ClassFile.FieldType.int)) (h0 : ∀ x ∈ (eC_ E).exceptionTable.toList, False) (hin : (eT_ E).name = "says") (N : Nat) {k20 : Mm → Option Nat → Int32 → Int32 → Int32 → Int32 → Int32 → Option Nat → Rs (Int32)} (hk20 : ∀ (m : Mm) (v0 : Option Nat) (v2 : Int32) (v3 : Int32) (v4 : Int32) (v5 : Int32) (v6 : Int32) (v7 : Option Nat) (k n : Nat), Sm_ l g E 12 en_i (k20 m v0 v2 v3 v4 v5 v6 v7) k n 20 [(0, vr_ v0), (2, vi_ v2), (3, vi_ v3), (4, vi_ v4), (5, vi_ v5), (6, vi_ v6), (7, vr_ v7)] [] m) : ∀ (m : Mm) (v0 : Option Nat) (v2 : Int32) (v3 : Int32) (v4 : Int32) (v5 : Int32) (v6 : Int32) (v7 : Option Nat) (v8 : Option Nat) (s0 : Int32) (k n : Nat), Sm_ l g E 12 en_i (fX2_says_b114 (gE_ g) N k20 m v0 v2 v3 v4 v5 v6 v7 v8 s0) k n 114 [(0, vr_ v0), (2, vi_ v2), (3, vi_ v3), (4, vi_ v4), (5, vi_ v5), (6, vi_ v6), (7, vr_ v7), (8, vr_ v8)] [vi_ s0] m := by
  intro m v0 v2 v3 v4 v5 v6 v7 v8 s0 k n
  unfold fX2_says_b114
  refine s_istore C (Nat.le_of_ble_eq_true rfl) [0, 1, 2, 3, 4, 5, 6, 7] rfl rfl dX2_says_114 116 rfl ?_
  refine s_iload C 0 rfl dX2_says_116 118 rfl ?_
  refine s_if_eq C dX2_says_118 148 rfl 121 rfl (fun c_ => ?_) (fun c_ => ?_)
  · refine s_iconst C (-1) rfl dX2_says_148 149 rfl ?_
    refine Sm_sub [1, 2, 3, 4, 5, 6, 7, 8] rfl ?_
    exact wX2_says_b149 C hret h0 hin N hk20 _ _ _ _ _ _ _ _ _ _ _ _
  · refine s_aload_n C rfl 1 rfl dX2_says_121 122 rfl ?_
    refine s_aload C 8 rfl dX2_says_122 124 rfl ?_
    refine x_ck (fun hb_ hb0_ => ?_)
    refine x_callF (enc := en_r) C 10 0 [] 16 (ctJ37_getKey C.2.2.2.2.2.2.2.2.1 N m v8) hb_ hb0_ rfl rfl rfl fw_25 q1575 q1578 q1580 q130 q1582 hx14 (Nat.le_of_ble_eq_true rfl) (Nat.le_of_ble_eq_true rfl) rfl (Nat.le_of_ble_eq_true rfl) dX2_says_124 129 rfl rfl hen_r (kk_r (fun x1 m1 k1 n1 => ?_)) (kx_n he_r)
    refine x_cc C "java/lang/Integer" [27] (fun k hk => by rw [List.mem_singleton.mp hk]; exact ⟨rfl, Or.inr rfl⟩) q1583 dX2_says_129 132 rfl ?_
    refine x_ck (fun hb_ hb0_ => ?_)
    refine x_callV (enc := en_i) C 10 0 [] 27 (ctJ21_intValue C.2.2.2.2.2.2.2.2.1 N m1 x1) hb_ hb0_ rfl rfl q1584 q1585 q1586 q108 q1587 hdJ21_intValue (Nat.le_of_ble_eq_true rfl) (Nat.le_of_ble_eq_true rfl) rfl (Nat.le_of_ble_eq_true rfl) dX2_says_132 135 rfl rfl hen_i (kk_i (fun x2 m2 k1 n1 => ?_)) (kx_n he_i)
    refine s_iconst C 2 rfl dX2_says_135 136 rfl ?_
    refine s_idiv C (by decide) dX2_says_136 137 rfl ?_
    refine s_iconst C 3 rfl dX2_says_137 138 rfl ?_
    refine s_idiv C (by decide) dX2_says_138 139 rfl ?_
    refine s_iconst C 1 rfl dX2_says_139 140 rfl ?_
    refine s_isub C dX2_says_140 141 rfl ?_
    refine s_iload_n C rfl 3 rfl dX2_says_141 142 rfl ?_
    refine x_ck (fun hb_ hb0_ => ?_)
    refine x_callV (enc := en_i) C 16 2 [vi_ (((x2 / 2) / 3) - 1), vi_ v3] 2 (ctX2_sort C.2.2.2.2.2.2.2.2.1 N m2 v0 (((x2 / 2) / 3) - 1) v3) hb_ hb0_ rfl rfl q1590 q1592 qs9 q85 q1593 hdX2_sort (Nat.le_of_ble_eq_true rfl) (Nat.le_of_ble_eq_true rfl) rfl (Nat.le_of_ble_eq_true rfl) dX2_says_142 145 rfl rfl hen_i (kk_i (fun x3 m3 k1 n1 => ?_)) (kx_n he_i)
    refine s_goto C (off := 4) 149 dX2_says_145 rfl ?_
    refine Sm_sub [1, 2, 3, 4, 5, 6, 7, 8] rfl ?_
    exact wX2_says_b149 C hret h0 hin N hk20 _ _ _ _ _ _ _ _ _ _ _ _
theorem wX2_says_b109 {l : Launch} {g : GG} {E : Me_} (C : Cx_ l g E "MasterTree$Master" cX2_says 12 17) (hret : (eT_ E).sig.returnType = (Option.some Jvm.ClassFile.FieldType.int)) (h0 : ∀ x ∈ (eC_ E).exceptionTable.toList, False) (hin : (eT_ E).name = "says") (N : Nat) {k20 : Mm → Option Nat → Int32 → Int32 → Int32 → Int32 → Int32 → Option Nat → Rs (Int32)} (hk20 : ∀ (m : Mm) (v0 : Option Nat) (v2 : Int32) (v3 : Int32) (v4 : Int32) (v5 : Int32) (v6 : Int32) (v7 : Option Nat) (k n : Nat), Sm_ l g E 12 en_i (k20 m v0 v2 v3 v4 v5 v6 v7) k n 20 [(0, vr_ v0), (2, vi_ v2), (3, vi_ v3), (4, vi_ v4), (5, vi_ v5), (6, vi_ v6), (7, vr_ v7)] [] m) : ∀ (m : Mm) (v0 : Option Nat) (v2 : Int32) (v3 : Int32) (v4 : Int32) (v5 : Int32) (v6 : Int32) (v7 : Option Nat) (v8 : Option Nat) (k n : Nat), Sm_ l g E 12 en_i (fX2_says_b109 (gE_ g) N k20 m v0 v2 v3 v4 v5 v6 v7 v8) k n 109 [(0, vr_ v0), (2, vi_ v2), (3, vi_ v3), (4, vi_ v4), (5, vi_ v5), (6, vi_ v6), (7, vr_ v7), (8, vr_ v8)] [] m := by
  intro m v0 v2 v3 v4 v5 v6 v7 v8 k n
  unfold fX2_says_b109
  refine s_iconst C 1 rfl dX2_says_109 110 rfl ?_
  refine s_goto C (off := 4) 114 dX2_says_110 rfl ?_
  exact wX2_says_b114 C hret h0 hin N hk20 _ _ _ _ _ _ _ _ _ _ _ _
theorem wX2_says_b113 {l : Launch} {g : GG} {E : Me_} (C : Cx_ l g E "MasterTree$Master" cX2_says 12 17) (hret : (eT_ E).sig.returnType = (Option.some Jvm.ClassFile.FieldType.int)) (h0 : ∀ x ∈ (eC_ E).exceptionTable.toList, False) (hin : (eT_ E).name = "says") (N : Nat) {k20 : Mm → Option Nat → Int32 → Int32 → Int32 → Int32 → Int32 → Option Nat → Rs (Int32)} (hk20 : ∀ (m : Mm) (v0 : Option Nat) (v2 : Int32) (v3 : Int32) (v4 : Int32) (v5 : Int32) (v6 : Int32) (v7 : Option Nat) (k n : Nat), Sm_ l g E 12 en_i (k20 m v0 v2 v3 v4 v5 v6 v7) k n 20 [(0, vr_ v0), (2, vi_ v2), (3, vi_ v3), (4, vi_ v4), (5, vi_ v5), (6, vi_ v6), (7, vr_ v7)] [] m) : ∀ (m : Mm) (v0 : Option Nat) (v2 : Int32) (v3 : Int32) (v4 : Int32) (v5 : Int32) (v6 : Int32) (v7 : Option Nat) (v8 : Option Nat) (k n : Nat), Sm_ l g E 12 en_i (fX2_says_b113 (gE_ g) N k20 m v0 v2 v3 v4 v5 v6 v7 v8) k n 113 [(0, vr_ v0), (2, vi_ v2), (3, vi_ v3), (4, vi_ v4), (5, vi_ v5), (6, vi_ v6), (7, vr_ v7), (8, vr_ v8)] [] m := by
  intro m v0 v2 v3 v4 v5 v6 v7 v8 k n
  unfold fX2_says_b113
  refine s_iconst C 0 rfl dX2_says_113 114 rfl ?_
  exact wX2_says_b114 C hret h0 hin N hk20 _ _ _ _ _ _ _ _ _ _ _ _
theorem wX2_says_b20 {l : Launch} {g : GG} {E : Me_} (C : Cx_ l g E "MasterTree$Master" cX2_says 12 17) (hret : (eT_ E).sig.returnType = (Option.some Jvm.ClassFile.FieldType.int)) (h0 : ∀ x ∈ (eC_ E).exceptionTable.toList, False) (hin : (eT_ E).name = "says") (N : Nat) : ∀ (F : Nat) (m : Mm) (v0 : Option Nat) (v2 : Int32) (v3 : Int32) (v4 : Int32) (v5 : Int32) (v6 : Int32) (v7 : Option Nat) (k n : Nat), Sm_ l g E 12 en_i (fX2_says_b20 (gE_ g) N F m v0 v2 v3 v4 v5 v6 v7) k n 20 [(0, vr_ v0), (2, vi_ v2), (3, vi_ v3), (4, vi_ v4), (5, vi_ v5), (6, vi_ v6), (7, vr_ v7)] [] m := by
  intro F
  induction F with
  | zero => intros; exact Sm_none
  | succ F ih =>
    intro m v0 v2 v3 v4 v5 v6 v7 k n
    unfold fX2_says_b20
    refine s_aload C 6 rfl dX2_says_20 22 rfl ?_
    refine x_ck (fun hb_ hb0_ => ?_)
    refine x_callF (enc := en_i) C 10 0 [] 20 (ctJ30_hasNext_t20 C.2.2.2.2.2.2.2.2.1 N m v7) hb_ hb0_ rfl rfl rfl fw_14 q1446 q1464 q1466 q119 q1468 hx3 (Nat.le_of_ble_eq_true rfl) (Nat.le_of_ble_eq_true rfl) rfl (Nat.le_of_ble_eq_true rfl) dX2_says_22 27 rfl rfl hen_i (kk_i (fun x1 m1 k1 n1 => ?_)) (kx_n he_i)
    refine s_if_eq C dX2_says_27 222 rfl 30 rfl (fun c_ => ?_) (fun c_ => ?_)
    · refine s_iload C 5 rfl dX2_says_222 224 rfl ?_
      exact x_iret C hret rfl dX2_says_224
    · refine s_aload C 6 rfl dX2_says_30 32 rfl ?_
      refine x_ck (fun hb_ hb0_ => ?_)
      refine x_callF (enc := en_r) C 13 0 [] 20 (ctJ31_next C.2.2.2.2.2.2.2.2.1 N m1 v7) hb_ hb0_ rfl rfl rfl fw_20 q1485 q1504 q1506 q120 q1508 hx5 (Nat.le_of_ble_eq_true rfl) (Nat.le_of_ble_eq_true rfl) rfl (Nat.le_of_ble_eq_true rfl) dX2_says_32 37 rfl rfl hen_r (kk_r (fun x2 m2 k1 n1 => ?_)) (kx_n he_r)
      refine x_cc C "java/util/Map$Entry" [16] (fun k hk => by rw [List.mem_singleton.mp hk]; exact ⟨rfl, Or.inl q1567⟩) q1573 dX2_says_37 40 rfl ?_
      refine s_astore C (Nat.le_of_ble_eq_true rfl) [0, 1, 2, 3, 4, 5, 6] rfl rfl dX2_says_40 42 rfl ?_
      refine s_aload C 0 rfl dX2_says_42 44 rfl ?_
      refine x_ck (fun hb_ hb0_ => ?_)
      refine x_callF (enc := en_r) C 10 0 [] 16 (ctJ37_getKey C.2.2.2.2.2.2.2.2.1 N m2 x2) hb_ hb0_ rfl rfl rfl fw_25 q1575 q1578 q1580 q130 q1582 hx14 (Nat.le_of_ble_eq_true rfl) (Nat.le_of_ble_eq_true rfl) rfl (Nat.le_of_ble_eq_true rfl) dX2_says_44 49 rfl rfl hen_r (kk_r (fun x3 m3 k1 n1 => ?_)) (kx_n he_r)
      refine x_cc C "java/lang/Integer" [27] (fun k hk => by rw [List.mem_singleton.mp hk]; exact ⟨rfl, Or.inr rfl⟩) q1583 dX2_says_49 52 rfl ?_
      refine x_ck (fun hb_ hb0_ => ?_)
      refine x_callV (enc := en_i) C 10 0 [] 27 (ctJ21_intValue C.2.2.2.2.2.2.2.2.1 N m3 x3) hb_ hb0_ rfl rfl q1584 q1585 q1586 q108 q1587 hdJ21_intValue (Nat.le_of_ble_eq_true rfl) (Nat.le_of_ble_eq_true rfl) rfl (Nat.le_of_ble_eq_true rfl) dX2_says_52 55 rfl rfl hen_i (kk_i (fun x4 m4 k1 n1 => ?_)) (kx_n he_i)
      refine s_iconst C 2 rfl dX2_says_55 56 rfl ?_
      refine s_idiv C (by decide) dX2_says_56 57 rfl ?_
      refine s_iconst C 3 rfl dX2_says_57 58 rfl ?_
      refine s_irem C (by decide) dX2_says_58 59 rfl ?_
      refine s_istore C (Nat.le_of_ble_eq_true rfl) [0, 1, 2, 3, 4, 5, 6, 7] rfl rfl dX2_says_59 61 rfl ?_
      refine s_aload C 1 rfl dX2_says_61 63 rfl ?_
      refine x_ck (fun hb_ hb0_ => ?_)
      refine x_callF (enc := en_r) C 10 0 [] 16 (ctJ37_getKey C.2.2.2.2.2.2.2.2.1 N m4 x2) hb_ hb0_ rfl rfl rfl fw_25 q1575 q1578 q1580 q130 q1582 hx14 (Nat.le_of_ble_eq_true rfl) (Nat.le_of_ble_eq_true rfl) rfl (Nat.le_of_ble_eq_true rfl) dX2_says_63 68 rfl rfl hen_r (kk_r (fun x5 m5 k1 n1 => ?_)) (kx_n he_r)
      refine x_cc C "java/lang/Integer" [27] (fun k hk => by rw [List.mem_singleton.mp hk]; exact ⟨rfl, Or.inr rfl⟩) q1583 dX2_says_68 71 rfl ?_
      refine x_ck (fun hb_ hb0_ => ?_)
      refine x_callV (enc := en_i) C 10 0 [] 27 (ctJ21_intValue C.2.2.2.2.2.2.2.2.1 N m5 x5) hb_ hb0_ rfl rfl q1584 q1585 q1586 q108 q1587 hdJ21_intValue (Nat.le_of_ble_eq_true rfl) (Nat.le_of_ble_eq_true rfl) rfl (Nat.le_of_ble_eq_true rfl) dX2_says_71 74 rfl rfl hen_i (kk_i (fun x6 m6 k1 n1 => ?_)) (kx_n he_i)
      refine s_iconst C 2 rfl dX2_says_74 75 rfl ?_
      refine s_irem C (by decide) dX2_says_75 76 rfl ?_
      refine s_iload C 5 rfl dX2_says_76 78 rfl ?_
      refine s_icmp_ne C dX2_says_78 113 rfl 81 rfl (fun c_ => ?_) (fun c_ => ?_)
      · refine s_aload C 1 rfl dX2_says_81 83 rfl ?_
        refine x_ck (fun hb_ hb0_ => ?_)
        refine x_callF (enc := en_r) C 10 0 [] 16 (ctJ37_getValue C.2.2.2.2.2.2.2.2.1 N m6 x2) hb_ hb0_ rfl rfl rfl fw_24 q1589 q1568 q1570 q130 q1572 hx13 (Nat.le_of_ble_eq_true rfl) (Nat.le_of_ble_eq_true rfl) rfl (Nat.le_of_ble_eq_true rfl) dX2_says_83 88 rfl rfl hen_r (kk_r (fun x7 m7 k1 n1 => ?_)) (kx_n he_r)
        refine x_cc C "java/lang/Integer" [27] (fun k hk => by rw [List.mem_singleton.mp hk]; exact ⟨rfl, Or.inr rfl⟩) q1583 dX2_says_88 91 rfl ?_
        refine x_ck (fun hb_ hb0_ => ?_)
        refine x_callV (enc := en_i) C 10 0 [] 27 (ctJ21_intValue C.2.2.2.2.2.2.2.2.1 N m7 x7) hb_ hb0_ rfl rfl q1584 q1585 q1586 q108 q1587 hdJ21_intValue (Nat.le_of_ble_eq_true rfl) (Nat.le_of_ble_eq_true rfl) rfl (Nat.le_of_ble_eq_true rfl) dX2_says_91 94 rfl rfl hen_i (kk_i (fun x8 m8 k1 n1 => ?_)) (kx_n he_i)
        refine s_if_eq C dX2_says_94 113 rfl 97 rfl (fun c_ => ?_) (fun c_ => ?_)
        · refine Sm_sub [2, 3, 4, 5, 6, 7, 8, 1] rfl ?_
          exact wX2_says_b113 C hret h0 hin N (fun m v0 v2 v3 v4 v5 v6 v7 k n => ih m v0 v2 v3 v4 v5 v6 v7 k n) _ _ _ _ _ _ _ _ _ _ _
        · refine s_iload C 0 rfl dX2_says_97 99 rfl ?_
          refine s_iconst C 2 rfl dX2_says_99 100 rfl ?_
          refine s_icmp_eq C dX2_says_100 109 rfl 103 rfl (fun c_ => ?_) (fun c_ => ?_)
          · refine Sm_sub [2, 3, 4, 5, 6, 7, 8, 1] rfl ?_
            exact wX2_says_b109 C hret h0 hin N (fun m v0 v2 v3 v4 v5 v6 v7 k n => ih m v0 v2 v3 v4 v5 v6 v7 k n) _ _ _ _ _ _ _ _ _ _ _
          · refine s_iload C 0 rfl dX2_says_103 105 rfl ?_
            refine s_iload_n C rfl 3 rfl dX2_says_105 106 rfl ?_
            refine s_icmp_ne C dX2_says_106 113 rfl 109 rfl (fun c_ => ?_) (fun c_ => ?_)
            · refine Sm_sub [2, 3, 4, 5, 6, 7, 8, 1] rfl ?_
              exact wX2_says_b109 C hret h0 hin N (fun m v0 v2 v3 v4 v5 v6 v7 k n => ih m v0 v2 v3 v4 v5 v6 v7 k n) _ _ _ _ _ _ _ _ _ _ _
            · refine Sm_sub [2, 3, 4, 5, 6, 7, 8, 1] rfl ?_
              exact wX2_says_b113 C hret h0 hin N (fun m v0 v2 v3 v4 v5 v6 v7 k n => ih m v0 v2 v3 v4 v5 v6 v7 k n) _ _ _ _ _ _ _ _ _ _ _
      · refine Sm_sub [2, 3, 4, 5, 6, 7, 8, 1] rfl ?_
        exact wX2_says_b113 C hret h0 hin N (fun m v0 v2 v3 v4 v5 v6 v7 k n => ih m v0 v2 v3 v4 v5 v6 v7 k n) _ _ _ _ _ _ _ _ _ _ _
theorem wX2_says {l : Launch} {g : GG} {E : Me_} (C : Cx_ l g E "MasterTree$Master" cX2_says 12 17) (hret : (eT_ E).sig.returnType = (Option.some Jvm.ClassFile.FieldType.int)) (h0 : ∀ x ∈ (eC_ E).exceptionTable.toList, False) (hin : (eT_ E).name = "says") (N : Nat) : ∀ (m : Mm) (v0 : Option Nat) (v1 : Option Nat) (v2 : Int32) (v3 : Int32) (v4 : Int32) (k n : Nat), Sm_ l g E 12 en_i (fX2_says (gE_ g) N m v0 v1 v2 v3 v4) k n 0 [(0, vr_ v0), (1, vr_ v1), (2, vi_ v2), (3, vi_ v3), (4, vi_ v4)] [] m := by
  intro m v0 v1 v2 v3 v4 k n
  unfold fX2_says
  refine s_iconst C 3 rfl dX2_says_0 1 rfl ?_
  refine s_istore C (Nat.le_of_ble_eq_true rfl) [0, 1, 2, 3, 4] rfl rfl dX2_says_1 3 rfl ?_
  refine s_iconst C 0 rfl dX2_says_3 4 rfl ?_
  refine s_istore C (Nat.le_of_ble_eq_true rfl) [0, 1, 2, 3, 4, 5] rfl rfl dX2_says_4 6 rfl ?_
  refine s_aload_n C rfl 3 rfl dX2_says_6 7 rfl ?_
  refine x_grN C 2 (RX3, TX3, 9) rfl 8 (Nat.le_of_ble_eq_true rfl) q273 rfl rfl 3 rfl dX2_says_7 10 rfl (fun x1 => ?_)
  refine x_ck (fun hb_ hb0_ => ?_)
  refine x_callV (enc := en_r) C 13 0 [] 15 (ctJ4_entrySet C.2.2.2.2.2.2.2.2.1 N m x1) hb_ hb0_ rfl rfl q995 q996 q997 q87 q998 hdJ4_entrySet (Nat.le_of_ble_eq_true rfl) (Nat.le_of_ble_eq_true rfl) rfl (Nat.le_of_ble_eq_true rfl) dX2_says_10 13 rfl rfl hen_r (kk_r (fun x2 m1 k1 n1 => ?_)) (kx_n he_r)
  refine x_ck (fun hb_ hb0_ => ?_)
  refine x_callF (enc := en_r) C 12 0 [] 19 (ctJ25_iterator C.2.2.2.2.2.2.2.2.1 N m1 x2) hb_ hb0_ rfl rfl rfl fw_10 q1013 q1370 q1372 q113 q1374 hx8 (Nat.le_of_ble_eq_true rfl) (Nat.le_of_ble_eq_true rfl) rfl (Nat.le_of_ble_eq_true rfl) dX2_says_13 18 rfl rfl hen_r (kk_r (fun x3 m2 k1 n1 => ?_)) (kx_n he_r)
  refine s_astore C (Nat.le_of_ble_eq_true rfl) [0, 1, 2, 4, 5, 6] rfl rfl dX2_says_18 20 rfl ?_
  refine Sm_sub [3, 4, 5, 6, 2, 1, 0] rfl ?_
  exact wX2_says_b20 C hret h0 hin N N _ _ _ _ _ _ _ _ _ _
theorem hdX2_says : ((⟨"MasterTree$Master", "says", "(LMasterTree$Entry;III)I"⟩ : MethodName)).cls ≠ "java/lang/invoke/MethodHandle" ∧ ((⟨"MasterTree$Master", "says", "(LMasterTree$Entry;III)I"⟩ : MethodName)).cls ≠ "java/lang/invoke/VarHandle" ∧ (parseMethodDescriptor ((⟨"MasterTree$Master", "says", "(LMasterTree$Entry;III)I"⟩ : MethodName)).desc).map (fun d => d.parameters.length) = some 4 := ⟨by decide +kernel, by decide +kernel, by decide +kernel⟩
theorem ctX2_says {l : Launch} {g : GG} (hst : l.stackTraces = false) (N : Nat) (m : Mm) (v0 : Option Nat) (v1 : Option Nat) (v2 : Int32) (v3 : Int32) (v4 : Int32) : ∀ v m' k n, fX2_says (gE_ g) N m v0 v1 v2 v3 v4 = some (v, m', k, n) → Ct_ l g (⟨"MasterTree$Master", "says", "(LMasterTree$Entry;III)I"⟩ : MethodName) (ws_ (⟨"MasterTree$Master", "says", "(LMasterTree$Entry;III)I"⟩ : MethodName) cX2_says 12 (Option.some Jvm.ClassFile.FieldType.int)) 17 [vr_ v0, vr_ v1, vi_ v2, vi_ v3, vi_ v4] m (en_i v) m' k n :=
  Ct_of (by decide +kernel) rfl hst (Nat.le_of_ble_eq_true rfl) rfl (fun E C hret h0 hin => wX2_says C hret h0 hin N m v0 v1 v2 v3 v4 0 0)
theorem wX2_shownAt_b26 {l : Launch} {g : GG} {E : Me_} (C : Cx_ l g E "MasterTree$Master" cX2_shownAt 3 12) (hret : (eT_ E).sig.returnType = (Option.some Jvm.ClassFile.FieldType.int)) (h0 : ∀ x ∈ (eC_ E).exceptionTable.toList, False) (hin : (eT_ E).name = "shownAt") (N : Nat) : ∀ (m : Mm) (s0 : Int32) (k n : Nat), Sm_ l g E 3 en_i (fX2_shownAt_b26 (gE_ g) N m s0) k n 26 [] [vi_ s0] m := by
  intro m s0 k n
  unfold fX2_shownAt_b26
  exact x_iret C hret rfl dX2_shownAt_26
theorem wX2_shownAt_b25 {l : Launch} {g : GG} {E : Me_} (C : Cx_ l g E "MasterTree$Master" cX2_shownAt 3 12) (hret : (eT_ E).sig.returnType = (Option.some Jvm.ClassFile.FieldType.int)) (h0 : ∀ x ∈ (eC_ E).exceptionTable.toList, False) (hin : (eT_ E).name = "shownAt") (N : Nat) : ∀ (m : Mm) (v2 : Int32) (k n : Nat), Sm_ l g E 3 en_i (fX2_shownAt_b25 (gE_ g) N m v2) k n 25 [(2, vi_ v2)] [] m := by
  intro m v2 k n
  unfold fX2_shownAt_b25
  refine s_iload_n C rfl 0 rfl dX2_shownAt_25 26 rfl ?_
  refine Sm_sub [] rfl ?_
  exact wX2_shownAt_b26 C hret h0 hin N _ _ _ _
theorem wX2_shownAt {l : Launch} {g : GG} {E : Me_} (C : Cx_ l g E "MasterTree$Master" cX2_shownAt 3 12) (hret : (eT_ E).sig.returnType = (Option.some Jvm.ClassFile.FieldType.int)) (h0 : ∀ x ∈ (eC_ E).exceptionTable.toList, False) (hin : (eT_ E).name = "shownAt") (N : Nat) : ∀ (m : Mm) (v0 : Option Nat) (v1 : Int32) (k n : Nat), Sm_ l g E 3 en_i (fX2_shownAt (gE_ g) N m v0 v1) k n 0 [(0, vr_ v0), (1, vi_ v1)] [] m := by
  intro m v0 v1 k n
  unfold fX2_shownAt
  refine s_aload_n C rfl 0 rfl dX2_shownAt_0 1 rfl ?_
  refine x_gr C 1 (RX2, TX2, 12) rfl 7 (Nat.le_of_ble_eq_true rfl) q310 (Or.inl rfl) rfl 2 rfl dX2_shownAt_1 4 rfl (fun x1 => ?_)
  refine s_iload_n C rfl 1 rfl dX2_shownAt_4 5 rfl ?_
  refine x_ai0 C 200 rfl dX2_shownAt_5 6 rfl (fun x2 => ?_)
  refine s_istore_n C rfl (Nat.le_of_ble_eq_true rfl) [0] rfl rfl dX2_shownAt_6 7 rfl ?_
  refine s_iload_n C rfl 0 rfl dX2_shownAt_7 8 rfl ?_
  refine s_iconst C (-1) rfl dX2_shownAt_8 9 rfl ?_
  refine s_icmp_eq C dX2_shownAt_9 25 rfl 12 rfl (fun c_ => ?_) (fun c_ => ?_)
  · refine Sm_sub [0] rfl ?_
    exact wX2_shownAt_b25 C hret h0 hin N _ _ _ _
  · refine s_aload_n C rfl 1 rfl dX2_shownAt_12 13 rfl ?_
    refine s_iload_n C rfl 0 rfl dX2_shownAt_13 14 rfl ?_
    refine x_ck (fun hb_ hb0_ => ?_)
    refine x_callV (enc := en_i) C 11 1 [vi_ x2] 2 (ctX2_isLive C.2.2.2.2.2.2.2.2.1 N m v0 x2) hb_ hb0_ rfl rfl q1594 q972 q973 q85 q974 hdX2_isLive (Nat.le_of_ble_eq_true rfl) (Nat.le_of_ble_eq_true rfl) rfl (Nat.le_of_ble_eq_true rfl) dX2_shownAt_14 17 rfl rfl hen_i (kk_i (fun x3 m1 k1 n1 => ?_)) (kx_n he_i)
    refine s_if_ne C dX2_shownAt_17 25 rfl 20 rfl (fun c_ => ?_) (fun c_ => ?_)
    · refine s_bipush C (-2) rfl dX2_shownAt_20 22 rfl ?_
      refine s_goto C (off := 4) 26 dX2_shownAt_22 rfl ?_
      refine Sm_sub [] rfl ?_
      exact wX2_shownAt_b26 C hret h0 hin N _ _ _ _
    · refine Sm_sub [0] rfl ?_
      exact wX2_shownAt_b25 C hret h0 hin N _ _ _ _
theorem hdX2_shownAt : ((⟨"MasterTree$Master", "shownAt", "(I)I"⟩ : MethodName)).cls ≠ "java/lang/invoke/MethodHandle" ∧ ((⟨"MasterTree$Master", "shownAt", "(I)I"⟩ : MethodName)).cls ≠ "java/lang/invoke/VarHandle" ∧ (parseMethodDescriptor ((⟨"MasterTree$Master", "shownAt", "(I)I"⟩ : MethodName)).desc).map (fun d => d.parameters.length) = some 1 := ⟨by decide +kernel, by decide +kernel, by decide +kernel⟩
theorem ctX2_shownAt {l : Launch} {g : GG} (hst : l.stackTraces = false) (N : Nat) (m : Mm) (v0 : Option Nat) (v1 : Int32) : ∀ v m' k n, fX2_shownAt (gE_ g) N m v0 v1 = some (v, m', k, n) → Ct_ l g (⟨"MasterTree$Master", "shownAt", "(I)I"⟩ : MethodName) (ws_ (⟨"MasterTree$Master", "shownAt", "(I)I"⟩ : MethodName) cX2_shownAt 3 (Option.some Jvm.ClassFile.FieldType.int)) 12 [vr_ v0, vi_ v1] m (en_i v) m' k n :=
  Ct_of (by decide +kernel) rfl hst (Nat.le_of_ble_eq_true rfl) rfl (fun E C hret h0 hin => wX2_shownAt C hret h0 hin N m v0 v1 0 0)
theorem wX2_may_b90 {l : Launch} {g : GG} {E : Me_} (C : Cx_ l g E "MasterTree$Master" cX2_may 7 18) (hret : (eT_ E).sig.returnType = (Option.some Jvm.ClassFile.FieldType.boolean)) (h0 : ∀ x ∈ (eC_ E).exceptionTable.toList, False) (hin : (eT_ E).name = "may") (N : Nat) : ∀ (m : Mm) (s0 : Int32) (k n : Nat), Sm_ l g E 7 en_i (fX2_may_b90 (gE_ g) N m s0) k n 90 [] [vi_ s0] m := by
  intro m s0 k n
  unfold fX2_may_b90
  exact x_zret C hret rfl dX2_may_90
theorem wX2_may_b62 {l : Launch} {g : GG} {E : Me_} (C : Cx_ l g E "MasterTree$Master" cX2_may 7 18) (hret : (eT_ E).sig.returnType = (Option.some Jvm.ClassFile.FieldType.boolean)) (h0 : ∀ x ∈ (eC_ E).exceptionTable.toList, False) (hin : (eT_ E).name = "may") (N : Nat) : ∀ (m : Mm) (v3 : Int32) (v4 : Int32) (k n : Nat), Sm_ l g E 7 en_i (fX2_may_b62 (gE_ g) N m v3 v4) k n 62 [(3, vi_ v3), (4, vi_ v4)] [] m := by
  intro m v3 v4 k n
  unfold fX2_may_b62
  refine s_iload C 1 rfl dX2_may_62 64 rfl ?_
  refine s_if_ne C dX2_may_64 79 rfl 67 rfl (fun c_ => ?_) (fun c_ => ?_)
  · refine s_iload_n C rfl 0 rfl dX2_may_67 68 rfl ?_
    refine s_if_ne C dX2_may_68 75 rfl 71 rfl (fun c_ => ?_) (fun c_ => ?_)
    · refine s_iconst C 1 rfl dX2_may_71 72 rfl ?_
      refine s_goto C (off := 18) 90 dX2_may_72 rfl ?_
      refine Sm_sub [] rfl ?_
      exact wX2_may_b90 C hret h0 hin N _ _ _ _
    · refine s_iconst C 0 rfl dX2_may_75 76 rfl ?_
      refine s_goto C (off := 14) 90 dX2_may_76 rfl ?_
      refine Sm_sub [] rfl ?_
      exact wX2_may_b90 C hret h0 hin N _ _ _ _
  · refine s_iload C 1 rfl dX2_may_79 81 rfl ?_
    refine s_iconst C 1 rfl dX2_may_81 82 rfl ?_
    refine s_icmp_ne C dX2_may_82 89 rfl 85 rfl (fun c_ => ?_) (fun c_ => ?_)
    · refine s_iconst C 1 rfl dX2_may_85 86 rfl ?_
      refine s_goto C (off := 4) 90 dX2_may_86 rfl ?_
      refine Sm_sub [] rfl ?_
      exact wX2_may_b90 C hret h0 hin N _ _ _ _
    · refine s_iconst C 0 rfl dX2_may_89 90 rfl ?_
      refine Sm_sub [] rfl ?_
      exact wX2_may_b90 C hret h0 hin N _ _ _ _
theorem wX2_may_b17 {l : Launch} {g : GG} {E : Me_} (C : Cx_ l g E "MasterTree$Master" cX2_may 7 18) (hret : (eT_ E).sig.returnType = (Option.some Jvm.ClassFile.FieldType.boolean)) (h0 : ∀ x ∈ (eC_ E).exceptionTable.toList, False) (hin : (eT_ E).name = "may") (N : Nat) : ∀ (F : Nat) (m : Mm) (v0 : Option Nat) (v1 : Int32) (v3 : Int32) (v4 : Int32) (v5 : Int32) (v6 : Int32) (k n : Nat), Sm_ l g E 7 en_i (fX2_may_b17 (gE_ g) N F m v0 v1 v3 v4 v5 v6) k n 17 [(0, vr_ v0), (1, vi_ v1), (3, vi_ v3), (4, vi_ v4), (5, vi_ v5), (6, vi_ v6)] [] m := by
  intro F
  induction F with
  | zero => intros; exact Sm_none
  | succ F ih =>
    intro m v0 v1 v3 v4 v5 v6 k n
    unfold fX2_may_b17
    refine s_iload C 4 rfl dX2_may_17 19 rfl ?_
    refine s_if_lt C dX2_may_19 62 rfl 22 rfl (fun c_ => ?_) (fun c_ => ?_)
    · refine Sm_sub [2, 3] rfl ?_
      exact wX2_may_b62 C hret h0 hin N _ _ _ _ _
    · refine s_iload C 3 rfl dX2_may_22 24 rfl ?_
      refine s_if_ne C dX2_may_24 62 rfl 27 rfl (fun c_ => ?_) (fun c_ => ?_)
      · refine s_aload_n C rfl 0 rfl dX2_may_27 28 rfl ?_
        refine s_aload_n C rfl 0 rfl dX2_may_28 29 rfl ?_
        refine x_gr C 1 (RX2, TX2, 12) rfl 6 (Nat.le_of_ble_eq_true rfl) q307 (Or.inl rfl) rfl 2 rfl dX2_may_29 32 rfl (fun x1 => ?_)
        refine s_iload C 4 rfl dX2_may_32 34 rfl ?_
        refine x_ar C 5 (.object "MasterTree$Entry") rfl rfl rfl 205 rfl dX2_may_34 35 rfl (fun x2 => ?_)
        refine s_iload C 5 rfl dX2_may_35 37 rfl ?_
        refine s_iconst C 2 rfl dX2_may_37 38 rfl ?_
        refine x_mmin C q990 q438 q90 q439 (Nat.le_of_ble_eq_true rfl) (Nat.le_of_ble_eq_true rfl) dX2_may_38 41 rfl ?_
        refine s_iload_n C rfl 1 rfl dX2_may_41 42 rfl ?_
        refine s_iload_n C rfl 2 rfl dX2_may_42 43 rfl ?_
        refine x_ck (fun hb_ hb0_ => ?_)
        refine x_callV (enc := en_i) C 17 4 [vr_ x2, vi_ (if (2 : Int32) < v6 then 2 else v6), vi_ v1, vi_ v3] 2 (ctX2_says C.2.2.2.2.2.2.2.2.1 N m v0 x2 (if (2 : Int32) < v6 then 2 else v6) v1 v3) hb_ hb0_ rfl rfl q991 q993 qs8 q85 q994 hdX2_says (Nat.le_of_ble_eq_true rfl) (Nat.le_of_ble_eq_true rfl) rfl (Nat.le_of_ble_eq_true rfl) dX2_may_43 46 rfl rfl hen_i (kk_i (fun x3 m1 k1 n1 => ?_)) (kx_n he_i)
        refine s_istore C (Nat.le_of_ble_eq_true rfl) [0, 1, 2, 4, 5] rfl rfl dX2_may_46 48 rfl ?_
        refine s_aload_n C rfl 1 rfl dX2_may_48 49 rfl ?_
        refine s_iload C 4 rfl dX2_may_49 51 rfl ?_
        refine x_ck (fun hb_ hb0_ => ?_)
        refine x_callV (enc := en_i) C 12 1 [vi_ v5] 2 (ctX2_shownAt C.2.2.2.2.2.2.2.2.1 N m1 v0 v5) hb_ hb0_ rfl rfl q1654 q1655 q1656 q85 q1657 hdX2_shownAt (Nat.le_of_ble_eq_true rfl) (Nat.le_of_ble_eq_true rfl) rfl (Nat.le_of_ble_eq_true rfl) dX2_may_51 54 rfl rfl hen_i (kk_i (fun x4 m2 k1 n1 => ?_)) (kx_n he_i)
        refine s_istore C (Nat.le_of_ble_eq_true rfl) [0, 1, 2, 3, 5] rfl rfl dX2_may_54 56 rfl ?_
        refine s_iinc C 1 rfl 5 rfl (Nat.le_of_ble_eq_true rfl) [0, 1, 2, 3, 4] rfl rfl dX2_may_56 59 rfl ?_
        refine s_goto C (off := -42) 17 dX2_may_59 rfl ?_
        refine Sm_sub [3, 4, 5, 2, 1, 0] rfl ?_
        exact ih _ _ _ _ _ _ _ _ _
      · refine Sm_sub [2, 3] rfl ?_
        exact wX2_may_b62 C hret h0 hin N _ _ _ _ _
theorem wX2_may_b9 {l : Launch} {g : GG} {E : Me_} (C : Cx_ l g E "MasterTree$Master" cX2_may 7 18) (hret : (eT_ E).sig.returnType = (Option.some Jvm.ClassFile.FieldType.boolean)) (h0 : ∀ x ∈ (eC_ E).exceptionTable.toList, False) (hin : (eT_ E).name = "may") (N : Nat) : ∀ (m : Mm) (v0 : Option Nat) (v1 : Int32) (v2 : Int32) (v3 : Int32) (s0 : Int32) (k n : Nat), Sm_ l g E 7 en_i (fX2_may_b9 (gE_ g) N m v0 v1 v2 v3 s0) k n 9 [(0, vr_ v0), (1, vi_ v1), (2, vi_ v2), (3, vi_ v3)] [vi_ s0] m := by
  intro m v0 v1 v2 v3 s0 k n
  unfold fX2_may_b9
  refine s_istore C (Nat.le_of_ble_eq_true rfl) [0, 1, 2, 3] rfl rfl dX2_may_9 11 rfl ?_
  refine s_iload_n C rfl 3 rfl dX2_may_11 12 rfl ?_
  refine s_istore C (Nat.le_of_ble_eq_true rfl) [0, 1, 2, 4] rfl rfl dX2_may_12 14 rfl ?_
  refine s_iconst C 0 rfl dX2_may_14 15 rfl ?_
  refine s_istore C (Nat.le_of_ble_eq_true rfl) [0, 1, 2, 3, 4] rfl rfl dX2_may_15 17 rfl ?_
  refine Sm_sub [3, 4, 5, 2, 1, 0] rfl ?_
  exact wX2_may_b17 C hret h0 hin N N _ _ _ _ _ _ _ _ _
theorem wX2_may {l : Launch} {g : GG} {E : Me_} (C : Cx_ l g E "MasterTree$Master" cX2_may 7 18) (hret : (eT_ E).sig.returnType = (Option.some Jvm.ClassFile.FieldType.boolean)) (h0 : ∀ x ∈ (eC_ E).exceptionTable.toList, False) (hin : (eT_ E).name = "may") (N : Nat) : ∀ (m : Mm) (v0 : Option Nat) (v1 : Int32) (v2 : Int32) (v3 : Int32) (k n : Nat), Sm_ l g E 7 en_i (fX2_may (gE_ g) N m v0 v1 v2 v3) k n 0 [(0, vr_ v0), (1, vi_ v1), (2, vi_ v2), (3, vi_ v3)] [] m := by
  intro m v0 v1 v2 v3 k n
  unfold fX2_may
  refine s_iload_n C rfl 1 rfl dX2_may_0 1 rfl ?_
  refine s_if_ne C dX2_may_1 8 rfl 4 rfl (fun c_ => ?_) (fun c_ => ?_)
  · refine s_iconst C 1 rfl dX2_may_4 5 rfl ?_
    refine s_goto C (off := 4) 9 dX2_may_5 rfl ?_
    exact wX2_may_b9 C hret h0 hin N _ _ _ _ _ _ _ _
  · refine s_iconst C 0 rfl dX2_may_8 9 rfl ?_
    exact wX2_may_b9 C hret h0 hin N _ _ _ _ _ _ _ _
theorem hdX2_may : ((⟨"MasterTree$Master", "may", "(III)Z"⟩ : MethodName)).cls ≠ "java/lang/invoke/MethodHandle" ∧ ((⟨"MasterTree$Master", "may", "(III)Z"⟩ : MethodName)).cls ≠ "java/lang/invoke/VarHandle" ∧ (parseMethodDescriptor ((⟨"MasterTree$Master", "may", "(III)Z"⟩ : MethodName)).desc).map (fun d => d.parameters.length) = some 3 := ⟨by decide +kernel, by decide +kernel, by decide +kernel⟩
theorem ctX2_may {l : Launch} {g : GG} (hst : l.stackTraces = false) (N : Nat) (m : Mm) (v0 : Option Nat) (v1 : Int32) (v2 : Int32) (v3 : Int32) : ∀ v m' k n, fX2_may (gE_ g) N m v0 v1 v2 v3 = some (v, m', k, n) → Ct_ l g (⟨"MasterTree$Master", "may", "(III)Z"⟩ : MethodName) (ws_ (⟨"MasterTree$Master", "may", "(III)Z"⟩ : MethodName) cX2_may 7 (Option.some Jvm.ClassFile.FieldType.boolean)) 18 [vr_ v0, vi_ v1, vi_ v2, vi_ v3] m (en_i v) m' k n :=
  Ct_of (by decide +kernel) rfl hst (Nat.le_of_ble_eq_true rfl) rfl (fun E C hret h0 hin => wX2_may C hret h0 hin N m v0 v1 v2 v3 0 0)
theorem wX1_mayWrite_b15 {l : Launch} {g : GG} {E : Me_} (C : Cx_ l g E "MasterTree" cX1_mayWrite 3 19) (hret : (eT_ E).sig.returnType = (Option.none : Option Jvm.ClassFile.FieldType)) (h0 : ∀ x ∈ (eC_ E).exceptionTable.toList, False) (hin : (eT_ E).name = "mayWrite") (N : Nat) : ∀ (m : Mm) (v1 : Option Nat) (v2 : Int32) (s0 : Int32) (k n : Nat), Sm_ l g E 3 (xe_ en_v) (fX1_mayWrite_b15 (gE_ g) N m v1 v2 s0) k n 15 [(1, vr_ v1), (2, vi_ v2)] [vi_ s0] m := by
  intro m v1 v2 s0 k n
  unfold fX1_mayWrite_b15
  refine x_ls C 15 15 rfl dX1_mayWrite_15 17 rfl ?_
  refine x_callS (enc := (xe_ en_v)) C 10 2 [vi_ s0, vr_ (some (gE_ g (100 + 15)))] (ctX1_must C.2.2.2.2.2.2.2.2.1 N m s0 (some (gE_ g (100 + 15)))) q510 q511 q81 q512 hdX1_must (Nat.le_of_ble_eq_true rfl) (Nat.le_of_ble_eq_true rfl) rfl (Nat.le_of_ble_eq_true rfl) dX1_mayWrite_17 20 rfl rfl (hen_x hen_v) (kk_x (kk_v (fun m1 k1 n1 => ?_))) (kx_x C h0 he_v)
  refine s_aload_n C rfl 0 rfl dX1_mayWrite_20 21 rfl ?_
  refine s_aload_n C rfl 0 rfl dX1_mayWrite_21 22 rfl ?_
  refine x_giN C 1 (RX2, TX2, 12) rfl 3 (Nat.le_of_ble_eq_true rfl) q302 rfl rfl 2 rfl dX1_mayWrite_22 25 rfl (fun x1 => ?_)
  refine s_iload_n C rfl 1 rfl dX1_mayWrite_25 26 rfl ?_
  refine s_iconst C 1 rfl dX1_mayWrite_26 27 rfl ?_
  refine x_ck (fun hb_ hb0_ => ?_)
  refine x_callV (enc := en_i) C 18 3 [vi_ x1, vi_ v2, vi_ 1] 2 (ctX2_may C.2.2.2.2.2.2.2.2.1 N m1 v1 x1 v2 1) hb_ hb0_ rfl rfl q986 q987 q988 q85 q989 hdX2_may (Nat.le_of_ble_eq_true rfl) (Nat.le_of_ble_eq_true rfl) rfl (Nat.le_of_ble_eq_true rfl) dX1_mayWrite_27 30 rfl rfl hen_i (kk_i (fun x2 m2 k1 n1 => ?_)) (kx_n he_i)
  refine x_ls C 16 16 rfl dX1_mayWrite_30 32 rfl ?_
  refine x_callS (enc := (xe_ en_v)) C 10 2 [vi_ x2, vr_ (some (gE_ g (100 + 16)))] (ctX1_must C.2.2.2.2.2.2.2.2.1 N m2 x2 (some (gE_ g (100 + 16)))) q510 q511 q81 q512 hdX1_must (Nat.le_of_ble_eq_true rfl) (Nat.le_of_ble_eq_true rfl) rfl (Nat.le_of_ble_eq_true rfl) dX1_mayWrite_32 35 rfl rfl (hen_x hen_v) (kk_x (kk_v (fun m3 k1 n1 => ?_))) (kx_x C h0 he_v)
  exact x_vret C hret rfl dX1_mayWrite_35
theorem wX1_mayWrite {l : Launch} {g : GG} {E : Me_} (C : Cx_ l g E "MasterTree" cX1_mayWrite 3 19) (hret : (eT_ E).sig.returnType = (Option.none : Option Jvm.ClassFile.FieldType)) (h0 : ∀ x ∈ (eC_ E).exceptionTable.toList, False) (hin : (eT_ E).name = "mayWrite") (N : Nat) : ∀ (m : Mm) (v0 : Option Nat) (v1 : Option Nat) (v2 : Int32) (k n : Nat), Sm_ l g E 3 (xe_ en_v) (fX1_mayWrite (gE_ g) N m v0 v1 v2) k n 0 [(0, vr_ v0), (1, vr_ v1), (2, vi_ v2)] [] m := by
  intro m v0 v1 v2 k n
  unfold fX1_mayWrite
  refine s_aload_n C rfl 0 rfl dX1_mayWrite_0 1 rfl ?_
  refine x_gi C 0 (RX1, TX1, 9) rfl 7 (Nat.le_of_ble_eq_true rfl) q453 (Or.inl rfl) rfl 1 rfl dX1_mayWrite_1 4 rfl (fun x1 => ?_)
  refine s_sipush C 250 rfl dX1_mayWrite_4 7 rfl ?_
  refine s_icmp_ge C dX1_mayWrite_7 14 rfl 10 rfl (fun c_ => ?_) (fun c_ => ?_)
  · refine s_iconst C 1 rfl dX1_mayWrite_10 11 rfl ?_
    refine s_goto C (off := 4) 15 dX1_mayWrite_11 rfl ?_
    refine Sm_sub [1, 2] rfl ?_
    exact wX1_mayWrite_b15 C hret h0 hin N _ _ _ _ _ _
  · refine s_iconst C 0 rfl dX1_mayWrite_14 15 rfl ?_
    refine Sm_sub [1, 2] rfl ?_
    exact wX1_mayWrite_b15 C hret h0 hin N _ _ _ _ _ _
theorem hdX1_mayWrite : ((⟨"MasterTree", "mayWrite", "(LMasterTree$Master;I)V"⟩ : MethodName)).cls ≠ "java/lang/invoke/MethodHandle" ∧ ((⟨"MasterTree", "mayWrite", "(LMasterTree$Master;I)V"⟩ : MethodName)).cls ≠ "java/lang/invoke/VarHandle" ∧ (parseMethodDescriptor ((⟨"MasterTree", "mayWrite", "(LMasterTree$Master;I)V"⟩ : MethodName)).desc).map (fun d => d.parameters.length) = some 2 := ⟨by decide +kernel, by decide +kernel, by decide +kernel⟩
theorem ctX1_mayWrite {l : Launch} {g : GG} (hst : l.stackTraces = false) (N : Nat) (m : Mm) (v0 : Option Nat) (v1 : Option Nat) (v2 : Int32) : ∀ v m' k n, fX1_mayWrite (gE_ g) N m v0 v1 v2 = some (v, m', k, n) → Ct_ l g (⟨"MasterTree", "mayWrite", "(LMasterTree$Master;I)V"⟩ : MethodName) (ws_ (⟨"MasterTree", "mayWrite", "(LMasterTree$Master;I)V"⟩ : MethodName) cX1_mayWrite 3 (Option.none : Option Jvm.ClassFile.FieldType)) 19 [vr_ v0, vr_ v1, vi_ v2] m ((xe_ en_v) v) m' k n :=
  Ct_of (by decide +kernel) rfl hst (Nat.le_of_ble_eq_true rfl) rfl (fun E C hret h0 hin => wX1_mayWrite C hret h0 hin N m v0 v1 v2 0 0)
theorem wX2_isAt_b26 {l : Launch} {g : GG} {E : Me_} (C : Cx_ l g E "MasterTree$Master" cX2_isAt 3 13) (hret : (eT_ E).sig.returnType = (Option.some Jvm.ClassFile.FieldType.boolean)) (h0 : ∀ x ∈ (eC_ E).exceptionTable.toList, False) (hin : (eT_ E).name = "isAt") (N : Nat) : ∀ (m : Mm) (s0 : Int32) (k n : Nat), Sm_ l g E 3 en_i (fX2_isAt_b26 (gE_ g) N m s0) k n 26 [] [vi_ s0] m := by
  intro m s0 k n
  unfold fX2_isAt_b26
  exact x_zret C hret rfl dX2_isAt_26
theorem wX2_isAt_b25 {l : Launch} {g : GG} {E : Me_} (C : Cx_ l g E "MasterTree$Master" cX2_isAt 3 13) (hret : (eT_ E).sig.returnType = (Option.some Jvm.ClassFile.FieldType.boolean)) (h0 : ∀ x ∈ (eC_ E).exceptionTable.toList, False) (hin : (eT_ E).name = "isAt") (N : Nat) : ∀ (m : Mm) (k n : Nat), Sm_ l g E 3 en_i (fX2_isAt_b25 (gE_ g) N m) k n 25 [] [] m := by
  intro m k n
  unfold fX2_isAt_b25
  refine s_iconst C 0 rfl dX2_isAt_25 26 rfl ?_
  exact wX2_isAt_b26 C hret h0 hin N _ _ _ _
theorem wX2_isAt {l : Launch} {g : GG} {E : Me_} (C : Cx_ l g E "MasterTree$Master" cX2_isAt 3 13) (hret : (eT_ E).sig.returnType = (Option.some Jvm.ClassFile.FieldType.boolean)) (h0 : ∀ x ∈ (eC_ E).exceptionTable.toList, False) (hin : (eT_ E).name = "isAt") (N : Nat) : ∀ (m : Mm) (v0 : Option Nat) (v1 : Int32) (v2 : Int32) (k n : Nat), Sm_ l g E 3 en_i (fX2_isAt (gE_ g) N m v0 v1 v2) k n 0 [(0, vr_ v0), (1, vi_ v1), (2, vi_ v2)] [] m := by
  intro m v0 v1 v2 k n
  unfold fX2_isAt
  refine s_iload_n C rfl 1 rfl dX2_isAt_0 1 rfl ?_
  refine s_if_eq C dX2_isAt_1 25 rfl 4 rfl (fun c_ => ?_) (fun c_ => ?_)
  · refine Sm_sub [] rfl ?_
    exact wX2_isAt_b25 C hret h0 hin N _ _ _
  · refine s_aload_n C rfl 0 rfl dX2_isAt_4 5 rfl ?_
    refine s_iload_n C rfl 1 rfl dX2_isAt_5 6 rfl ?_
    refine x_ck (fun hb_ hb0_ => ?_)
    refine x_callV (enc := en_i) C 11 1 [vi_ v1] 2 (ctX2_isLive C.2.2.2.2.2.2.2.2.1 N m v0 v1) hb_ hb0_ rfl rfl q1594 q972 q973 q85 q974 hdX2_isLive (Nat.le_of_ble_eq_true rfl) (Nat.le_of_ble_eq_true rfl) rfl (Nat.le_of_ble_eq_true rfl) dX2_isAt_6 9 rfl rfl hen_i (kk_i (fun x1 m1 k1 n1 => ?_)) (kx_n he_i)
    refine s_if_eq C dX2_isAt_9 25 rfl 12 rfl (fun c_ => ?_) (fun c_ => ?_)
    · refine Sm_sub [] rfl ?_
      exact wX2_isAt_b25 C hret h0 hin N _ _ _
    · refine s_aload_n C rfl 0 rfl dX2_isAt_12 13 rfl ?_
      refine s_iload_n C rfl 1 rfl dX2_isAt_13 14 rfl ?_
      refine x_ck (fun hb_ hb0_ => ?_)
      refine x_callV (enc := en_i) C 12 1 [vi_ v1] 2 (ctX2_shownAt C.2.2.2.2.2.2.2.2.1 N m1 v0 v1) hb_ hb0_ rfl rfl q1654 q1655 q1656 q85 q1657 hdX2_shownAt (Nat.le_of_ble_eq_true rfl) (Nat.le_of_ble_eq_true rfl) rfl (Nat.le_of_ble_eq_true rfl) dX2_isAt_14 17 rfl rfl hen_i (kk_i (fun x2 m2 k1 n1 => ?_)) (kx_n he_i)
      refine s_iload_n C rfl 2 rfl dX2_isAt_17 18 rfl ?_
      refine s_icmp_ne C dX2_isAt_18 25 rfl 21 rfl (fun c_ => ?_) (fun c_ => ?_)
      · refine s_iconst C 1 rfl dX2_isAt_21 22 rfl ?_
        refine s_goto C (off := 4) 26 dX2_isAt_22 rfl ?_
        refine Sm_sub [] rfl ?_
        exact wX2_isAt_b26 C hret h0 hin N _ _ _ _
      · refine Sm_sub [] rfl ?_
        exact wX2_isAt_b25 C hret h0 hin N _ _ _
theorem hdX2_isAt : ((⟨"MasterTree$Master", "isAt", "(II)Z"⟩ : MethodName)).cls ≠ "java/lang/invoke/MethodHandle" ∧ ((⟨"MasterTree$Master", "isAt", "(II)Z"⟩ : MethodName)).cls ≠ "java/lang/invoke/VarHandle" ∧ (parseMethodDescriptor ((⟨"MasterTree$Master", "isAt", "(II)Z"⟩ : MethodName)).desc).map (fun d => d.parameters.length) = some 2 := ⟨by decide +kernel, by decide +kernel, by decide +kernel⟩
theorem ctX2_isAt {l : Launch} {g : GG} (hst : l.stackTraces = false) (N : Nat) (m : Mm) (v0 : Option Nat) (v1 : Int32) (v2 : Int32) : ∀ v m' k n, fX2_isAt (gE_ g) N m v0 v1 v2 = some (v, m', k, n) → Ct_ l g (⟨"MasterTree$Master", "isAt", "(II)Z"⟩ : MethodName) (ws_ (⟨"MasterTree$Master", "isAt", "(II)Z"⟩ : MethodName) cX2_isAt 3 (Option.some Jvm.ClassFile.FieldType.boolean)) 13 [vr_ v0, vi_ v1, vi_ v2] m (en_i v) m' k n :=
  Ct_of (by decide +kernel) rfl hst (Nat.le_of_ble_eq_true rfl) rfl (fun E C hret h0 hin => wX2_isAt C hret h0 hin N m v0 v1 v2 0 0)
theorem wX3_isAhead_b19 {l : Launch} {g : GG} {E : Me_} (C : Cx_ l g E "MasterTree$Entry" cX3_isAhead 2 12) (hret : (eT_ E).sig.returnType = (Option.some Jvm.ClassFile.FieldType.boolean)) (h0 : ∀ x ∈ (eC_ E).exceptionTable.toList, False) (hin : (eT_ E).name = "isAhead") (N : Nat) : ∀ (m : Mm) (s0 : Int32) (k n : Nat), Sm_ l g E 2 en_i (fX3_isAhead_b19 (gE_ g) N m s0) k n 19 [] [vi_ s0] m := by
  intro m s0 k n
  unfold fX3_isAhead_b19
  exact x_zret C hret rfl dX3_isAhead_19
theorem wX3_isAhead {l : Launch} {g : GG} {E : Me_} (C : Cx_ l g E "MasterTree$Entry" cX3_isAhead 2 12) (hret : (eT_ E).sig.returnType = (Option.some Jvm.ClassFile.FieldType.boolean)) (h0 : ∀ x ∈ (eC_ E).exceptionTable.toList, False) (hin : (eT_ E).name = "isAhead") (N : Nat) : ∀ (m : Mm) (v0 : Option Nat) (v1 : Option Nat) (k n : Nat), Sm_ l g E 2 en_i (fX3_isAhead (gE_ g) N m v0 v1) k n 0 [(0, vr_ v0), (1, vr_ v1)] [] m := by
  intro m v0 v1 k n
  unfold fX3_isAhead
  refine s_aload_n C rfl 0 rfl dX3_isAhead_0 1 rfl ?_
  refine x_gr C 2 (RX3, TX3, 9) rfl 3 (Nat.le_of_ble_eq_true rfl) q251 (Or.inl rfl) rfl 3 rfl dX3_isAhead_1 4 rfl (fun x1 => ?_)
  refine s_aload_n C rfl 1 rfl dX3_isAhead_4 5 rfl ?_
  refine x_gr C 2 (RX3, TX3, 9) rfl 3 (Nat.le_of_ble_eq_true rfl) q251 (Or.inl rfl) rfl 3 rfl dX3_isAhead_5 8 rfl (fun x2 => ?_)
  refine x_ck (fun hb_ hb0_ => ?_)
  refine x_callV (enc := en_i) C 11 1 [vr_ x2] 7 (ctX7_compareTo_2 C.2.2.2.2.2.2.2.2.1 N m x1 x2) hb_ hb0_ rfl rfl q1679 q1055 q1056 q127 q1057 hdX7_compareTo_2 (Nat.le_of_ble_eq_true rfl) (Nat.le_of_ble_eq_true rfl) rfl (Nat.le_of_ble_eq_true rfl) dX3_isAhead_8 11 rfl rfl hen_i (kk_i (fun x3 m1 k1 n1 => ?_)) (kx_n he_i)
  refine s_if_ge C dX3_isAhead_11 18 rfl 14 rfl (fun c_ => ?_) (fun c_ => ?_)
  · refine s_iconst C 1 rfl dX3_isAhead_14 15 rfl ?_
    refine s_goto C (off := 4) 19 dX3_isAhead_15 rfl ?_
    refine Sm_sub [] rfl ?_
    exact wX3_isAhead_b19 C hret h0 hin N _ _ _ _
  · refine s_iconst C 0 rfl dX3_isAhead_18 19 rfl ?_
    refine Sm_sub [] rfl ?_
    exact wX3_isAhead_b19 C hret h0 hin N _ _ _ _
theorem hdX3_isAhead : ((⟨"MasterTree$Entry", "isAhead", "(LMasterTree$Entry;)Z"⟩ : MethodName)).cls ≠ "java/lang/invoke/MethodHandle" ∧ ((⟨"MasterTree$Entry", "isAhead", "(LMasterTree$Entry;)Z"⟩ : MethodName)).cls ≠ "java/lang/invoke/VarHandle" ∧ (parseMethodDescriptor ((⟨"MasterTree$Entry", "isAhead", "(LMasterTree$Entry;)Z"⟩ : MethodName)).desc).map (fun d => d.parameters.length) = some 1 := ⟨by decide +kernel, by decide +kernel, by decide +kernel⟩
theorem ctX3_isAhead {l : Launch} {g : GG} (hst : l.stackTraces = false) (N : Nat) (m : Mm) (v0 : Option Nat) (v1 : Option Nat) : ∀ v m' k n, fX3_isAhead (gE_ g) N m v0 v1 = some (v, m', k, n) → Ct_ l g (⟨"MasterTree$Entry", "isAhead", "(LMasterTree$Entry;)Z"⟩ : MethodName) (ws_ (⟨"MasterTree$Entry", "isAhead", "(LMasterTree$Entry;)Z"⟩ : MethodName) cX3_isAhead 2 (Option.some Jvm.ClassFile.FieldType.boolean)) 12 [vr_ v0, vr_ v1] m (en_i v) m' k n :=
  Ct_of (by decide +kernel) rfl hst (Nat.le_of_ble_eq_true rfl) rfl (fun E C hret h0 hin => wX3_isAhead C hret h0 hin N m v0 v1 0 0)
theorem wX2_clashes_b92 {l : Launch} {g : GG} {E : Me_} (C : Cx_ l g E "MasterTree$Master" cX2_clashes 5 14) (hret : (eT_ E).sig.returnType = (Option.some Jvm.ClassFile.FieldType.boolean)) (h0 : ∀ x ∈ (eC_ E).exceptionTable.toList, False) (hin : (eT_ E).name = "clashes") (N : Nat) {k4 : Mm → Option Nat → Int32 → Int32 → Int32 → Rs (Int32)} (hk4 : ∀ (m : Mm) (v0 : Option Nat) (v1 : Int32) (v2 : Int32) (v3 : Int32) (k n : Nat), Sm_ l g E 5 en_i (k4 m v0 v1 v2 v3) k n 4 [(0, vr_ v0), (1, vi_ v1), (2, vi_ v2), (3, vi_ v3)] [] m) : ∀ (m : Mm) (v0 : Option Nat) (v1 : Int32) (v3 : Int32) (s0 : Int32) (k n : Nat), Sm_ l g E 5 en_i (fX2_clashes_b92 (gE_ g) N k4 m v0 v1 v3 s0) k n 92 [(0, vr_ v0), (1, vi_ v1), (3, vi_ v3)] [vi_ s0] m := by
  intro m v0 v1 v3 s0 k n
  unfold fX2_clashes_b92
  refine s_istore_n C rfl (Nat.le_of_ble_eq_true rfl) [0, 1, 2] rfl rfl dX2_clashes_92 93 rfl ?_
  refine s_iinc C 1 rfl 3 rfl (Nat.le_of_ble_eq_true rfl) [0, 1, 2] rfl rfl dX2_clashes_93 96 rfl ?_
  refine s_goto C (off := -92) 4 dX2_clashes_96 rfl ?_
  refine Sm_sub [2, 3, 1, 0] rfl ?_
  exact hk4 _ _ _ _ _ _ _
theorem wX2_clashes_b87 {l : Launch} {g : GG} {E : Me_} (C : Cx_ l g E "MasterTree$Master" cX2_clashes 5 14) (hret : (eT_ E).sig.returnType = (Option.some Jvm.ClassFile.FieldType.boolean)) (h0 : ∀ x ∈ (eC_ E).exceptionTable.toList, False) (hin : (eT_ E).name = "clashes") (N : Nat) {k4 : Mm → Option Nat → Int32 → Int32 → Int32 → Rs (Int32)} (hk4 : ∀ (m : Mm) (v0 : Option Nat) (v1 : Int32) (v2 : Int32) (v3 : Int32) (k n : Nat), Sm_ l g E 5 en_i (k4 m v0 v1 v2 v3) k n 4 [(0, vr_ v0), (1, vi_ v1), (2, vi_ v2), (3, vi_ v3)] [] m) : ∀ (m : Mm) (v0 : Option Nat) (v1 : Int32) (v3 : Int32) (k n : Nat), Sm_ l g E 5 en_i (fX2_clashes_b87 (gE_ g) N k4 m v0 v1 v3) k n 87 [(0, vr_ v0), (1, vi_ v1), (3, vi_ v3)] [] m := by
  intro m v0 v1 v3 k n
  unfold fX2_clashes_b87
  refine s_iconst C 1 rfl dX2_clashes_87 88 rfl ?_
  refine s_goto C (off := 4) 92 dX2_clashes_88 rfl ?_
  exact wX2_clashes_b92 C hret h0 hin N hk4 _ _ _ _ _ _ _
theorem wX2_clashes_b91 {l : Launch} {g : GG} {E : Me_} (C : Cx_ l g E "MasterTree$Master" cX2_clashes 5 14) (hret : (eT_ E).sig.returnType = (Option.some Jvm.ClassFile.FieldType.boolean)) (h0 : ∀ x ∈ (eC_ E).exceptionTable.toList, False) (hin : (eT_ E).name = "clashes") (N : Nat) {k4 : Mm → Option Nat → Int32 → Int32 → Int32 → Rs (Int32)} (hk4 : ∀ (m : Mm) (v0 : Option Nat) (v1 : Int32) (v2 : Int32) (v3 : Int32) (k n : Nat), Sm_ l g E 5 en_i (k4 m v0 v1 v2 v3) k n 4 [(0, vr_ v0), (1, vi_ v1), (2, vi_ v2), (3, vi_ v3)] [] m) : ∀ (m : Mm) (v0 : Option Nat) (v1 : Int32) (v3 : Int32) (k n : Nat), Sm_ l g E 5 en_i (fX2_clashes_b91 (gE_ g) N k4 m v0 v1 v3) k n 91 [(0, vr_ v0), (1, vi_ v1), (3, vi_ v3)] [] m := by
  intro m v0 v1 v3 k n
  unfold fX2_clashes_b91
  refine s_iconst C 0 rfl dX2_clashes_91 92 rfl ?_
  exact wX2_clashes_b92 C hret h0 hin N hk4 _ _ _ _ _ _ _
theorem wX2_clashes_b37 {l : Launch} {g : GG} {E : Me_} (C : Cx_ l g E "MasterTree$Master" cX2_clashes 5 14) (hret : (eT_ E).sig.returnType = (Option.some Jvm.ClassFile.FieldType.boolean)) (h0 : ∀ x ∈ (eC_ E).exceptionTable.toList, False) (hin : (eT_ E).name = "clashes") (N : Nat) {k4 : Mm → Option Nat → Int32 → Int32 → Int32 → Rs (Int32)} (hk4 : ∀ (m : Mm) (v0 : Option Nat) (v1 : Int32) (v2 : Int32) (v3 : Int32) (k n : Nat), Sm_ l g E 5 en_i (k4 m v0 v1 v2 v3) k n 4 [(0, vr_ v0), (1, vi_ v1), (2, vi_ v2), (3, vi_ v3)] [] m) : ∀ (m : Mm) (v0 : Option Nat) (v1 : Int32) (v2 : Int32) (v3 : Int32) (s0 : Int32) (k n : Nat), Sm_ l g E 5 en_i (fX2_clashes_b37 (gE_ g) N k4 m v0 v1 v2 v3 s0) k n 37 [(0, vr_ v0), (1, vi_ v1), (2, vi_ v2), (3, vi_ v3)] [vi_ s0] m := by
  intro m v0 v1 v2 v3 s0 k n
  unfold fX2_clashes_b37
  refine s_istore C (Nat.le_of_ble_eq_true rfl) [0, 1, 2, 3] rfl rfl dX2_clashes_37 39 rfl ?_
  refine s_iload_n C rfl 3 rfl dX2_clashes_39 40 rfl ?_
  refine s_if_ne C dX2_clashes_40 87 rfl 43 rfl (fun c_ => ?_) (fun c_ => ?_)
  · refine s_iload C 0 rfl dX2_clashes_43 45 rfl ?_
    refine s_if_eq C dX2_clashes_45 91 rfl 48 rfl (fun c_ => ?_) (fun c_ => ?_)
    · refine Sm_sub [1, 2, 4] rfl ?_
      exact wX2_clashes_b91 C hret h0 hin N hk4 _ _ _ _ _ _
    · refine s_aload_n C rfl 1 rfl dX2_clashes_48 49 rfl ?_
      refine x_gr C 1 (RX2, TX2, 12) rfl 6 (Nat.le_of_ble_eq_true rfl) q307 (Or.inl rfl) rfl 2 rfl dX2_clashes_49 52 rfl (fun x1 => ?_)
      refine s_iload_n C rfl 4 rfl dX2_clashes_52 53 rfl ?_
      refine x_ar C 5 (.object "MasterTree$Entry") rfl rfl rfl 205 rfl dX2_clashes_53 54 rfl (fun x2 => ?_)
      refine x_giN C 2 (RX3, TX3, 9) rfl 5 (Nat.le_of_ble_eq_true rfl) q261 rfl rfl 3 rfl dX2_clashes_54 57 rfl (fun x3 => ?_)
      refine s_aload_n C rfl 1 rfl dX2_clashes_57 58 rfl ?_
      refine x_gr C 1 (RX2, TX2, 12) rfl 6 (Nat.le_of_ble_eq_true rfl) q307 (Or.inl rfl) rfl 2 rfl dX2_clashes_58 61 rfl (fun x4 => ?_)
      refine s_iload_n C rfl 2 rfl dX2_clashes_61 62 rfl ?_
      refine x_ar C 5 (.object "MasterTree$Entry") rfl rfl rfl 205 rfl dX2_clashes_62 63 rfl (fun x5 => ?_)
      refine x_giN C 2 (RX3, TX3, 9) rfl 5 (Nat.le_of_ble_eq_true rfl) q261 rfl rfl 3 rfl dX2_clashes_63 66 rfl (fun x6 => ?_)
      refine s_icmp_ne C dX2_clashes_66 91 rfl 69 rfl (fun c_ => ?_) (fun c_ => ?_)
      · refine s_aload_n C rfl 1 rfl dX2_clashes_69 70 rfl ?_
        refine x_gr C 1 (RX2, TX2, 12) rfl 6 (Nat.le_of_ble_eq_true rfl) q307 (Or.inl rfl) rfl 2 rfl dX2_clashes_70 73 rfl (fun x7 => ?_)
        refine s_iload_n C rfl 4 rfl dX2_clashes_73 74 rfl ?_
        refine x_ar C 5 (.object "MasterTree$Entry") rfl rfl rfl 205 rfl dX2_clashes_74 75 rfl (fun x8 => ?_)
        refine s_aload_n C rfl 1 rfl dX2_clashes_75 76 rfl ?_
        refine x_gr C 1 (RX2, TX2, 12) rfl 6 (Nat.le_of_ble_eq_true rfl) q307 (Or.inl rfl) rfl 2 rfl dX2_clashes_76 79 rfl (fun x9 => ?_)
        refine s_iload_n C rfl 2 rfl dX2_clashes_79 80 rfl ?_
        refine x_ar C 5 (.object "MasterTree$Entry") rfl rfl rfl 205 rfl dX2_clashes_80 81 rfl (fun x10 => ?_)
        refine x_ck (fun hb_ hb0_ => ?_)
        refine x_callV (enc := en_i) C 12 1 [vr_ x10] 3 (ctX3_isAhead C.2.2.2.2.2.2.2.2.1 N m x8 x10) hb_ hb0_ rfl rfl q1675 q1676 q1677 q88 q1678 hdX3_isAhead (Nat.le_of_ble_eq_true rfl) (Nat.le_of_ble_eq_true rfl) rfl (Nat.le_of_ble_eq_true rfl) dX2_clashes_81 84 rfl rfl hen_i (kk_i (fun x11 m1 k1 n1 => ?_)) (kx_n he_i)
        refine s_if_eq C dX2_clashes_84 91 rfl 87 rfl (fun c_ => ?_) (fun c_ => ?_)
        · refine Sm_sub [1, 2, 4] rfl ?_
          exact wX2_clashes_b91 C hret h0 hin N hk4 _ _ _ _ _ _
        · refine Sm_sub [1, 2, 4] rfl ?_
          exact wX2_clashes_b87 C hret h0 hin N hk4 _ _ _ _ _ _
      · refine Sm_sub [1, 2, 4] rfl ?_
        exact wX2_clashes_b91 C hret h0 hin N hk4 _ _ _ _ _ _
  · refine Sm_sub [1, 2, 4] rfl ?_
    exact wX2_clashes_b87 C hret h0 hin N hk4 _ _ _ _ _ _
theorem wX2_clashes_b36 {l : Launch} {g : GG} {E : Me_} (C : Cx_ l g E "MasterTree$Master" cX2_clashes 5 14) (hret : (eT_ E).sig.returnType = (Option.some Jvm.ClassFile.FieldType.boolean)) (h0 : ∀ x ∈ (eC_ E).exceptionTable.toList, False) (hin : (eT_ E).name = "clashes") (N : Nat) {k4 : Mm → Option Nat → Int32 → Int32 → Int32 → Rs (Int32)} (hk4 : ∀ (m : Mm) (v0 : Option Nat) (v1 : Int32) (v2 : Int32) (v3 : Int32) (k n : Nat), Sm_ l g E 5 en_i (k4 m v0 v1 v2 v3) k n 4 [(0, vr_ v0), (1, vi_ v1), (2, vi_ v2), (3, vi_ v3)] [] m) : ∀ (m : Mm) (v0 : Option Nat) (v1 : Int32) (v2 : Int32) (v3 : Int32) (k n : Nat), Sm_ l g E 5 en_i (fX2_clashes_b36 (gE_ g) N k4 m v0 v1 v2 v3) k n 36 [(0, vr_ v0), (1, vi_ v1), (2, vi_ v2), (3, vi_ v3)] [] m := by
  intro m v0 v1 v2 v3 k n
  unfold fX2_clashes_b36
  refine s_iconst C 0 rfl dX2_clashes_36 37 rfl ?_
  exact wX2_clashes_b37 C hret h0 hin N hk4 _ _ _ _ _ _ _ _
theorem wX2_clashes_b99 {l : Launch} {g : GG} {E : Me_} (C : Cx_ l g E "MasterTree$Master" cX2_clashes 5 14) (hret : (eT_ E).sig.returnType = (Option.some Jvm.ClassFile.FieldType.boolean)) (h0 : ∀ x ∈ (eC_ E).exceptionTable.toList, False) (hin : (eT_ E).name = "clashes") (N : Nat) : ∀ (m : Mm) (v2 : Int32) (k n : Nat), Sm_ l g E 5 en_i (fX2_clashes_b99 (gE_ g) N m v2) k n 99 [(2, vi_ v2)] [] m := by
  intro m v2 k n
  unfold fX2_clashes_b99
  refine s_iload_n C rfl 0 rfl dX2_clashes_99 100 rfl ?_
  exact x_zret C hret rfl dX2_clashes_100
theorem wX2_clashes_b4 {l : Launch} {g : GG} {E : Me_} (C : Cx_ l g E "MasterTree$Master" cX2_clashes 5 14) (hret : (eT_ E).sig.returnType = (Option.some Jvm.ClassFile.FieldType.boolean)) (h0 : ∀ x ∈ (eC_ E).exceptionTable.toList, False) (hin : (eT_ E).name = "clashes") (N : Nat) : ∀ (F : Nat) (m : Mm) (v0 : Option Nat) (v1 : Int32) (v2 : Int32) (v3 : Int32) (k n : Nat), Sm_ l g E 5 en_i (fX2_clashes_b4 (gE_ g) N F m v0 v1 v2 v3) k n 4 [(0, vr_ v0), (1, vi_ v1), (2, vi_ v2), (3, vi_ v3)] [] m := by
  intro F
  induction F with
  | zero => intros; exact Sm_none
  | succ F ih =>
    intro m v0 v1 v2 v3 k n
    unfold fX2_clashes_b4
    refine s_iload_n C rfl 3 rfl dX2_clashes_4 5 rfl ?_
    refine s_bipush C 48 rfl dX2_clashes_5 7 rfl ?_
    refine s_icmp_ge C dX2_clashes_7 99 rfl 10 rfl (fun c_ => ?_) (fun c_ => ?_)
    · refine s_iload_n C rfl 1 rfl dX2_clashes_10 11 rfl ?_
      refine s_if_eq C dX2_clashes_11 99 rfl 14 rfl (fun c_ => ?_) (fun c_ => ?_)
      · refine Sm_sub [2] rfl ?_
        exact wX2_clashes_b99 C hret h0 hin N _ _ _ _
      · refine s_iload_n C rfl 3 rfl dX2_clashes_14 15 rfl ?_
        refine s_iload_n C rfl 1 rfl dX2_clashes_15 16 rfl ?_
        refine s_icmp_eq C dX2_clashes_16 36 rfl 19 rfl (fun c_ => ?_) (fun c_ => ?_)
        · exact wX2_clashes_b36 C hret h0 hin N (fun m v0 v1 v2 v3 k n => ih m v0 v1 v2 v3 k n) _ _ _ _ _ _ _
        · refine s_aload_n C rfl 0 rfl dX2_clashes_19 20 rfl ?_
          refine s_iload_n C rfl 3 rfl dX2_clashes_20 21 rfl ?_
          refine s_aload_n C rfl 0 rfl dX2_clashes_21 22 rfl ?_
          refine s_iload_n C rfl 1 rfl dX2_clashes_22 23 rfl ?_
          refine x_ck (fun hb_ hb0_ => ?_)
          refine x_callV (enc := en_i) C 12 1 [vi_ v1] 2 (ctX2_shownAt C.2.2.2.2.2.2.2.2.1 N m v0 v1) hb_ hb0_ rfl rfl q1654 q1655 q1656 q85 q1657 hdX2_shownAt (Nat.le_of_ble_eq_true rfl) (Nat.le_of_ble_eq_true rfl) rfl (Nat.le_of_ble_eq_true rfl) dX2_clashes_23 26 rfl rfl hen_i (kk_i (fun x1 m1 k1 n1 => ?_)) (kx_n he_i)
          refine x_ck (fun hb_ hb0_ => ?_)
          refine x_callV (enc := en_i) C 13 2 [vi_ v3, vi_ x1] 2 (ctX2_isAt C.2.2.2.2.2.2.2.2.1 N m1 v0 v3 x1) hb_ hb0_ rfl rfl q1663 q1664 q1665 q85 q1666 hdX2_isAt (Nat.le_of_ble_eq_true rfl) (Nat.le_of_ble_eq_true rfl) rfl (Nat.le_of_ble_eq_true rfl) dX2_clashes_26 29 rfl rfl hen_i (kk_i (fun x2 m2 k1 n1 => ?_)) (kx_n he_i)
          refine s_if_eq C dX2_clashes_29 36 rfl 32 rfl (fun c_ => ?_) (fun c_ => ?_)
          · exact wX2_clashes_b36 C hret h0 hin N (fun m v0 v1 v2 v3 k n => ih m v0 v1 v2 v3 k n) _ _ _ _ _ _ _
          · refine s_iconst C 1 rfl dX2_clashes_32 33 rfl ?_
            refine s_goto C (off := 4) 37 dX2_clashes_33 rfl ?_
            exact wX2_clashes_b37 C hret h0 hin N (fun m v0 v1 v2 v3 k n => ih m v0 v1 v2 v3 k n) _ _ _ _ _ _ _ _
    · refine Sm_sub [2] rfl ?_
      exact wX2_clashes_b99 C hret h0 hin N _ _ _ _
theorem wX2_clashes {l : Launch} {g : GG} {E : Me_} (C : Cx_ l g E "MasterTree$Master" cX2_clashes 5 14) (hret : (eT_ E).sig.returnType = (Option.some Jvm.ClassFile.FieldType.boolean)) (h0 : ∀ x ∈ (eC_ E).exceptionTable.toList, False) (hin : (eT_ E).name = "clashes") (N : Nat) : ∀ (m : Mm) (v0 : Option Nat) (v1 : Int32) (k n : Nat), Sm_ l g E 5 en_i (fX2_clashes (gE_ g) N m v0 v1) k n 0 [(0, vr_ v0), (1, vi_ v1)] [] m := by
  intro m v0 v1 k n
  unfold fX2_clashes
  refine s_iconst C 0 rfl dX2_clashes_0 1 rfl ?_
  refine s_istore_n C rfl (Nat.le_of_ble_eq_true rfl) [0, 1] rfl rfl dX2_clashes_1 2 rfl ?_
  refine s_iconst C 1 rfl dX2_clashes_2 3 rfl ?_
  refine s_istore_n C rfl (Nat.le_of_ble_eq_true rfl) [0, 1, 2] rfl rfl dX2_clashes_3 4 rfl ?_
  refine Sm_sub [2, 3, 1, 0] rfl ?_
  exact wX2_clashes_b4 C hret h0 hin N N _ _ _ _ _ _ _
theorem hdX2_clashes : ((⟨"MasterTree$Master", "clashes", "(I)Z"⟩ : MethodName)).cls ≠ "java/lang/invoke/MethodHandle" ∧ ((⟨"MasterTree$Master", "clashes", "(I)Z"⟩ : MethodName)).cls ≠ "java/lang/invoke/VarHandle" ∧ (parseMethodDescriptor ((⟨"MasterTree$Master", "clashes", "(I)Z"⟩ : MethodName)).desc).map (fun d => d.parameters.length) = some 1 := ⟨by decide +kernel, by decide +kernel, by decide +kernel⟩
theorem ctX2_clashes {l : Launch} {g : GG} (hst : l.stackTraces = false) (N : Nat) (m : Mm) (v0 : Option Nat) (v1 : Int32) : ∀ v m' k n, fX2_clashes (gE_ g) N m v0 v1 = some (v, m', k, n) → Ct_ l g (⟨"MasterTree$Master", "clashes", "(I)Z"⟩ : MethodName) (ws_ (⟨"MasterTree$Master", "clashes", "(I)Z"⟩ : MethodName) cX2_clashes 5 (Option.some Jvm.ClassFile.FieldType.boolean)) 14 [vr_ v0, vi_ v1] m (en_i v) m' k n :=
  Ct_of (by decide +kernel) rfl hst (Nat.le_of_ble_eq_true rfl) rfl (fun E C hret h0 hin => wX2_clashes C hret h0 hin N m v0 v1 0 0)
theorem wX2_shownName_b24 {l : Launch} {g : GG} {E : Me_} (C : Cx_ l g E "MasterTree$Master" cX2_shownName 2 15) (hret : (eT_ E).sig.returnType = (Option.some Jvm.ClassFile.FieldType.int)) (h0 : ∀ x ∈ (eC_ E).exceptionTable.toList, False) (hin : (eT_ E).name = "shownName") (N : Nat) : ∀ (m : Mm) (s0 : Int32) (k n : Nat), Sm_ l g E 2 en_i (fX2_shownName_b24 (gE_ g) N m s0) k n 24 [] [vi_ s0] m := by
  intro m s0 k n
  unfold fX2_shownName_b24
  exact x_iret C hret rfl dX2_shownName_24
theorem wX2_shownName {l : Launch} {g : GG} {E : Me_} (C : Cx_ l g E "MasterTree$Master" cX2_shownName 2 15) (hret : (eT_ E).sig.returnType = (Option.some Jvm.ClassFile.FieldType.int)) (h0 : ∀ x ∈ (eC_ E).exceptionTable.toList, False) (hin : (eT_ E).name = "shownName") (N : Nat) : ∀ (m : Mm) (v0 : Option Nat) (v1 : Int32) (k n : Nat), Sm_ l g E 2 en_i (fX2_shownName (gE_ g) N m v0 v1) k n 0 [(0, vr_ v0), (1, vi_ v1)] [] m := by
  intro m v0 v1 k n
  unfold fX2_shownName
  refine s_aload_n C rfl 0 rfl dX2_shownName_0 1 rfl ?_
  refine s_iload_n C rfl 1 rfl dX2_shownName_1 2 rfl ?_
  refine x_ck (fun hb_ hb0_ => ?_)
  refine x_callV (enc := en_i) C 14 1 [vi_ v1] 2 (ctX2_clashes C.2.2.2.2.2.2.2.2.1 N m v0 v1) hb_ hb0_ rfl rfl q1671 q1672 q1673 q85 q1674 hdX2_clashes (Nat.le_of_ble_eq_true rfl) (Nat.le_of_ble_eq_true rfl) rfl (Nat.le_of_ble_eq_true rfl) dX2_shownName_2 5 rfl rfl hen_i (kk_i (fun x1 m1 k1 n1 => ?_)) (kx_n he_i)
  refine s_if_eq C dX2_shownName_5 15 rfl 8 rfl (fun c_ => ?_) (fun c_ => ?_)
  · refine s_aload_n C rfl 0 rfl dX2_shownName_15 16 rfl ?_
    refine x_gr C 1 (RX2, TX2, 12) rfl 6 (Nat.le_of_ble_eq_true rfl) q307 (Or.inl rfl) rfl 2 rfl dX2_shownName_16 19 rfl (fun x2 => ?_)
    refine s_iload_n C rfl 1 rfl dX2_shownName_19 20 rfl ?_
    refine x_ar C 5 (.object "MasterTree$Entry") rfl rfl rfl 205 rfl dX2_shownName_20 21 rfl (fun x3 => ?_)
    refine x_giN C 2 (RX3, TX3, 9) rfl 5 (Nat.le_of_ble_eq_true rfl) q261 rfl rfl 3 rfl dX2_shownName_21 24 rfl (fun x4 => ?_)
    refine Sm_sub [] rfl ?_
    exact wX2_shownName_b24 C hret h0 hin N _ _ _ _
  · refine s_bipush C 100 rfl dX2_shownName_8 10 rfl ?_
    refine s_iload_n C rfl 1 rfl dX2_shownName_10 11 rfl ?_
    refine s_iadd C dX2_shownName_11 12 rfl ?_
    refine s_goto C (off := 12) 24 dX2_shownName_12 rfl ?_
    refine Sm_sub [] rfl ?_
    exact wX2_shownName_b24 C hret h0 hin N _ _ _ _
theorem hdX2_shownName : ((⟨"MasterTree$Master", "shownName", "(I)I"⟩ : MethodName)).cls ≠ "java/lang/invoke/MethodHandle" ∧ ((⟨"MasterTree$Master", "shownName", "(I)I"⟩ : MethodName)).cls ≠ "java/lang/invoke/VarHandle" ∧ (parseMethodDescriptor ((⟨"MasterTree$Master", "shownName", "(I)I"⟩ : MethodName)).desc).map (fun d => d.parameters.length) = some 1 := ⟨by decide +kernel, by decide +kernel, by decide +kernel⟩
theorem ctX2_shownName {l : Launch} {g : GG} (hst : l.stackTraces = false) (N : Nat) (m : Mm) (v0 : Option Nat) (v1 : Int32) : ∀ v m' k n, fX2_shownName (gE_ g) N m v0 v1 = some (v, m', k, n) → Ct_ l g (⟨"MasterTree$Master", "shownName", "(I)I"⟩ : MethodName) (ws_ (⟨"MasterTree$Master", "shownName", "(I)I"⟩ : MethodName) cX2_shownName 2 (Option.some Jvm.ClassFile.FieldType.int)) 15 [vr_ v0, vi_ v1] m (en_i v) m' k n :=
  Ct_of (by decide +kernel) rfl hst (Nat.le_of_ble_eq_true rfl) rfl (fun E C hret h0 hin => wX2_shownName C hret h0 hin N m v0 v1 0 0)
theorem wX2_isShown_b49 {l : Launch} {g : GG} {E : Me_} (C : Cx_ l g E "MasterTree$Master" cX2_isShown 6 16) (hret : (eT_ E).sig.returnType = (Option.some Jvm.ClassFile.FieldType.boolean)) (h0 : ∀ x ∈ (eC_ E).exceptionTable.toList, False) (hin : (eT_ E).name = "isShown") (N : Nat) {k6 : Mm → Option Nat → Int32 → Int32 → Int32 → Int32 → Int32 → Rs (Int32)} (hk6 : ∀ (m : Mm) (v0 : Option Nat) (v1 : Int32) (v2 : Int32) (v3 : Int32) (v4 : Int32) (v5 : Int32) (k n : Nat), Sm_ l g E 6 en_i (k6 m v0 v1 v2 v3 v4 v5) k n 6 [(0, vr_ v0), (1, vi_ v1), (2, vi_ v2), (3, vi_ v3), (4, vi_ v4), (5, vi_ v5)] [] m) : ∀ (m : Mm) (v0 : Option Nat) (v1 : Int32) (v2 : Int32) (v3 : Int32) (v5 : Int32) (s0 : Int32) (k n : Nat), Sm_ l g E 6 en_i (fX2_isShown_b49 (gE_ g) N k6 m v0 v1 v2 v3 v5 s0) k n 49 [(0, vr_ v0), (1, vi_ v1), (2, vi_ v2), (3, vi_ v3), (5, vi_ v5)] [vi_ s0] m := by
  intro m v0 v1 v2 v3 v5 s0 k n
  unfold fX2_isShown_b49
  refine s_istore C (Nat.le_of_ble_eq_true rfl) [0, 1, 2, 3, 4] rfl rfl dX2_isShown_49 51 rfl ?_
  refine s_iinc C 1 rfl 5 rfl (Nat.le_of_ble_eq_true rfl) [0, 1, 2, 3, 4] rfl rfl dX2_isShown_51 54 rfl ?_
  refine s_goto C (off := -48) 6 dX2_isShown_54 rfl ?_
  refine Sm_sub [2, 3, 4, 5, 1, 0] rfl ?_
  exact hk6 _ _ _ _ _ _ _ _ _
theorem wX2_isShown_b44 {l : Launch} {g : GG} {E : Me_} (C : Cx_ l g E "MasterTree$Master" cX2_isShown 6 16) (hret : (eT_ E).sig.returnType = (Option.some Jvm.ClassFile.FieldType.boolean)) (h0 : ∀ x ∈ (eC_ E).exceptionTable.toList, False) (hin : (eT_ E).name = "isShown") (N : Nat) {k6 : Mm → Option Nat → Int32 → Int32 → Int32 → Int32 → Int32 → Rs (Int32)} (hk6 : ∀ (m : Mm) (v0 : Option Nat) (v1 : Int32) (v2 : Int32) (v3 : Int32) (v4 : Int32) (v5 : Int32) (k n : Nat), Sm_ l g E 6 en_i (k6 m v0 v1 v2 v3 v4 v5) k n 6 [(0, vr_ v0), (1, vi_ v1), (2, vi_ v2), (3, vi_ v3), (4, vi_ v4), (5, vi_ v5)] [] m) : ∀ (m : Mm) (v0 : Option Nat) (v1 : Int32) (v2 : Int32) (v3 : Int32) (v5 : Int32) (k n : Nat), Sm_ l g E 6 en_i (fX2_isShown_b44 (gE_ g) N k6 m v0 v1 v2 v3 v5) k n 44 [(0, vr_ v0), (1, vi_ v1), (2, vi_ v2), (3, vi_ v3), (5, vi_ v5)] [] m := by
  intro m v0 v1 v2 v3 v5 k n
  unfold fX2_isShown_b44
  refine s_iconst C 1 rfl dX2_isShown_44 45 rfl ?_
  refine s_goto C (off := 4) 49 dX2_isShown_45 rfl ?_
  exact wX2_isShown_b49 C hret h0 hin N hk6 _ _ _ _ _ _ _ _ _
theorem wX2_isShown_b48 {l : Launch} {g : GG} {E : Me_} (C : Cx_ l g E "MasterTree$Master" cX2_isShown 6 16) (hret : (eT_ E).sig.returnType = (Option.some Jvm.ClassFile.FieldType.boolean)) (h0 : ∀ x ∈ (eC_ E).exceptionTable.toList, False) (hin : (eT_ E).name = "isShown") (N : Nat) {k6 : Mm → Option Nat → Int32 → Int32 → Int32 → Int32 → Int32 → Rs (Int32)} (hk6 : ∀ (m : Mm) (v0 : Option Nat) (v1 : Int32) (v2 : Int32) (v3 : Int32) (v4 : Int32) (v5 : Int32) (k n : Nat), Sm_ l g E 6 en_i (k6 m v0 v1 v2 v3 v4 v5) k n 6 [(0, vr_ v0), (1, vi_ v1), (2, vi_ v2), (3, vi_ v3), (4, vi_ v4), (5, vi_ v5)] [] m) : ∀ (m : Mm) (v0 : Option Nat) (v1 : Int32) (v2 : Int32) (v3 : Int32) (v5 : Int32) (k n : Nat), Sm_ l g E 6 en_i (fX2_isShown_b48 (gE_ g) N k6 m v0 v1 v2 v3 v5) k n 48 [(0, vr_ v0), (1, vi_ v1), (2, vi_ v2), (3, vi_ v3), (5, vi_ v5)] [] m := by
  intro m v0 v1 v2 v3 v5 k n
  unfold fX2_isShown_b48
  refine s_iconst C 0 rfl dX2_isShown_48 49 rfl ?_
  exact wX2_isShown_b49 C hret h0 hin N hk6 _ _ _ _ _ _ _ _ _
theorem wX2_isShown_b6 {l : Launch} {g : GG} {E : Me_} (C : Cx_ l g E "MasterTree$Master" cX2_isShown 6 16) (hret : (eT_ E).sig.returnType = (Option.some Jvm.ClassFile.FieldType.boolean)) (h0 : ∀ x ∈ (eC_ E).exceptionTable.toList, False) (hin : (eT_ E).name = "isShown") (N : Nat) : ∀ (F : Nat) (m : Mm) (v0 : Option Nat) (v1 : Int32) (v2 : Int32) (v3 : Int32) (v4 : Int32) (v5 : Int32) (k n : Nat), Sm_ l g E 6 en_i (fX2_isShown_b6 (gE_ g) N F m v0 v1 v2 v3 v4 v5) k n 6 [(0, vr_ v0), (1, vi_ v1), (2, vi_ v2), (3, vi_ v3), (4, vi_ v4), (5, vi_ v5)] [] m := by
  intro F
  induction F with
  | zero => intros; exact Sm_none
  | succ F ih =>
    intro m v0 v1 v2 v3 v4 v5 k n
    unfold fX2_isShown_b6
    refine s_iload C 5 rfl dX2_isShown_6 8 rfl ?_
    refine s_bipush C 48 rfl dX2_isShown_8 10 rfl ?_
    refine s_icmp_ge C dX2_isShown_10 57 rfl 13 rfl (fun c_ => ?_) (fun c_ => ?_)
    · refine s_iload C 4 rfl dX2_isShown_13 15 rfl ?_
      refine s_if_ne C dX2_isShown_15 44 rfl 18 rfl (fun c_ => ?_) (fun c_ => ?_)
      · refine s_iload C 5 rfl dX2_isShown_18 20 rfl ?_
        refine s_iload_n C rfl 3 rfl dX2_isShown_20 21 rfl ?_
        refine s_icmp_eq C dX2_isShown_21 48 rfl 24 rfl (fun c_ => ?_) (fun c_ => ?_)
        · refine Sm_sub [0, 1, 2, 3, 5] rfl ?_
          exact wX2_isShown_b48 C hret h0 hin N (fun m v0 v1 v2 v3 v4 v5 k n => ih m v0 v1 v2 v3 v4 v5 k n) _ _ _ _ _ _ _ _
        · refine s_aload_n C rfl 0 rfl dX2_isShown_24 25 rfl ?_
          refine s_iload C 5 rfl dX2_isShown_25 27 rfl ?_
          refine s_iload_n C rfl 1 rfl dX2_isShown_27 28 rfl ?_
          refine x_ck (fun hb_ hb0_ => ?_)
          refine x_callV (enc := en_i) C 13 2 [vi_ v5, vi_ v1] 2 (ctX2_isAt C.2.2.2.2.2.2.2.2.1 N m v0 v5 v1) hb_ hb0_ rfl rfl q1663 q1664 q1665 q85 q1666 hdX2_isAt (Nat.le_of_ble_eq_true rfl) (Nat.le_of_ble_eq_true rfl) rfl (Nat.le_of_ble_eq_true rfl) dX2_isShown_28 31 rfl rfl hen_i (kk_i (fun x1 m1 k1 n1 => ?_)) (kx_n he_i)
          refine s_if_eq C dX2_isShown_31 48 rfl 34 rfl (fun c_ => ?_) (fun c_ => ?_)
          · refine Sm_sub [0, 1, 2, 3, 5] rfl ?_
            exact wX2_isShown_b48 C hret h0 hin N (fun m v0 v1 v2 v3 v4 v5 k n => ih m v0 v1 v2 v3 v4 v5 k n) _ _ _ _ _ _ _ _
          · refine s_aload_n C rfl 0 rfl dX2_isShown_34 35 rfl ?_
            refine s_iload C 5 rfl dX2_isShown_35 37 rfl ?_
            refine x_ck (fun hb_ hb0_ => ?_)
            refine x_callV (enc := en_i) C 15 1 [vi_ v5] 2 (ctX2_shownName C.2.2.2.2.2.2.2.2.1 N m1 v0 v5) hb_ hb0_ rfl rfl q1667 q1668 q1669 q85 q1670 hdX2_shownName (Nat.le_of_ble_eq_true rfl) (Nat.le_of_ble_eq_true rfl) rfl (Nat.le_of_ble_eq_true rfl) dX2_isShown_37 40 rfl rfl hen_i (kk_i (fun x2 m2 k1 n1 => ?_)) (kx_n he_i)
            refine s_iload_n C rfl 2 rfl dX2_isShown_40 41 rfl ?_
            refine s_icmp_ne C dX2_isShown_41 48 rfl 44 rfl (fun c_ => ?_) (fun c_ => ?_)
            · refine Sm_sub [0, 1, 2, 3, 5] rfl ?_
              exact wX2_isShown_b44 C hret h0 hin N (fun m v0 v1 v2 v3 v4 v5 k n => ih m v0 v1 v2 v3 v4 v5 k n) _ _ _ _ _ _ _ _
            · refine Sm_sub [0, 1, 2, 3, 5] rfl ?_
              exact wX2_isShown_b48 C hret h0 hin N (fun m v0 v1 v2 v3 v4 v5 k n => ih m v0 v1 v2 v3 v4 v5 k n) _ _ _ _ _ _ _ _
      · refine Sm_sub [0, 1, 2, 3, 5] rfl ?_
        exact wX2_isShown_b44 C hret h0 hin N (fun m v0 v1 v2 v3 v4 v5 k n => ih m v0 v1 v2 v3 v4 v5 k n) _ _ _ _ _ _ _ _
    · refine s_iload C 4 rfl dX2_isShown_57 59 rfl ?_
      exact x_zret C hret rfl dX2_isShown_59
theorem wX2_isShown {l : Launch} {g : GG} {E : Me_} (C : Cx_ l g E "MasterTree$Master" cX2_isShown 6 16) (hret : (eT_ E).sig.returnType = (Option.some Jvm.ClassFile.FieldType.boolean)) (h0 : ∀ x ∈ (eC_ E).exceptionTable.toList, False) (hin : (eT_ E).name = "isShown") (N : Nat) : ∀ (m : Mm) (v0 : Option Nat) (v1 : Int32) (v2 : Int32) (v3 : Int32) (k n : Nat), Sm_ l g E 6 en_i (fX2_isShown (gE_ g) N m v0 v1 v2 v3) k n 0 [(0, vr_ v0), (1, vi_ v1), (2, vi_ v2), (3, vi_ v3)] [] m := by
  intro m v0 v1 v2 v3 k n
  unfold fX2_isShown
  refine s_iconst C 0 rfl dX2_isShown_0 1 rfl ?_
  refine s_istore C (Nat.le_of_ble_eq_true rfl) [0, 1, 2, 3] rfl rfl dX2_isShown_1 3 rfl ?_
  refine s_iconst C 1 rfl dX2_isShown_3 4 rfl ?_
  refine s_istore C (Nat.le_of_ble_eq_true rfl) [0, 1, 2, 3, 4] rfl rfl dX2_isShown_4 6 rfl ?_
  refine Sm_sub [2, 3, 4, 5, 1, 0] rfl ?_
  exact wX2_isShown_b6 C hret h0 hin N N _ _ _ _ _ _ _ _ _
theorem hdX2_isShown : ((⟨"MasterTree$Master", "isShown", "(III)Z"⟩ : MethodName)).cls ≠ "java/lang/invoke/MethodHandle" ∧ ((⟨"MasterTree$Master", "isShown", "(III)Z"⟩ : MethodName)).cls ≠ "java/lang/invoke/VarHandle" ∧ (parseMethodDescriptor ((⟨"MasterTree$Master", "isShown", "(III)Z"⟩ : MethodName)).desc).map (fun d => d.parameters.length) = some 3 := ⟨by decide +kernel, by decide +kernel, by decide +kernel⟩
theorem ctX2_isShown {l : Launch} {g : GG} (hst : l.stackTraces = false) (N : Nat) (m : Mm) (v0 : Option Nat) (v1 : Int32) (v2 : Int32) (v3 : Int32) : ∀ v m' k n, fX2_isShown (gE_ g) N m v0 v1 v2 v3 = some (v, m', k, n) → Ct_ l g (⟨"MasterTree$Master", "isShown", "(III)Z"⟩ : MethodName) (ws_ (⟨"MasterTree$Master", "isShown", "(III)Z"⟩ : MethodName) cX2_isShown 6 (Option.some Jvm.ClassFile.FieldType.boolean)) 16 [vr_ v0, vi_ v1, vi_ v2, vi_ v3] m (en_i v) m' k n :=
  Ct_of (by decide +kernel) rfl hst (Nat.le_of_ble_eq_true rfl) rfl (fun E C hret h0 hin => wX2_isShown C hret h0 hin N m v0 v1 v2 v3 0 0)
theorem wX1_fits_b181 {l : Launch} {g : GG} {E : Me_} (C : Cx_ l g E "MasterTree" cX1_fits 8 13) (hret : (eT_ E).sig.returnType = (Option.some Jvm.ClassFile.FieldType.boolean)) (h0 : ∀ x ∈ (eC_ E).exceptionTable.toList, False) (hin : (eT_ E).name = "fits") (N : Nat) {k99 : Mm → Option Nat → Option Nat → Int32 → Int32 → Int32 → Int32 → Option Nat → Int32 → Rs (Int32)} (hk99 : ∀ (m : Mm) (v0 : Option Nat) (v1 : Option Nat) (v2 : Int32) (v3 : Int32) (v4 : Int32) (v5 : Int32) (v6 : Option Nat) (v7 : Int32) (k n : Nat), Sm_ l g E 8 en_i (k99 m v0 v1 v2 v3 v4 v5 v6 v7) k n 99 [(0, vr_ v0), (1, vr_ v1), (2, vi_ v2), (3, vi_ v3), (4, vi_ v4), (5, vi_ v5), (6, vr_ v6), (7, vi_ v7)] [] m) : ∀ (m : Mm) (v0 : Option Nat) (v1 : Option Nat) (v2 : Int32) (v4 : Int32) (v5 : Int32) (v6 : Option Nat) (v7 : Int32) (s0 : Int32) (k n : Nat), Sm_ l g E 8 en_i (fX1_fits_b181 (gE_ g) N k99 m v0 v1 v2 v4 v5 v6 v7 s0) k n 181 [(0, vr_ v0), (1, vr_ v1), (2, vi_ v2), (4, vi_ v4), (5, vi_ v5), (6, vr_ v6), (7, vi_ v7)] [vi_ s0] m := by
  intro m v0 v1 v2 v4 v5 v6 v7 s0 k n
  unfold fX1_fits_b181
  refine s_istore_n C rfl (Nat.le_of_ble_eq_true rfl) [0, 1, 2, 3, 4, 5, 6] rfl rfl dX1_fits_181 182 rfl ?_
  refine s_iinc C 1 rfl 7 rfl (Nat.le_of_ble_eq_true rfl) [0, 1, 2, 3, 4, 5, 6] rfl rfl dX1_fits_182 185 rfl ?_
  refine s_goto C (off := -86) 99 dX1_fits_185 rfl ?_
  refine Sm_sub [2, 3, 4, 1, 5, 6, 7, 0] rfl ?_
  exact hk99 _ _ _ _ _ _ _ _ _ _ _
theorem wX1_fits_b176 {l : Launch} {g : GG} {E : Me_} (C : Cx_ l g E "MasterTree" cX1_fits 8 13) (hret : (eT_ E).sig.returnType = (Option.some Jvm.ClassFile.FieldType.boolean)) (h0 : ∀ x ∈ (eC_ E).exceptionTable.toList, False) (hin : (eT_ E).name = "fits") (N : Nat) {k99 : Mm → Option Nat → Option Nat → Int32 → Int32 → Int32 → Int32 → Option Nat → Int32 → Rs (Int32)} (hk99 : ∀ (m : Mm) (v0 : Option Nat) (v1 : Option Nat) (v2 : Int32) (v3 : Int32) (v4 : Int32) (v5 : Int32) (v6 : Option Nat) (v7 : Int32) (k n : Nat), Sm_ l g E 8 en_i (k99 m v0 v1 v2 v3 v4 v5 v6 v7) k n 99 [(0, vr_ v0), (1, vr_ v1), (2, vi_ v2), (3, vi_ v3), (4, vi_ v4), (5, vi_ v5), (6, vr_ v6), (7, vi_ v7)] [] m) : ∀ (m : Mm) (v0 : Option Nat) (v1 : Option Nat) (v2 : Int32) (v4 : Int32) (v5 : Int32) (v6 : Option Nat) (v7 : Int32) (k n : Nat), Sm_ l g E 8 en_i (fX1_fits_b176 (gE_ g) N k99 m v0 v1 v2 v4 v5 v6 v7) k n 176 [(0, vr_ v0), (1, vr_ v1), (2, vi_ v2), (4, vi_ v4), (5, vi_ v5), (6, vr_ v6), (7, vi_ v7)] [] m := by
  intro m v0 v1 v2 v4 v5 v6 v7 k n
  unfold fX1_fits_b176
  refine s_iconst C 1 rfl dX1_fits_176 177 rfl ?_
  refine s_goto C (off := 4) 181 dX1_fits_177 rfl ?_
  exact wX1_fits_b181 C hret h0 hin N hk99 _ _ _ _ _ _ _ _ _ _ _
theorem wX1_fits_b180 {l : Launch} {g : GG} {E : Me_} (C : Cx_ l g E "MasterTree" cX1_fits 8 13) (hret : (eT_ E).sig.returnType = (Option.some Jvm.ClassFile.FieldType.boolean)) (h0 : ∀ x ∈ (eC_ E).exceptionTable.toList, False) (hin : (eT_ E).name = "fits") (N : Nat) {k99 : Mm → Option Nat → Option Nat → Int32 → Int32 → Int32 → Int32 → Option Nat → Int32 → Rs (Int32)} (hk99 : ∀ (m : Mm) (v0 : Option Nat) (v1 : Option Nat) (v2 : Int32) (v3 : Int32) (v4 : Int32) (v5 : Int32) (v6 : Option Nat) (v7 : Int32) (k n : Nat), Sm_ l g E 8 en_i (k99 m v0 v1 v2 v3 v4 v5 v6 v7) k n 99 [(0, vr_ v0), (1, vr_ v1), (2, vi_ v2), (3, vi_ v3), (4, vi_ v4), (5, vi_ v5), (6, vr_ v6), (7, vi_ v7)] [] m) : ∀ (m : Mm) (v0 : Option Nat) (v1 : Option Nat) (v2 : Int32) (v4 : Int32) (v5 : Int32) (v6 : Option Nat) (v7 : Int32) (k n : Nat), Sm_ l g E 8 en_i (fX1_fits_b180 (gE_ g) N k99 m v0 v1 v2 v4 v5 v6 v7) k n 180 [(0, vr_ v0), (1, vr_ v1), (2, vi_ v2), (4, vi_ v4), (5, vi_ v5), (6, vr_ v6), (7, vi_ v7)] [] m := by
  intro m v0 v1 v2 v4 v5 v6 v7 k n
  unfold fX1_fits_b180
  refine s_iconst C 0 rfl dX1_fits_180 181 rfl ?_
  exact wX1_fits_b181 C hret h0 hin N hk99 _ _ _ _ _ _ _ _ _ _ _
theorem wX1_fits_b99 {l : Launch} {g : GG} {E : Me_} (C : Cx_ l g E "MasterTree" cX1_fits 8 13) (hret : (eT_ E).sig.returnType = (Option.some Jvm.ClassFile.FieldType.boolean)) (h0 : ∀ x ∈ (eC_ E).exceptionTable.toList, False) (hin : (eT_ E).name = "fits") (N : Nat) {k7 : Mm → Option Nat → Option Nat → Int32 → Int32 → Int32 → Rs (Int32)} (hk7 : ∀ (m : Mm) (v0 : Option Nat) (v1 : Option Nat) (v2 : Int32) (v3 : Int32) (v4 : Int32) (k n : Nat), Sm_ l g E 8 en_i (k7 m v0 v1 v2 v3 v4) k n 7 [(0, vr_ v0), (1, vr_ v1), (2, vi_ v2), (3, vi_ v3), (4, vi_ v4)] [] m) : ∀ (F : Nat) (m : Mm) (v0 : Option Nat) (v1 : Option Nat) (v2 : Int32) (v3 : Int32) (v4 : Int32) (v5 : Int32) (v6 : Option Nat) (v7 : Int32) (k n : Nat), Sm_ l g E 8 en_i (fX1_fits_b99 (gE_ g) N k7 F m v0 v1 v2 v3 v4 v5 v6 v7) k n 99 [(0, vr_ v0), (1, vr_ v1), (2, vi_ v2), (3, vi_ v3), (4, vi_ v4), (5, vi_ v5), (6, vr_ v6), (7, vi_ v7)] [] m := by
  intro F
  induction F with
  | zero => intros; exact Sm_none
  | succ F ih =>
    intro m v0 v1 v2 v3 v4 v5 v6 v7 k n
    unfold fX1_fits_b99
    refine s_iload C 7 rfl dX1_fits_99 101 rfl ?_
    refine s_iload C 4 rfl dX1_fits_101 103 rfl ?_
    refine s_icmp_ge C dX1_fits_103 188 rfl 106 rfl (fun c_ => ?_) (fun c_ => ?_)
    · refine s_iload_n C rfl 3 rfl dX1_fits_106 107 rfl ?_
      refine s_if_eq C dX1_fits_107 180 rfl 110 rfl (fun c_ => ?_) (fun c_ => ?_)
      · refine Sm_sub [0, 1, 2, 4, 5, 6, 7] rfl ?_
        exact wX1_fits_b180 C hret h0 hin N (fun m v0 v1 v2 v3 v4 v5 v6 v7 k n => ih m v0 v1 v2 v3 v4 v5 v6 v7 k n) _ _ _ _ _ _ _ _ _ _
      · refine s_aload_n C rfl 0 rfl dX1_fits_110 111 rfl ?_
        refine x_gr C 0 (RX1, TX1, 9) rfl 3 (Nat.le_of_ble_eq_true rfl) q449 (Or.inl rfl) rfl 1 rfl dX1_fits_111 114 rfl (fun x1 => ?_)
        refine s_iload C 7 rfl dX1_fits_114 116 rfl ?_
        refine x_ck (fun hb_ hb0_ => ?_)
        refine x_callF (enc := en_r) C 12 1 [vi_ v7] 13 (ctJ2_get C.2.2.2.2.2.2.2.2.1 N m x1 v7) hb_ hb0_ rfl rfl rfl fw_3 q888 q891 q893 q84 q895 hx2 (Nat.le_of_ble_eq_true rfl) (Nat.le_of_ble_eq_true rfl) rfl (Nat.le_of_ble_eq_true rfl) dX1_fits_116 121 rfl rfl hen_r (kk_r (fun x2 m1 k1 n1 => ?_)) (kx_n he_r)
        refine x_cc C "[I" [200] (fun k hk => by rw [List.mem_singleton.mp hk]; exact ⟨rfl, Or.inr rfl⟩) q1684 dX1_fits_121 124 rfl ?_
        refine s_iconst C 0 rfl dX1_fits_124 125 rfl ?_
        refine x_ai0 C 200 rfl dX1_fits_125 126 rfl (fun x3 => ?_)
        refine s_iload C 5 rfl dX1_fits_126 128 rfl ?_
        refine s_icmp_ne C dX1_fits_128 176 rfl 131 rfl (fun c_ => ?_) (fun c_ => ?_)
        · refine s_aload C 6 rfl dX1_fits_131 133 rfl ?_
          refine s_aload_n C rfl 0 rfl dX1_fits_133 134 rfl ?_
          refine x_gr C 0 (RX1, TX1, 9) rfl 3 (Nat.le_of_ble_eq_true rfl) q449 (Or.inl rfl) rfl 1 rfl dX1_fits_134 137 rfl (fun x4 => ?_)
          refine s_iload C 7 rfl dX1_fits_137 139 rfl ?_
          refine x_ck (fun hb_ hb0_ => ?_)
          refine x_callF (enc := en_r) C 12 1 [vi_ v7] 13 (ctJ2_get C.2.2.2.2.2.2.2.2.1 N m1 x4 v7) hb_ hb0_ rfl rfl rfl fw_3 q888 q891 q893 q84 q895 hx2 (Nat.le_of_ble_eq_true rfl) (Nat.le_of_ble_eq_true rfl) rfl (Nat.le_of_ble_eq_true rfl) dX1_fits_139 144 rfl rfl hen_r (kk_r (fun x5 m2 k1 n1 => ?_)) (kx_n he_r)
          refine x_cc C "[I" [200] (fun k hk => by rw [List.mem_singleton.mp hk]; exact ⟨rfl, Or.inr rfl⟩) q1684 dX1_fits_144 147 rfl ?_
          refine s_iconst C 1 rfl dX1_fits_147 148 rfl ?_
          refine x_ai0 C 200 rfl dX1_fits_148 149 rfl (fun x6 => ?_)
          refine x_ck (fun hb_ hb0_ => ?_)
          refine x_callV (enc := en_i) C 10 1 [vi_ x6] 5 (ctX5_key C.2.2.2.2.2.2.2.2.1 N m2 v6 x6) hb_ hb0_ rfl rfl q1685 q1616 q1617 q98 q1618 hdX5_key (Nat.le_of_ble_eq_true rfl) (Nat.le_of_ble_eq_true rfl) rfl (Nat.le_of_ble_eq_true rfl) dX1_fits_149 152 rfl rfl hen_i (kk_i (fun x7 m3 k1 n1 => ?_)) (kx_n he_i)
          refine s_aload C 6 rfl dX1_fits_152 154 rfl ?_
          refine s_aload_n C rfl 0 rfl dX1_fits_154 155 rfl ?_
          refine x_gr C 0 (RX1, TX1, 9) rfl 3 (Nat.le_of_ble_eq_true rfl) q449 (Or.inl rfl) rfl 1 rfl dX1_fits_155 158 rfl (fun x8 => ?_)
          refine s_iload C 4 rfl dX1_fits_158 160 rfl ?_
          refine x_ck (fun hb_ hb0_ => ?_)
          refine x_callF (enc := en_r) C 12 1 [vi_ v4] 13 (ctJ2_get C.2.2.2.2.2.2.2.2.1 N m3 x8 v4) hb_ hb0_ rfl rfl rfl fw_3 q888 q891 q893 q84 q895 hx2 (Nat.le_of_ble_eq_true rfl) (Nat.le_of_ble_eq_true rfl) rfl (Nat.le_of_ble_eq_true rfl) dX1_fits_160 165 rfl rfl hen_r (kk_r (fun x9 m4 k1 n1 => ?_)) (kx_n he_r)
          refine x_cc C "[I" [200] (fun k hk => by rw [List.mem_singleton.mp hk]; exact ⟨rfl, Or.inr rfl⟩) q1684 dX1_fits_165 168 rfl ?_
          refine s_iconst C 1 rfl dX1_fits_168 169 rfl ?_
          refine x_ai0 C 200 rfl dX1_fits_169 170 rfl (fun x10 => ?_)
          refine x_ck (fun hb_ hb0_ => ?_)
          refine x_callV (enc := en_i) C 10 1 [vi_ x10] 5 (ctX5_key C.2.2.2.2.2.2.2.2.1 N m4 v6 x10) hb_ hb0_ rfl rfl q1685 q1616 q1617 q98 q1618 hdX5_key (Nat.le_of_ble_eq_true rfl) (Nat.le_of_ble_eq_true rfl) rfl (Nat.le_of_ble_eq_true rfl) dX1_fits_170 173 rfl rfl hen_i (kk_i (fun x11 m5 k1 n1 => ?_)) (kx_n he_i)
          refine s_icmp_eq C dX1_fits_173 180 rfl 176 rfl (fun c_ => ?_) (fun c_ => ?_)
          · refine Sm_sub [0, 1, 2, 4, 5, 6, 7] rfl ?_
            exact wX1_fits_b180 C hret h0 hin N (fun m v0 v1 v2 v3 v4 v5 v6 v7 k n => ih m v0 v1 v2 v3 v4 v5 v6 v7 k n) _ _ _ _ _ _ _ _ _ _
          · refine Sm_sub [0, 1, 2, 4, 5, 6, 7] rfl ?_
            exact wX1_fits_b176 C hret h0 hin N (fun m v0 v1 v2 v3 v4 v5 v6 v7 k n => ih m v0 v1 v2 v3 v4 v5 v6 v7 k n) _ _ _ _ _ _ _ _ _ _
        · refine Sm_sub [0, 1, 2, 4, 5, 6, 7] rfl ?_
          exact wX1_fits_b176 C hret h0 hin N (fun m v0 v1 v2 v3 v4 v5 v6 v7 k n => ih m v0 v1 v2 v3 v4 v5 v6 v7 k n) _ _ _ _ _ _ _ _ _ _
    · refine s_iload_n C rfl 2 rfl dX1_fits_188 189 rfl ?_
      refine s_iconst C 1 rfl dX1_fits_189 190 rfl ?_
      refine s_iload C 5 rfl dX1_fits_190 192 rfl ?_
      refine s_ishl C dX1_fits_192 193 rfl ?_
      refine s_ior C dX1_fits_193 194 rfl ?_
      refine s_istore_n C rfl (Nat.le_of_ble_eq_true rfl) [0, 1, 3, 4] rfl rfl dX1_fits_194 195 rfl ?_
      refine s_iinc C 1 rfl 4 rfl (Nat.le_of_ble_eq_true rfl) [0, 1, 2, 3] rfl rfl dX1_fits_195 198 rfl ?_
      refine s_goto C (off := -191) 7 dX1_fits_198 rfl ?_
      refine Sm_sub [2, 3, 1, 4, 0] rfl ?_
      exact hk7 _ _ _ _ _ _ _ _
theorem wX1_fits_b95 {l : Launch} {g : GG} {E : Me_} (C : Cx_ l g E "MasterTree" cX1_fits 8 13) (hret : (eT_ E).sig.returnType = (Option.some Jvm.ClassFile.FieldType.boolean)) (h0 : ∀ x ∈ (eC_ E).exceptionTable.toList, False) (hin : (eT_ E).name = "fits") (N : Nat) {k7 : Mm → Option Nat → Option Nat → Int32 → Int32 → Int32 → Rs (Int32)} (hk7 : ∀ (m : Mm) (v0 : Option Nat) (v1 : Option Nat) (v2 : Int32) (v3 : Int32) (v4 : Int32) (k n : Nat), Sm_ l g E 8 en_i (k7 m v0 v1 v2 v3 v4) k n 7 [(0, vr_ v0), (1, vr_ v1), (2, vi_ v2), (3, vi_ v3), (4, vi_ v4)] [] m) : ∀ (m : Mm) (v0 : Option Nat) (v1 : Option Nat) (v2 : Int32) (v4 : Int32) (v5 : Int32) (v6 : Option Nat) (s0 : Int32) (k n : Nat), Sm_ l g E 8 en_i (fX1_fits_b95 (gE_ g) N k7 m v0 v1 v2 v4 v5 v6 s0) k n 95 [(0, vr_ v0), (1, vr_ v1), (2, vi_ v2), (4, vi_ v4), (5, vi_ v5), (6, vr_ v6)] [vi_ s0] m := by
  intro m v0 v1 v2 v4 v5 v6 s0 k n
  unfold fX1_fits_b95
  refine s_istore_n C rfl (Nat.le_of_ble_eq_true rfl) [0, 1, 2, 3, 4, 5] rfl rfl dX1_fits_95 96 rfl ?_
  refine s_iconst C 0 rfl dX1_fits_96 97 rfl ?_
  refine s_istore C (Nat.le_of_ble_eq_true rfl) [0, 1, 2, 3, 4, 5, 6] rfl rfl dX1_fits_97 99 rfl ?_
  refine Sm_sub [2, 3, 4, 1, 5, 6, 7, 0] rfl ?_
  exact wX1_fits_b99 C hret h0 hin N hk7 N _ _ _ _ _ _ _ _ _ _ _
theorem wX1_fits_b90 {l : Launch} {g : GG} {E : Me_} (C : Cx_ l g E "MasterTree" cX1_fits 8 13) (hret : (eT_ E).sig.returnType = (Option.some Jvm.ClassFile.FieldType.boolean)) (h0 : ∀ x ∈ (eC_ E).exceptionTable.toList, False) (hin : (eT_ E).name = "fits") (N : Nat) {k7 : Mm → Option Nat → Option Nat → Int32 → Int32 → Int32 → Rs (Int32)} (hk7 : ∀ (m : Mm) (v0 : Option Nat) (v1 : Option Nat) (v2 : Int32) (v3 : Int32) (v4 : Int32) (k n : Nat), Sm_ l g E 8 en_i (k7 m v0 v1 v2 v3 v4) k n 7 [(0, vr_ v0), (1, vr_ v1), (2, vi_ v2), (3, vi_ v3), (4, vi_ v4)] [] m) : ∀ (m : Mm) (v0 : Option Nat) (v1 : Option Nat) (v2 : Int32) (v4 : Int32) (v5 : Int32) (v6 : Option Nat) (k n : Nat), Sm_ l g E 8 en_i (fX1_fits_b90 (gE_ g) N k7 m v0 v1 v2 v4 v5 v6) k n 90 [(0, vr_ v0), (1, vr_ v1), (2, vi_ v2), (4, vi_ v4), (5, vi_ v5), (6, vr_ v6)] [] m := by
  intro m v0 v1 v2 v4 v5 v6 k n
  unfold fX1_fits_b90
  refine s_iconst C 1 rfl dX1_fits_90 91 rfl ?_
  refine s_goto C (off := 4) 95 dX1_fits_91 rfl ?_
  exact wX1_fits_b95 C hret h0 hin N hk7 _ _ _ _ _ _ _ _ _ _
theorem wX1_fits_b94 {l : Launch} {g : GG} {E : Me_} (C : Cx_ l g E "MasterTree" cX1_fits 8 13) (hret : (eT_ E).sig.returnType = (Option.some Jvm.ClassFile.FieldType.boolean)) (h0 : ∀ x ∈ (eC_ E).exceptionTable.toList, False) (hin : (eT_ E).name = "fits") (N : Nat) {k7 : Mm → Option Nat → Option Nat → Int32 → Int32 → Int32 → Rs (Int32)} (hk7 : ∀ (m : Mm) (v0 : Option Nat) (v1 : Option Nat) (v2 : Int32) (v3 : Int32) (v4 : Int32) (k n : Nat), Sm_ l g E 8 en_i (k7 m v0 v1 v2 v3 v4) k n 7 [(0, vr_ v0), (1, vr_ v1), (2, vi_ v2), (3, vi_ v3), (4, vi_ v4)] [] m) : ∀ (m : Mm) (v0 : Option Nat) (v1 : Option Nat) (v2 : Int32) (v4 : Int32) (v5 : Int32) (v6 : Option Nat) (k n : Nat), Sm_ l g E 8 en_i (fX1_fits_b94 (gE_ g) N k7 m v0 v1 v2 v4 v5 v6) k n 94 [(0, vr_ v0), (1, vr_ v1), (2, vi_ v2), (4, vi_ v4), (5, vi_ v5), (6, vr_ v6)] [] m := by
  intro m v0 v1 v2 v4 v5 v6 k n
  unfold fX1_fits_b94
  refine s_iconst C 0 rfl dX1_fits_94 95 rfl ?_
  exact wX1_fits_b95 C hret h0 hin N hk7 _ _ _ _ _ _ _ _ _ _
theorem wX1_fits_b221 {l : Launch} {g : GG} {E : Me_} (C : Cx_ l g E "MasterTree" cX1_fits 8 13) (hret : (eT_ E).sig.returnType = (Option.some Jvm.ClassFile.FieldType.boolean)) (h0 : ∀ x ∈ (eC_ E).exceptionTable.toList, False) (hin : (eT_ E).name = "fits") (N : Nat) : ∀ (m : Mm) (s0 : Int32) (k n : Nat), Sm_ l g E 8 en_i (fX1_fits_b221 (gE_ g) N m s0) k n 221 [] [vi_ s0] m := by
  intro m s0 k n
  unfold fX1_fits_b221
  exact x_zret C hret rfl dX1_fits_221
theorem wX1_fits_b220 {l : Launch} {g : GG} {E : Me_} (C : Cx_ l g E "MasterTree" cX1_fits 8 13) (hret : (eT_ E).sig.returnType = (Option.some Jvm.ClassFile.FieldType.boolean)) (h0 : ∀ x ∈ (eC_ E).exceptionTable.toList, False) (hin : (eT_ E).name = "fits") (N : Nat) : ∀ (m : Mm) (k n : Nat), Sm_ l g E 8 en_i (fX1_fits_b220 (gE_ g) N m) k n 220 [] [] m := by
  intro m k n
  unfold fX1_fits_b220
  refine s_iconst C 0 rfl dX1_fits_220 221 rfl ?_
  exact wX1_fits_b221 C hret h0 hin N _ _ _ _
theorem wX1_fits_b7 {l : Launch} {g : GG} {E : Me_} (C : Cx_ l g E "MasterTree" cX1_fits 8 13) (hret : (eT_ E).sig.returnType = (Option.some Jvm.ClassFile.FieldType.boolean)) (h0 : ∀ x ∈ (eC_ E).exceptionTable.toList, False) (hin : (eT_ E).name = "fits") (N : Nat) : ∀ (F : Nat) (m : Mm) (v0 : Option Nat) (v1 : Option Nat) (v2 : Int32) (v3 : Int32) (v4 : Int32) (k n : Nat), Sm_ l g E 8 en_i (fX1_fits_b7 (gE_ g) N F m v0 v1 v2 v3 v4) k n 7 [(0, vr_ v0), (1, vr_ v1), (2, vi_ v2), (3, vi_ v3), (4, vi_ v4)] [] m := by
  intro F
  induction F with
  | zero => intros; exact Sm_none
  | succ F ih =>
    intro m v0 v1 v2 v3 v4 k n
    unfold fX1_fits_b7
    refine s_iload C 4 rfl dX1_fits_7 9 rfl ?_
    refine s_aload_n C rfl 0 rfl dX1_fits_9 10 rfl ?_
    refine x_gr C 0 (RX1, TX1, 9) rfl 3 (Nat.le_of_ble_eq_true rfl) q449 (Or.inl rfl) rfl 1 rfl dX1_fits_10 13 rfl (fun x1 => ?_)
    refine x_ck (fun hb_ hb0_ => ?_)
    refine x_callF (enc := en_i) C 10 0 [] 13 (ctJ2_size C.2.2.2.2.2.2.2.2.1 N m x1) hb_ hb0_ rfl rfl rfl fw_1 q480 q483 q485 q84 q487 hx1 (Nat.le_of_ble_eq_true rfl) (Nat.le_of_ble_eq_true rfl) rfl (Nat.le_of_ble_eq_true rfl) dX1_fits_13 18 rfl rfl hen_i (kk_i (fun x2 m1 k1 n1 => ?_)) (kx_n he_i)
    refine s_icmp_ge C dX1_fits_18 201 rfl 21 rfl (fun c_ => ?_) (fun c_ => ?_)
    · refine s_aload_n C rfl 0 rfl dX1_fits_21 22 rfl ?_
      refine x_gr C 0 (RX1, TX1, 9) rfl 3 (Nat.le_of_ble_eq_true rfl) q449 (Or.inl rfl) rfl 1 rfl dX1_fits_22 25 rfl (fun x3 => ?_)
      refine s_iload C 4 rfl dX1_fits_25 27 rfl ?_
      refine x_ck (fun hb_ hb0_ => ?_)
      refine x_callF (enc := en_r) C 12 1 [vi_ v4] 13 (ctJ2_get C.2.2.2.2.2.2.2.2.1 N m1 x3 v4) hb_ hb0_ rfl rfl rfl fw_3 q888 q891 q893 q84 q895 hx2 (Nat.le_of_ble_eq_true rfl) (Nat.le_of_ble_eq_true rfl) rfl (Nat.le_of_ble_eq_true rfl) dX1_fits_27 32 rfl rfl hen_r (kk_r (fun x4 m2 k1 n1 => ?_)) (kx_n he_r)
      refine x_cc C "[I" [200] (fun k hk => by rw [List.mem_singleton.mp hk]; exact ⟨rfl, Or.inr rfl⟩) q1684 dX1_fits_32 35 rfl ?_
      refine s_iconst C 0 rfl dX1_fits_35 36 rfl ?_
      refine x_ai0 C 200 rfl dX1_fits_36 37 rfl (fun x5 => ?_)
      refine s_istore C (Nat.le_of_ble_eq_true rfl) [0, 1, 2, 3, 4] rfl rfl dX1_fits_37 39 rfl ?_
      refine s_aload_n C rfl 1 rfl dX1_fits_39 40 rfl ?_
      refine x_gr C 0 (RX1, TX1, 9) rfl 0 (Nat.le_of_ble_eq_true rfl) q445 (Or.inl rfl) rfl 1 rfl dX1_fits_40 43 rfl (fun x6 => ?_)
      refine s_iload C 0 rfl dX1_fits_43 45 rfl ?_
      refine x_ck (fun hb_ hb0_ => ?_)
      refine x_callF (enc := en_r) C 12 1 [vi_ x5] 13 (ctJ2_get C.2.2.2.2.2.2.2.2.1 N m2 x6 x5) hb_ hb0_ rfl rfl rfl fw_3 q888 q891 q893 q84 q895 hx2 (Nat.le_of_ble_eq_true rfl) (Nat.le_of_ble_eq_true rfl) rfl (Nat.le_of_ble_eq_true rfl) dX1_fits_45 50 rfl rfl hen_r (kk_r (fun x7 m3 k1 n1 => ?_)) (kx_n he_r)
      refine x_cc C "MasterTree$Attribute" [5] (fun k hk => by rw [List.mem_singleton.mp hk]; exact ⟨rfl, Or.inr rfl⟩) q582 dX1_fits_50 53 rfl ?_
      refine s_astore C (Nat.le_of_ble_eq_true rfl) [0, 1, 2, 3, 4, 5] rfl rfl dX1_fits_53 55 rfl ?_
      refine s_iload_n C rfl 5 rfl dX1_fits_55 56 rfl ?_
      refine s_if_eq C dX1_fits_56 94 rfl 59 rfl (fun c_ => ?_) (fun c_ => ?_)
      · refine Sm_sub [2, 3, 4, 6, 1, 0] rfl ?_
        exact wX1_fits_b94 C hret h0 hin N (fun m v0 v1 v2 v3 v4 k n => ih m v0 v1 v2 v3 v4 k n) _ _ _ _ _ _ _ _ _
      · refine s_aload_n C rfl 3 rfl dX1_fits_59 60 rfl ?_
        refine x_giN C 5 (RX6, TX6, 3) rfl 2 (Nat.le_of_ble_eq_true rfl) q919 rfl rfl 6 rfl dX1_fits_60 63 rfl (fun x8 => ?_)
        refine s_iload C 1 rfl dX1_fits_63 65 rfl ?_
        refine s_ishr C dX1_fits_65 66 rfl ?_
        refine s_iconst C 1 rfl dX1_fits_66 67 rfl ?_
        refine s_iand C dX1_fits_67 68 rfl ?_
        refine s_iconst C 1 rfl dX1_fits_68 69 rfl ?_
        refine s_icmp_ne C dX1_fits_69 94 rfl 72 rfl (fun c_ => ?_) (fun c_ => ?_)
        · refine s_aload C 0 rfl dX1_fits_72 74 rfl ?_
          refine x_giN C 4 (RX5, TX5, 2) rfl 0 (Nat.le_of_ble_eq_true rfl) q590 rfl rfl 5 rfl dX1_fits_74 77 rfl (fun x9 => ?_)
          refine s_if_eq C dX1_fits_77 90 rfl 80 rfl (fun c_ => ?_) (fun c_ => ?_)
          · refine Sm_sub [2, 3, 4, 6, 1, 0] rfl ?_
            exact wX1_fits_b90 C hret h0 hin N (fun m v0 v1 v2 v3 v4 k n => ih m v0 v1 v2 v3 v4 k n) _ _ _ _ _ _ _ _ _
          · refine s_iload_n C rfl 4 rfl dX1_fits_80 81 rfl ?_
            refine s_iload C 1 rfl dX1_fits_81 83 rfl ?_
            refine s_ishr C dX1_fits_83 84 rfl ?_
            refine s_iconst C 1 rfl dX1_fits_84 85 rfl ?_
            refine s_iand C dX1_fits_85 86 rfl ?_
            refine s_iconst C 1 rfl dX1_fits_86 87 rfl ?_
            refine s_icmp_eq C dX1_fits_87 94 rfl 90 rfl (fun c_ => ?_) (fun c_ => ?_)
            · refine Sm_sub [2, 3, 4, 6, 1, 0] rfl ?_
              exact wX1_fits_b94 C hret h0 hin N (fun m v0 v1 v2 v3 v4 k n => ih m v0 v1 v2 v3 v4 k n) _ _ _ _ _ _ _ _ _
            · refine Sm_sub [2, 3, 4, 6, 1, 0] rfl ?_
              exact wX1_fits_b90 C hret h0 hin N (fun m v0 v1 v2 v3 v4 k n => ih m v0 v1 v2 v3 v4 k n) _ _ _ _ _ _ _ _ _
        · refine Sm_sub [2, 3, 4, 6, 1, 0] rfl ?_
          exact wX1_fits_b94 C hret h0 hin N (fun m v0 v1 v2 v3 v4 k n => ih m v0 v1 v2 v3 v4 k n) _ _ _ _ _ _ _ _ _
    · refine s_iload_n C rfl 3 rfl dX1_fits_201 202 rfl ?_
      refine s_if_eq C dX1_fits_202 220 rfl 205 rfl (fun c_ => ?_) (fun c_ => ?_)
      · refine Sm_sub [] rfl ?_
        exact wX1_fits_b220 C hret h0 hin N _ _ _
      · refine s_aload_n C rfl 1 rfl dX1_fits_205 206 rfl ?_
        refine x_giN C 5 (RX6, TX6, 3) rfl 1 (Nat.le_of_ble_eq_true rfl) q917 rfl rfl 6 rfl dX1_fits_206 209 rfl (fun x10 => ?_)
        refine s_iload_n C rfl 2 rfl dX1_fits_209 210 rfl ?_
        refine s_iconst C (-1) rfl dX1_fits_210 211 rfl ?_
        refine s_ixor C dX1_fits_211 212 rfl ?_
        refine s_iand C dX1_fits_212 213 rfl ?_
        refine s_if_ne C dX1_fits_213 220 rfl 216 rfl (fun c_ => ?_) (fun c_ => ?_)
        · refine s_iconst C 1 rfl dX1_fits_216 217 rfl ?_
          refine s_goto C (off := 4) 221 dX1_fits_217 rfl ?_
          refine Sm_sub [] rfl ?_
          exact wX1_fits_b221 C hret h0 hin N _ _ _ _
        · refine Sm_sub [] rfl ?_
          exact wX1_fits_b220 C hret h0 hin N _ _ _
theorem wX1_fits {l : Launch} {g : GG} {E : Me_} (C : Cx_ l g E "MasterTree" cX1_fits 8 13) (hret : (eT_ E).sig.returnType = (Option.some Jvm.ClassFile.FieldType.boolean)) (h0 : ∀ x ∈ (eC_ E).exceptionTable.toList, False) (hin : (eT_ E).name = "fits") (N : Nat) : ∀ (m : Mm) (v0 : Option Nat) (v1 : Option Nat) (k n : Nat), Sm_ l g E 8 en_i (fX1_fits (gE_ g) N m v0 v1) k n 0 [(0, vr_ v0), (1, vr_ v1)] [] m := by
  intro m v0 v1 k n
  unfold fX1_fits
  refine s_iconst C 0 rfl dX1_fits_0 1 rfl ?_
  refine s_istore_n C rfl (Nat.le_of_ble_eq_true rfl) [0, 1] rfl rfl dX1_fits_1 2 rfl ?_
  refine s_iconst C 1 rfl dX1_fits_2 3 rfl ?_
  refine s_istore_n C rfl (Nat.le_of_ble_eq_true rfl) [0, 1, 2] rfl rfl dX1_fits_3 4 rfl ?_
  refine s_iconst C 0 rfl dX1_fits_4 5 rfl ?_
  refine s_istore C (Nat.le_of_ble_eq_true rfl) [0, 1, 2, 3] rfl rfl dX1_fits_5 7 rfl ?_
  refine Sm_sub [3, 4, 2, 1, 0] rfl ?_
  exact wX1_fits_b7 C hret h0 hin N N _ _ _ _ _ _ _ _
theorem hdX1_fits : ((⟨"MasterTree", "fits", "(LMasterTree$Klass;)Z"⟩ : MethodName)).cls ≠ "java/lang/invoke/MethodHandle" ∧ ((⟨"MasterTree", "fits", "(LMasterTree$Klass;)Z"⟩ : MethodName)).cls ≠ "java/lang/invoke/VarHandle" ∧ (parseMethodDescriptor ((⟨"MasterTree", "fits", "(LMasterTree$Klass;)Z"⟩ : MethodName)).desc).map (fun d => d.parameters.length) = some 1 := ⟨by decide +kernel, by decide +kernel, by decide +kernel⟩
theorem ctX1_fits {l : Launch} {g : GG} (hst : l.stackTraces = false) (N : Nat) (m : Mm) (v0 : Option Nat) (v1 : Option Nat) : ∀ v m' k n, fX1_fits (gE_ g) N m v0 v1 = some (v, m', k, n) → Ct_ l g (⟨"MasterTree", "fits", "(LMasterTree$Klass;)Z"⟩ : MethodName) (ws_ (⟨"MasterTree", "fits", "(LMasterTree$Klass;)Z"⟩ : MethodName) cX1_fits 8 (Option.some Jvm.ClassFile.FieldType.boolean)) 13 [vr_ v0, vr_ v1] m (en_i v) m' k n :=
  Ct_of (by decide +kernel) rfl hst (Nat.le_of_ble_eq_true rfl) rfl (fun E C hret h0 hin => wX1_fits C hret h0 hin N m v0 v1 0 0)
theorem wX1_add_b97 {l : Launch} {g : GG} {E : Me_} (C : Cx_ l g E "MasterTree" cX1_add 10 24) (hret : (eT_ E).sig.returnType = (Option.some Jvm.ClassFile.FieldType.int)) (h0 : ∀ x ∈ (eC_ E).exceptionTable.toList, False) (hin : (eT_ E).name = "add") (N : Nat) : ∀ (F : Nat) (m : Mm) (v0 : Option Nat) (v2 : Int32) (v3 : Int32) (v4 : Int32) (v5 : Option Nat) (v7 : Option Nat) (v8 : Option Nat) (k n : Nat), Sm_ l g E 10 (xe_ en_i) (fX1_add_b97 (gE_ g) N F m v0 v2 v3 v4 v5 v7 v8) k n 97 [(0, vr_ v0), (2, vi_ v2), (3, vi_ v3), (4, vi_ v4), (5, vr_ v5), (7, vr_ v7), (8, vr_ v8)] [] m := by
  intro F
  induction F with
  | zero => intros; exact Sm_none
  | succ F ih =>
    intro m v0 v2 v3 v4 v5 v7 v8 k n
    unfold fX1_add_b97
    refine s_aload C 6 rfl dX1_add_97 99 rfl ?_
    refine x_ck (fun hb_ hb0_ => ?_)
    refine x_callF (enc := en_i) C 10 0 [] 14 (ctJ34_hasNext C.2.2.2.2.2.2.2.2.1 N m v8) hb_ hb0_ rfl rfl rfl fw_13 q1716 q1458 q1460 q124 q1462 hx3 (Nat.le_of_ble_eq_true rfl) (Nat.le_of_ble_eq_true rfl) rfl (Nat.le_of_ble_eq_true rfl) dX1_add_99 104 rfl rfl hen_i (kk_i (fun x1 m1 k1 n1 => ?_)) (kx_n he_i)
    refine s_if_eq C dX1_add_104 132 rfl 107 rfl (fun c_ => ?_) (fun c_ => ?_)
    · refine s_aload_n C rfl 0 rfl dX1_add_132 133 rfl ?_
      refine x_gr C 0 (RX1, TX1, 9) rfl 3 (Nat.le_of_ble_eq_true rfl) q449 (Or.inl rfl) rfl 1 rfl dX1_add_133 136 rfl (fun x2 => ?_)
      refine x_ck (fun hb_ hb0_ => ?_)
      refine x_callF (enc := en_v) C 10 0 [] 13 (ctJ2_clear C.2.2.2.2.2.2.2.2.1 N m1 x2) hb_ hb0_ rfl rfl rfl fw_2 q489 q492 q494 q84 q496 hx4 (Nat.le_of_ble_eq_true rfl) (Nat.le_of_ble_eq_true rfl) rfl (Nat.le_of_ble_eq_true rfl) dX1_add_136 141 rfl rfl hen_v (kk_v (fun m2 k1 n1 => ?_)) (kx_n he_v)
      refine s_aload_n C rfl 0 rfl dX1_add_141 142 rfl ?_
      refine s_dup C rfl dX1_add_142 143 rfl ?_
      refine x_gi C 0 (RX1, TX1, 9) rfl 6 (Nat.le_of_ble_eq_true rfl) q452 (Or.inl rfl) rfl 1 rfl dX1_add_143 146 rfl (fun x3 => ?_)
      refine s_iconst C 1 rfl dX1_add_146 147 rfl ?_
      refine s_iadd C dX1_add_147 148 rfl ?_
      refine x_pi C 0 (RX1, TX1, 9) rfl 6 (Nat.le_of_ble_eq_true rfl) rfl q452 (Or.inl rfl) rfl trivial 1 rfl dX1_add_148 151 rfl (fun m3 => ?_)
      refine s_aload_n C rfl 0 rfl dX1_add_151 152 rfl ?_
      refine s_aload C 4 rfl dX1_add_152 154 rfl ?_
      refine x_gs C 8 (vr_ (some (gE_ g 6))) rfl q1719 rfl dX1_add_154 157 rfl ?_
      refine s_aload_n C rfl 0 rfl dX1_add_157 158 rfl ?_
      refine x_gi C 0 (RX1, TX1, 9) rfl 6 (Nat.le_of_ble_eq_true rfl) q452 (Or.inl rfl) rfl 1 rfl dX1_add_158 161 rfl (fun x4 => ?_)
      refine s_iconst C 1 rfl dX1_add_161 162 rfl ?_
      refine s_isub C dX1_add_162 163 rfl ?_
      refine s_iload_n C rfl 1 rfl dX1_add_163 164 rfl ?_
      refine s_iload C 3 rfl dX1_add_164 166 rfl ?_
      refine s_iload_n C rfl 2 rfl dX1_add_166 167 rfl ?_
      refine s_aload C 5 rfl dX1_add_167 169 rfl ?_
      refine x_ck (fun hb_ hb0_ => ?_)
      refine x_callV (enc := en_v) C 23 7 [vr_ v5, vr_ (some (gE_ g 6)), vi_ (x4 - 1), vi_ v2, vi_ v4, vi_ v3, vr_ v7] 1 (ctX1_makes C.2.2.2.2.2.2.2.2.1 N m3 v0 v5 (some (gE_ g 6)) (x4 - 1) v2 v4 v3 v7) hb_ hb0_ rfl rfl q1721 q1723 qs11 q81 q1724 hdX1_makes (Nat.le_of_ble_eq_true rfl) (Nat.le_of_ble_eq_true rfl) rfl (Nat.le_of_ble_eq_true rfl) dX1_add_169 172 rfl rfl hen_v (kk_v (fun m4 k1 n1 => ?_)) (kx_n he_v)
      refine s_aload_n C rfl 0 rfl dX1_add_172 173 rfl ?_
      refine x_gi C 0 (RX1, TX1, 9) rfl 6 (Nat.le_of_ble_eq_true rfl) q452 (Or.inl rfl) rfl 1 rfl dX1_add_173 176 rfl (fun x5 => ?_)
      refine s_iconst C 1 rfl dX1_add_176 177 rfl ?_
      refine s_isub C dX1_add_177 178 rfl ?_
      exact x_iret C hret rfl dX1_add_178
    · refine s_aload C 6 rfl dX1_add_107 109 rfl ?_
      refine x_ck (fun hb_ hb0_ => ?_)
      refine x_callF (enc := en_r) C 11 0 [] 14 (ctJ34_next C.2.2.2.2.2.2.2.2.1 N m1 v8) hb_ hb0_ rfl rfl rfl fw_19 q1718 q1495 q1497 q124 q1499 hx5 (Nat.le_of_ble_eq_true rfl) (Nat.le_of_ble_eq_true rfl) rfl (Nat.le_of_ble_eq_true rfl) dX1_add_109 114 rfl rfl hen_r (kk_r (fun x6 m5 k1 n1 => ?_)) (kx_n he_r)
      refine x_cc C "[I" [200] (fun k hk => by rw [List.mem_singleton.mp hk]; exact ⟨rfl, Or.inr rfl⟩) q1684 dX1_add_114 117 rfl ?_
      refine s_astore C (Nat.le_of_ble_eq_true rfl) [0, 1, 2, 3, 4, 5, 6] rfl rfl dX1_add_117 119 rfl ?_
      refine s_aload C 6 rfl dX1_add_119 121 rfl ?_
      refine s_aload C 0 rfl dX1_add_121 123 rfl ?_
      refine x_ck (fun hb_ hb0_ => ?_)
      refine x_callF (enc := en_i) C 15 1 [vr_ x6] 13 (ctJ2_add C.2.2.2.2.2.2.2.2.1 N m5 v7 x6) hb_ hb0_ rfl rfl rfl fw_0 q346 q350 q352 q84 q354 hx0 (Nat.le_of_ble_eq_true rfl) (Nat.le_of_ble_eq_true rfl) rfl (Nat.le_of_ble_eq_true rfl) dX1_add_123 128 rfl rfl hen_i (kk_i (fun x7 m6 k1 n1 => ?_)) (kx_n he_i)
      refine s_pop C rfl dX1_add_128 129 rfl ?_
      refine s_goto C (off := -32) 97 dX1_add_129 rfl ?_
      refine Sm_sub [1, 2, 3, 4, 5, 6, 7] rfl ?_
      exact ih _ _ _ _ _ _ _ _ _ _
theorem wX1_add_b71 {l : Launch} {g : GG} {E : Me_} (C : Cx_ l g E "MasterTree" cX1_add 10 24) (hret : (eT_ E).sig.returnType = (Option.some Jvm.ClassFile.FieldType.int)) (h0 : ∀ x ∈ (eC_ E).exceptionTable.toList, False) (hin : (eT_ E).name = "add") (N : Nat) : ∀ (m : Mm) (v0 : Option Nat) (v2 : Int32) (v3 : Int32) (v4 : Int32) (v5 : Option Nat) (s0 : Int32) (k n : Nat), Sm_ l g E 10 (xe_ en_i) (fX1_add_b71 (gE_ g) N m v0 v2 v3 v4 v5 s0) k n 71 [(0, vr_ v0), (2, vi_ v2), (3, vi_ v3), (4, vi_ v4), (5, vr_ v5)] [vi_ s0] m := by
  intro m v0 v2 v3 v4 v5 s0 k n
  unfold fX1_add_b71
  refine x_lsw C 17 17 rfl dX1_add_71 74 rfl ?_
  refine x_callS (enc := (xe_ en_v)) C 10 2 [vi_ s0, vr_ (some (gE_ g (100 + 17)))] (ctX1_must C.2.2.2.2.2.2.2.2.1 N m s0 (some (gE_ g (100 + 17)))) q510 q511 q81 q512 hdX1_must (Nat.le_of_ble_eq_true rfl) (Nat.le_of_ble_eq_true rfl) rfl (Nat.le_of_ble_eq_true rfl) dX1_add_74 77 rfl rfl (hen_x hen_v) (kk_x (kk_v (fun m1 k1 n1 => ?_))) (kx_x C h0 he_v)
  refine x_nw C 12 (RJ2, TJ2, 3) rfl q154 q155 q84 13 3 rfl rfl dX1_add_77 80 rfl (fun x1 m2 => ?_)
  refine s_dup C rfl dX1_add_80 81 rfl ?_
  refine x_callI (enc := en_v) C 12 0 [] (ctJ2_init C.2.2.2.2.2.2.2.2.1 N m2 (some x1)) (fun h => by cases h) rfl q156 q157 q84 q158 rfl hdJ2_init (Nat.le_of_ble_eq_true rfl) (Nat.le_of_ble_eq_true rfl) rfl (Nat.le_of_ble_eq_true rfl) dX1_add_81 84 rfl rfl hen_v (kk_v (fun m3 k1 n1 => ?_)) (kx_n he_v)
  refine s_astore C (Nat.le_of_ble_eq_true rfl) [0, 1, 2, 3, 4] rfl rfl dX1_add_84 86 rfl ?_
  refine s_aload_n C rfl 1 rfl dX1_add_86 87 rfl ?_
  refine x_gr C 0 (RX1, TX1, 9) rfl 3 (Nat.le_of_ble_eq_true rfl) q449 (Or.inl rfl) rfl 1 rfl dX1_add_87 90 rfl (fun x2 => ?_)
  refine x_ck (fun hb_ hb0_ => ?_)
  refine x_callF (enc := en_r) C 11 0 [] 13 (ctJ2_iterator C.2.2.2.2.2.2.2.2.1 N m3 x2) hb_ hb0_ rfl rfl rfl fw_27 q1688 q1691 q1693 q84 q1695 hx6 (Nat.le_of_ble_eq_true rfl) (Nat.le_of_ble_eq_true rfl) rfl (Nat.le_of_ble_eq_true rfl) dX1_add_90 95 rfl rfl hen_r (kk_r (fun x3 m4 k1 n1 => ?_)) (kx_n he_r)
  refine s_astore C (Nat.le_of_ble_eq_true rfl) [0, 1, 2, 3, 4, 5] rfl rfl dX1_add_95 97 rfl ?_
  refine Sm_sub [2, 3, 4, 5, 6, 1, 0] rfl ?_
  exact wX1_add_b97 C hret h0 hin N N _ _ _ _ _ _ _ _ _ _
theorem wX1_add_b70 {l : Launch} {g : GG} {E : Me_} (C : Cx_ l g E "MasterTree" cX1_add 10 24) (hret : (eT_ E).sig.returnType = (Option.some Jvm.ClassFile.FieldType.int)) (h0 : ∀ x ∈ (eC_ E).exceptionTable.toList, False) (hin : (eT_ E).name = "add") (N : Nat) : ∀ (m : Mm) (v0 : Option Nat) (v2 : Int32) (v3 : Int32) (v4 : Int32) (v5 : Option Nat) (k n : Nat), Sm_ l g E 10 (xe_ en_i) (fX1_add_b70 (gE_ g) N m v0 v2 v3 v4 v5) k n 70 [(0, vr_ v0), (2, vi_ v2), (3, vi_ v3), (4, vi_ v4), (5, vr_ v5)] [] m := by
  intro m v0 v2 v3 v4 v5 k n
  unfold fX1_add_b70
  refine s_iconst C 0 rfl dX1_add_70 71 rfl ?_
  exact wX1_add_b71 C hret h0 hin N _ _ _ _ _ _ _ _ _
theorem wX1_add {l : Launch} {g : GG} {E : Me_} (C : Cx_ l g E "MasterTree" cX1_add 10 24) (hret : (eT_ E).sig.returnType = (Option.some Jvm.ClassFile.FieldType.int)) (h0 : ∀ x ∈ (eC_ E).exceptionTable.toList, False) (hin : (eT_ E).name = "add") (N : Nat) : ∀ (m : Mm) (v0 : Option Nat) (v1 : Int32) (v2 : Int32) (v3 : Int32) (v4 : Int32) (k n : Nat), Sm_ l g E 10 (xe_ en_i) (fX1_add (gE_ g) N m v0 v1 v2 v3 v4) k n 0 [(0, vr_ v0), (1, vi_ v1), (2, vi_ v2), (3, vi_ v3), (4, vi_ v4)] [] m := by
  intro m v0 v1 v2 v3 v4 k n
  unfold fX1_add
  refine s_aload_n C rfl 0 rfl dX1_add_0 1 rfl ?_
  refine s_iload_n C rfl 1 rfl dX1_add_1 2 rfl ?_
  refine x_ck (fun hb_ hb0_ => ?_)
  refine x_callV (enc := (xe_ en_r)) C 17 1 [vi_ v1] 1 (ctX1_at C.2.2.2.2.2.2.2.2.1 N m v0 v1) hb_ hb0_ rfl rfl q934 q936 qs5 q81 q937 hdX1_at (Nat.le_of_ble_eq_true rfl) (Nat.le_of_ble_eq_true rfl) rfl (Nat.le_of_ble_eq_true rfl) dX1_add_2 5 rfl rfl (hen_x hen_r) (kk_x (kk_r (fun x1 m1 k1 n1 => ?_))) (kx_x C h0 he_r)
  refine s_astore C (Nat.le_of_ble_eq_true rfl) [0, 2, 3, 4] rfl rfl dX1_add_5 7 rfl ?_
  refine s_aload C 0 rfl dX1_add_7 9 rfl ?_
  refine s_iload_n C rfl 2 rfl dX1_add_9 10 rfl ?_
  refine x_callS (enc := (xe_ en_r)) C 16 2 [vr_ x1, vi_ v2] (ctX1_liveAt C.2.2.2.2.2.2.2.2.1 N m1 x1 v2) q968 q969 q81 q970 hdX1_liveAt (Nat.le_of_ble_eq_true rfl) (Nat.le_of_ble_eq_true rfl) rfl (Nat.le_of_ble_eq_true rfl) dX1_add_10 13 rfl rfl (hen_x hen_r) (kk_x (kk_r (fun x2 m2 k1 n1 => ?_))) (kx_x C h0 he_r)
  refine s_pop C rfl dX1_add_13 14 rfl ?_
  refine s_aload_n C rfl 1 rfl dX1_add_14 15 rfl ?_
  refine s_iload_n C rfl 3 rfl dX1_add_15 16 rfl ?_
  refine x_ck (fun hb_ hb0_ => ?_)
  refine x_callV (enc := (xe_ en_r)) C 17 1 [vi_ v3] 1 (ctX1_klassAt C.2.2.2.2.2.2.2.2.1 N m2 v0 v3) hb_ hb0_ rfl rfl q628 q630 qs4 q81 q631 hdX1_klassAt (Nat.le_of_ble_eq_true rfl) (Nat.le_of_ble_eq_true rfl) rfl (Nat.le_of_ble_eq_true rfl) dX1_add_16 19 rfl rfl (hen_x hen_r) (kk_x (kk_r (fun x3 m3 k1 n1 => ?_))) (kx_x C h0 he_r)
  refine s_astore C (Nat.le_of_ble_eq_true rfl) [0, 1, 2, 3, 4] rfl rfl dX1_add_19 21 rfl ?_
  refine s_iload C 5 rfl dX1_add_21 23 rfl ?_
  refine s_iconst C 0 rfl dX1_add_23 24 rfl ?_
  refine s_bipush C 99 rfl dX1_add_24 26 rfl ?_
  refine x_callS (enc := (xe_ en_v)) C 16 3 [vi_ v4, vi_ 0, vi_ 99] (ctX1_isWithin C.2.2.2.2.2.2.2.2.1 N m3 v4 0 99) q953 q954 q81 q955 hdX1_isWithin (Nat.le_of_ble_eq_true rfl) (Nat.le_of_ble_eq_true rfl) rfl (Nat.le_of_ble_eq_true rfl) dX1_add_26 29 rfl rfl (hen_x hen_v) (kk_x (kk_v (fun m4 k1 n1 => ?_))) (kx_x C h0 he_v)
  refine s_aload_n C rfl 2 rfl dX1_add_29 30 rfl ?_
  refine s_aload C 1 rfl dX1_add_30 32 rfl ?_
  refine s_iload_n C rfl 3 rfl dX1_add_32 33 rfl ?_
  refine x_ck (fun hb_ hb0_ => ?_)
  refine x_callV (enc := (xe_ en_v)) C 19 2 [vr_ x1, vi_ v2] 1 (ctX1_mayWrite C.2.2.2.2.2.2.2.2.1 N m4 v0 x1 v2) hb_ hb0_ rfl rfl q981 q983 qs7 q81 q984 hdX1_mayWrite (Nat.le_of_ble_eq_true rfl) (Nat.le_of_ble_eq_true rfl) rfl (Nat.le_of_ble_eq_true rfl) dX1_add_33 36 rfl rfl (hen_x hen_v) (kk_x (kk_v (fun m5 k1 n1 => ?_))) (kx_x C h0 he_v)
  refine s_aload_n C rfl 2 rfl dX1_add_36 37 rfl ?_
  refine x_gi C 0 (RX1, TX1, 9) rfl 6 (Nat.le_of_ble_eq_true rfl) q452 (Or.inl rfl) rfl 1 rfl dX1_add_37 40 rfl (fun x4 => ?_)
  refine s_bipush C 48 rfl dX1_add_40 42 rfl ?_
  refine s_icmp_ge C dX1_add_42 70 rfl 45 rfl (fun c_ => ?_) (fun c_ => ?_)
  · refine s_aload C 1 rfl dX1_add_45 47 rfl ?_
    refine s_iload_n C rfl 3 rfl dX1_add_47 48 rfl ?_
    refine s_iload C 5 rfl dX1_add_48 50 rfl ?_
    refine s_iconst C (-1) rfl dX1_add_50 51 rfl ?_
    refine x_ck (fun hb_ hb0_ => ?_)
    refine x_callV (enc := en_i) C 16 3 [vi_ v2, vi_ v4, vi_ (-1)] 2 (ctX2_isShown C.2.2.2.2.2.2.2.2.1 N m5 x1 v2 v4 (-1)) hb_ hb0_ rfl rfl q1659 q1660 q1661 q85 q1662 hdX2_isShown (Nat.le_of_ble_eq_true rfl) (Nat.le_of_ble_eq_true rfl) rfl (Nat.le_of_ble_eq_true rfl) dX1_add_51 54 rfl rfl hen_i (kk_i (fun x5 m6 k1 n1 => ?_)) (kx_n he_i)
    refine s_if_ne C dX1_add_54 70 rfl 57 rfl (fun c_ => ?_) (fun c_ => ?_)
    · refine s_aload_n C rfl 2 rfl dX1_add_57 58 rfl ?_
      refine s_aload C 0 rfl dX1_add_58 60 rfl ?_
      refine x_ck (fun hb_ hb0_ => ?_)
      refine x_callV (enc := en_i) C 13 1 [vr_ x3] 1 (ctX1_fits C.2.2.2.2.2.2.2.2.1 N m6 v0 x3) hb_ hb0_ rfl rfl q1680 q1682 qs10 q81 q1683 hdX1_fits (Nat.le_of_ble_eq_true rfl) (Nat.le_of_ble_eq_true rfl) rfl (Nat.le_of_ble_eq_true rfl) dX1_add_60 63 rfl rfl hen_i (kk_i (fun x6 m7 k1 n1 => ?_)) (kx_n he_i)
      refine s_if_eq C dX1_add_63 70 rfl 66 rfl (fun c_ => ?_) (fun c_ => ?_)
      · refine Sm_sub [2, 3, 4, 5, 1] rfl ?_
        exact wX1_add_b70 C hret h0 hin N _ _ _ _ _ _ _ _
      · refine s_iconst C 1 rfl dX1_add_66 67 rfl ?_
        refine s_goto C (off := 4) 71 dX1_add_67 rfl ?_
        refine Sm_sub [2, 3, 4, 5, 1] rfl ?_
        exact wX1_add_b71 C hret h0 hin N _ _ _ _ _ _ _ _ _
    · refine Sm_sub [2, 3, 4, 5, 1] rfl ?_
      exact wX1_add_b70 C hret h0 hin N _ _ _ _ _ _ _ _
  · refine Sm_sub [2, 3, 4, 5, 1] rfl ?_
    exact wX1_add_b70 C hret h0 hin N _ _ _ _ _ _ _ _
theorem hdX1_add : ((⟨"MasterTree", "add", "(IIII)I"⟩ : MethodName)).cls ≠ "java/lang/invoke/MethodHandle" ∧ ((⟨"MasterTree", "add", "(IIII)I"⟩ : MethodName)).cls ≠ "java/lang/invoke/VarHandle" ∧ (parseMethodDescriptor ((⟨"MasterTree", "add", "(IIII)I"⟩ : MethodName)).desc).map (fun d => d.parameters.length) = some 4 := ⟨by decide +kernel, by decide +kernel, by decide +kernel⟩
theorem ctX1_add {l : Launch} {g : GG} (hst : l.stackTraces = false) (N : Nat) (m : Mm) (v0 : Option Nat) (v1 : Int32) (v2 : Int32) (v3 : Int32) (v4 : Int32) : ∀ v m' k n, fX1_add (gE_ g) N m v0 v1 v2 v3 v4 = some (v, m', k, n) → Ct_ l g (⟨"MasterTree", "add", "(IIII)I"⟩ : MethodName) (ws_ (⟨"MasterTree", "add", "(IIII)I"⟩ : MethodName) cX1_add 10 (Option.some Jvm.ClassFile.FieldType.int)) 24 [vr_ v0, vi_ v1, vi_ v2, vi_ v3, vi_ v4] m ((xe_ en_i) v) m' k n :=
  Ct_of (by decide +kernel) rfl hst (Nat.le_of_ble_eq_true rfl) rfl (fun E C hret h0 hin => wX1_add C hret h0 hin N m v0 v1 v2 v3 v4 0 0)
theorem wX0_add {l : Launch} {g : GG} {E : Me_} (C : Cx_ l g E "MasterTreeLaw" cX0_add 7 25) (hret : (eT_ E).sig.returnType = (Option.some Jvm.ClassFile.FieldType.int)) (h0 : (eC_ E).exceptionTable.toList = tableOf [(0, 14, 17, 19), (0, 14, 21, 28), (0, 14, 25, 13)]) (hin : (eT_ E).name = "add") (N : Nat) : ∀ (m : Mm) (v0 : Option Nat) (v1 : Int32) (v2 : Int32) (v3 : Int32) (v4 : Int32) (v5 : Option Nat) (k n : Nat), Sm_ l g E 7 en_i (fX0_add (gE_ g) N m v0 v1 v2 v3 v4 v5) k n 0 [(0, vr_ v0), (1, vi_ v1), (2, vi_ v2), (3, vi_ v3), (4, vi_ v4), (5, vr_ v5)] [] m := by
  intro m v0 v1 v2 v3 v4 v5 k n
  unfold fX0_add
  refine s_aload C 5 rfl dX0_add_0 2 rfl ?_
  refine s_iconst C 0 rfl dX0_add_2 3 rfl ?_
  refine s_aload_n C rfl 0 rfl dX0_add_3 4 rfl ?_
  refine s_iload_n C rfl 1 rfl dX0_add_4 5 rfl ?_
  refine s_iload_n C rfl 2 rfl dX0_add_5 6 rfl ?_
  refine s_iload_n C rfl 3 rfl dX0_add_6 7 rfl ?_
  refine s_iload C 4 rfl dX0_add_7 9 rfl ?_
  refine x_ck (fun hb_ hb0_ => ?_)
  refine x_callV (enc := (xe_ en_i)) C 24 4 [vi_ v1, vi_ v2, vi_ v3, vi_ v4] 1 (ctX1_add C.2.2.2.2.2.2.2.2.1 N m v0 v1 v2 v3 v4) hb_ hb0_ rfl rfl q964 q965 q966 q81 q967 hdX1_add (Nat.le_of_ble_eq_true rfl) (Nat.le_of_ble_eq_true rfl) rfl (Nat.le_of_ble_eq_true rfl) dX0_add_9 12 rfl rfl (hen_x hen_i) (kk_c (kk_i (fun x1 m1 k1 n1 => ?_))) (kx_c he_i (fun i_ m0 k0 n0 => ?_))
  · refine s_i2l C dX0_add_12 13 rfl ?_
    refine x_bj3 C 203 rfl dX0_add_13 14 rfl (fun m2 => ?_)
    refine s_goto C (off := 15) 29 dX0_add_14 rfl ?_
    refine s_iconst C 0 rfl dX0_add_29 30 rfl ?_
    exact x_iret C hret rfl dX0_add_30
  · refine Sx_if ?_ ?_
    · refine Sx_ctch C h0 0 [] ({ startPc := 0, endPc := 14, handlerPc := 17, catchType := 19 } : ExceptionTableEntry) [{ startPc := 0, endPc := 14, handlerPc := 21, catchType := 28 }, { startPc := 0, endPc := 14, handlerPc := 25, catchType := 13 }] rfl (fun z hz => by cases hz) (by decide) (by decide) q600 q638 17 rfl (fun q_ => ?_)
      refine s_astore C (Nat.le_of_ble_eq_true rfl) [] rfl rfl dX0_add_17 19 rfl ?_
      refine s_iconst C 1 rfl dX0_add_19 20 rfl ?_
      exact x_iret C hret rfl dX0_add_20
    refine Sx_if ?_ ?_
    · refine Sx_ctch C h0 1 [{ startPc := 0, endPc := 14, handlerPc := 17, catchType := 19 }] ({ startPc := 0, endPc := 14, handlerPc := 21, catchType := 28 } : ExceptionTableEntry) [{ startPc := 0, endPc := 14, handlerPc := 25, catchType := 13 }] rfl (List.forall_mem_cons.mpr ⟨Or.inr ⟨by decide, "java/lang/IndexOutOfBoundsException", q600, List.mem_of_getElem? (i := 2) rfl⟩, fun z hz => by cases hz⟩) (by decide) (by decide) q943 q845 21 rfl (fun q_ => ?_)
      refine s_astore C (Nat.le_of_ble_eq_true rfl) [] rfl rfl dX0_add_21 23 rfl ?_
      refine s_iconst C 2 rfl dX0_add_23 24 rfl ?_
      exact x_iret C hret rfl dX0_add_24
    refine Sx_if ?_ ?_
    · refine Sx_ctch C h0 2 [{ startPc := 0, endPc := 14, handlerPc := 17, catchType := 19 }, { startPc := 0, endPc := 14, handlerPc := 21, catchType := 28 }] ({ startPc := 0, endPc := 14, handlerPc := 25, catchType := 13 } : ExceptionTableEntry) [] rfl (List.forall_mem_cons.mpr ⟨Or.inr ⟨by decide, "java/lang/IndexOutOfBoundsException", q600, List.mem_of_getElem? (i := 4) rfl⟩, List.forall_mem_cons.mpr ⟨Or.inr ⟨by decide, "java/lang/IllegalArgumentException", q943, List.mem_of_getElem? (i := 5) rfl⟩, fun z hz => by cases hz⟩⟩) (by decide) (by decide) q504 q515 25 rfl (fun q_ => ?_)
      refine s_astore C (Nat.le_of_ble_eq_true rfl) [] rfl rfl dX0_add_25 27 rfl ?_
      refine s_iconst C 3 rfl dX0_add_27 28 rfl ?_
      exact x_iret C hret rfl dX0_add_28
    exact Sx_none
theorem hdX0_add : ((⟨"MasterTreeLaw", "add", "(LMasterTree;IIII[J)I"⟩ : MethodName)).cls ≠ "java/lang/invoke/MethodHandle" ∧ ((⟨"MasterTreeLaw", "add", "(LMasterTree;IIII[J)I"⟩ : MethodName)).cls ≠ "java/lang/invoke/VarHandle" ∧ (parseMethodDescriptor ((⟨"MasterTreeLaw", "add", "(LMasterTree;IIII[J)I"⟩ : MethodName)).desc).map (fun d => d.parameters.length) = some 6 := ⟨by decide +kernel, by decide +kernel, by decide +kernel⟩
theorem ctX0_add {l : Launch} {g : GG} (hst : l.stackTraces = false) (N : Nat) (m : Mm) (v0 : Option Nat) (v1 : Int32) (v2 : Int32) (v3 : Int32) (v4 : Int32) (v5 : Option Nat) : ∀ v m' k n, fX0_add (gE_ g) N m v0 v1 v2 v3 v4 v5 = some (v, m', k, n) → Ct_ l g (⟨"MasterTreeLaw", "add", "(LMasterTree;IIII[J)I"⟩ : MethodName) (wsW_ (⟨"MasterTreeLaw", "add", "(LMasterTree;IIII[J)I"⟩ : MethodName) cX0_add 7 (Option.some Jvm.ClassFile.FieldType.int) [(0, 14, 17, 19), (0, 14, 21, 28), (0, 14, 25, 13)]) 25 [vr_ v0, vi_ v1, vi_ v2, vi_ v3, vi_ v4, vr_ v5] m (en_i v) m' k n :=
  Ct_ofW (by decide +kernel) rfl hst (Nat.le_of_ble_eq_true rfl) rfl (fun E C hret h0 hin => wX0_add C hret h0 hin N m v0 v1 v2 v3 v4 v5 0 0)
theorem wX1_makes_2 {l : Launch} {g : GG} {E : Me_} (C : Cx_ l g E "MasterTree" cX1_makes_2 6 24) (hret : (eT_ E).sig.returnType = (Option.none : Option Jvm.ClassFile.FieldType)) (h0 : ∀ x ∈ (eC_ E).exceptionTable.toList, False) (hin : (eT_ E).name = "makes") (N : Nat) : ∀ (m : Mm) (v0 : Option Nat) (v1 : Option Nat) (v2 : Option Nat) (v3 : Int32) (v4 : Int32) (v5 : Int32) (k n : Nat), Sm_ l g E 6 en_v (fX1_makes_2 (gE_ g) N m v0 v1 v2 v3 v4 v5) k n 0 [(0, vr_ v0), (1, vr_ v1), (2, vr_ v2), (3, vi_ v3), (4, vi_ v4), (5, vi_ v5)] [] m := by
  intro m v0 v1 v2 v3 v4 v5 k n
  unfold fX1_makes_2
  refine s_aload_n C rfl 0 rfl dX1_makes_2_0 1 rfl ?_
  refine s_aload_n C rfl 1 rfl dX1_makes_2_1 2 rfl ?_
  refine s_aload_n C rfl 2 rfl dX1_makes_2_2 3 rfl ?_
  refine s_iload_n C rfl 3 rfl dX1_makes_2_3 4 rfl ?_
  refine s_iload C 4 rfl dX1_makes_2_4 6 rfl ?_
  refine s_iload C 5 rfl dX1_makes_2_6 8 rfl ?_
  refine s_iconst C (-1) rfl dX1_makes_2_8 9 rfl ?_
  refine s_null C dX1_makes_2_9 10 rfl ?_
  refine x_ck (fun hb_ hb0_ => ?_)
  refine x_callV (enc := en_v) C 23 7 [vr_ v1, vr_ v2, vi_ v3, vi_ v4, vi_ v5, vi_ (-1), vr_ none] 1 (ctX1_makes C.2.2.2.2.2.2.2.2.1 N m v0 v1 v2 v3 v4 v5 (-1) none) hb_ hb0_ rfl rfl q1721 q1723 qs11 q81 q1724 hdX1_makes (Nat.le_of_ble_eq_true rfl) (Nat.le_of_ble_eq_true rfl) rfl (Nat.le_of_ble_eq_true rfl) dX1_makes_2_10 13 rfl rfl hen_v (kk_v (fun m1 k1 n1 => ?_)) (kx_n he_v)
  exact x_vret C hret rfl dX1_makes_2_13
theorem hdX1_makes_2 : ((⟨"MasterTree", "makes", "(LMasterTree$Master;LMasterTree$Kind;III)V"⟩ : MethodName)).cls ≠ "java/lang/invoke/MethodHandle" ∧ ((⟨"MasterTree", "makes", "(LMasterTree$Master;LMasterTree$Kind;III)V"⟩ : MethodName)).cls ≠ "java/lang/invoke/VarHandle" ∧ (parseMethodDescriptor ((⟨"MasterTree", "makes", "(LMasterTree$Master;LMasterTree$Kind;III)V"⟩ : MethodName)).desc).map (fun d => d.parameters.length) = some 5 := ⟨by decide +kernel, by decide +kernel, by decide +kernel⟩
theorem ctX1_makes_2 {l : Launch} {g : GG} (hst : l.stackTraces = false) (N : Nat) (m : Mm) (v0 : Option Nat) (v1 : Option Nat) (v2 : Option Nat) (v3 : Int32) (v4 : Int32) (v5 : Int32) : ∀ v m' k n, fX1_makes_2 (gE_ g) N m v0 v1 v2 v3 v4 v5 = some (v, m', k, n) → Ct_ l g (⟨"MasterTree", "makes", "(LMasterTree$Master;LMasterTree$Kind;III)V"⟩ : MethodName) (ws_ (⟨"MasterTree", "makes", "(LMasterTree$Master;LMasterTree$Kind;III)V"⟩ : MethodName) cX1_makes_2 6 (Option.none : Option Jvm.ClassFile.FieldType)) 24 [vr_ v0, vr_ v1, vr_ v2, vi_ v3, vi_ v4, vi_ v5] m (en_v v) m' k n :=
  Ct_of (by decide +kernel) rfl hst (Nat.le_of_ble_eq_true rfl) rfl (fun E C hret h0 hin => wX1_makes_2 C hret h0 hin N m v0 v1 v2 v3 v4 v5 0 0)
theorem wJ4_size {l : Launch} {g : GG} {E : Me_} (C : Cx_ l g E "java/util/TreeMap" cJ4_size 1 10) (hret : (eT_ E).sig.returnType = (Option.some Jvm.ClassFile.FieldType.int)) (h0 : ∀ x ∈ (eC_ E).exceptionTable.toList, False) (hin : (eT_ E).name = "size") (N : Nat) : ∀ (m : Mm) (v0 : Option Nat) (k n : Nat), Sm_ l g E 1 en_i (fJ4_size (gE_ g) N m v0) k n 0 [(0, vr_ v0)] [] m := by
  intro m v0 k n
  unfold fJ4_size
  refine s_aload_n C rfl 0 rfl dJ4_size_0 1 rfl ?_
  refine x_gi C 14 (RJ4, TJ4, 9) rfl 4 (Nat.le_of_ble_eq_true rfl) q206 (Or.inl rfl) rfl 15 rfl dJ4_size_1 4 rfl (fun x1 => ?_)
  exact x_iret C hret rfl dJ4_size_4
theorem hdJ4_size : ((⟨"java/util/TreeMap", "size", "()I"⟩ : MethodName)).cls ≠ "java/lang/invoke/MethodHandle" ∧ ((⟨"java/util/TreeMap", "size", "()I"⟩ : MethodName)).cls ≠ "java/lang/invoke/VarHandle" ∧ (parseMethodDescriptor ((⟨"java/util/TreeMap", "size", "()I"⟩ : MethodName)).desc).map (fun d => d.parameters.length) = some 0 := ⟨by decide +kernel, by decide +kernel, by decide +kernel⟩
theorem ctJ4_size {l : Launch} {g : GG} (hst : l.stackTraces = false) (N : Nat) (m : Mm) (v0 : Option Nat) : ∀ v m' k n, fJ4_size (gE_ g) N m v0 = some (v, m', k, n) → Ct_ l g (⟨"java/util/TreeMap", "size", "()I"⟩ : MethodName) (ws_ (⟨"java/util/TreeMap", "size", "()I"⟩ : MethodName) cJ4_size 1 (Option.some Jvm.ClassFile.FieldType.int)) 10 [vr_ v0] m (en_i v) m' k n :=
  Ct_of (by decide +kernel) rfl hst (Nat.le_of_ble_eq_true rfl) rfl (fun E C hret h0 hin => wJ4_size C hret h0 hin N m v0 0 0)
theorem wJ40_size_t22_b109 {l : Launch} {g : GG} {E : Me_} (C : Cx_ l g E "java/util/TreeMap$NavigableSubMap$EntrySetView" cJ40_size 2 17) (hret : (eT_ E).sig.returnType = (Option.some Jvm.ClassFile.FieldType.int)) (h0 : ∀ x ∈ (eC_ E).exceptionTable.toList, False) (hin : (eT_ E).name = "size") (N : Nat) : ∀ (m : Mm) (v0 : Option Nat) (k n : Nat), Sm_ l g E 2 en_i (fJ40_size_t22_b109 (gE_ g) N m v0) k n 109 [(0, vr_ v0)] [] m := by
  intro m v0 k n
  unfold fJ40_size_t22_b109
  refine s_aload_n C rfl 0 rfl dJ40_size_109 110 rfl ?_
  refine x_gi C 21 (RJ41, TJ41, 4) rfl 0 (Nat.le_of_ble_eq_true rfl) q2079 (Or.inl rfl) rfl 22 rfl dJ40_size_110 113 rfl (fun x1 => ?_)
  exact x_iret C hret rfl dJ40_size_113
theorem wJ40_size_t22_b80 {l : Launch} {g : GG} {E : Me_} (C : Cx_ l g E "java/util/TreeMap$NavigableSubMap$EntrySetView" cJ40_size 2 17) (hret : (eT_ E).sig.returnType = (Option.some Jvm.ClassFile.FieldType.int)) (h0 : ∀ x ∈ (eC_ E).exceptionTable.toList, False) (hin : (eT_ E).name = "size") (N : Nat) : ∀ (F : Nat) (m : Mm) (v0 : Option Nat) (v1 : Option Nat) (k n : Nat), Sm_ l g E 2 en_i (fJ40_size_t22_b80 (gE_ g) N F m v0 v1) k n 80 [(0, vr_ v0), (1, vr_ v1)] [] m := by
  intro F
  induction F with
  | zero => intros; exact Sm_none
  | succ F ih =>
    intro m v0 v1 k n
    unfold fJ40_size_t22_b80
    refine s_aload_n C rfl 1 rfl dJ40_size_80 81 rfl ?_
    refine x_ck (fun hb_ hb0_ => ?_)
    refine x_callF (enc := en_i) C 10 0 [] 23 (ctJ26_hasNext_t23 C.2.2.2.2.2.2.2.2.1 N m v1) hb_ hb0_ rfl rfl rfl fw_16 q2352 q1473 q1475 q114 q1477 hx3 (Nat.le_of_ble_eq_true rfl) (Nat.le_of_ble_eq_true rfl) rfl (Nat.le_of_ble_eq_true rfl) dJ40_size_81 86 rfl rfl hen_i (kk_i (fun x1 m1 k1 n1 => ?_)) (kx_n he_i)
    refine s_if_eq C dJ40_size_86 109 rfl 89 rfl (fun c_ => ?_) (fun c_ => ?_)
    · refine Sm_sub [0] rfl ?_
      exact wJ40_size_t22_b109 C hret h0 hin N _ _ _ _
    · refine s_aload_n C rfl 0 rfl dJ40_size_89 90 rfl ?_
      refine s_dup C rfl dJ40_size_90 91 rfl ?_
      refine x_gi C 21 (RJ41, TJ41, 4) rfl 0 (Nat.le_of_ble_eq_true rfl) q2079 (Or.inl rfl) rfl 22 rfl dJ40_size_91 94 rfl (fun x2 => ?_)
      refine s_iconst C 1 rfl dJ40_size_94 95 rfl ?_
      refine s_iadd C dJ40_size_95 96 rfl ?_
      refine x_pi C 21 (RJ41, TJ41, 4) rfl 0 (Nat.le_of_ble_eq_true rfl) rfl q2079 (Or.inl rfl) rfl trivial 22 rfl dJ40_size_96 99 rfl (fun m2 => ?_)
      refine s_aload_n C rfl 1 rfl dJ40_size_99 100 rfl ?_
      refine x_ck (fun hb_ hb0_ => ?_)
      refine x_callF (enc := en_r) C 13 0 [] 23 (ctJ27_next C.2.2.2.2.2.2.2.2.1 N m2 v1) hb_ hb0_ rfl rfl rfl fw_22 q2354 q1530 q1532 q115 q1534 hx5 (Nat.le_of_ble_eq_true rfl) (Nat.le_of_ble_eq_true rfl) rfl (Nat.le_of_ble_eq_true rfl) dJ40_size_100 105 rfl rfl hen_r (kk_r (fun x3 m3 k1 n1 => ?_)) (kx_n he_r)
      refine s_pop C rfl dJ40_size_105 106 rfl ?_
      refine s_goto C (off := -26) 80 dJ40_size_106 rfl ?_
      exact ih _ _ _ _ _
theorem wJ40_size_t22_b56 {l : Launch} {g : GG} {E : Me_} (C : Cx_ l g E "java/util/TreeMap$NavigableSubMap$EntrySetView" cJ40_size 2 17) (hret : (eT_ E).sig.returnType = (Option.some Jvm.ClassFile.FieldType.int)) (h0 : ∀ x ∈ (eC_ E).exceptionTable.toList, False) (hin : (eT_ E).name = "size") (N : Nat) : ∀ (m : Mm) (v0 : Option Nat) (k n : Nat), Sm_ l g E 2 en_i (fJ40_size_t22_b56 (gE_ g) N m v0) k n 56 [(0, vr_ v0)] [] m := by
  intro m v0 k n
  unfold fJ40_size_t22_b56
  refine s_aload_n C rfl 0 rfl dJ40_size_56 57 rfl ?_
  refine s_aload_n C rfl 0 rfl dJ40_size_57 58 rfl ?_
  refine x_gr C 21 (RJ41, TJ41, 4) rfl 2 (Nat.le_of_ble_eq_true rfl) q2081 (Or.inl rfl) rfl 22 rfl dJ40_size_58 61 rfl (fun x1 => ?_)
  refine x_gr C 20 (RJ39, TJ39, 12) rfl 0 (Nat.le_of_ble_eq_true rfl) q2013 (Or.inl rfl) rfl 21 rfl dJ40_size_61 64 rfl (fun x2 => ?_)
  refine x_giN C 14 (RJ4, TJ4, 9) rfl 5 (Nat.le_of_ble_eq_true rfl) q210 rfl rfl 15 rfl dJ40_size_64 67 rfl (fun x3 => ?_)
  refine x_pi C 21 (RJ41, TJ41, 4) rfl 1 (Nat.le_of_ble_eq_true rfl) rfl q2080 (Or.inl rfl) rfl trivial 22 rfl dJ40_size_67 70 rfl (fun m1 => ?_)
  refine s_aload_n C rfl 0 rfl dJ40_size_70 71 rfl ?_
  refine s_iconst C 0 rfl dJ40_size_71 72 rfl ?_
  refine x_pi C 21 (RJ41, TJ41, 4) rfl 0 (Nat.le_of_ble_eq_true rfl) rfl q2079 (Or.inl rfl) rfl trivial 22 rfl dJ40_size_72 75 rfl (fun m2 => ?_)
  refine s_aload_n C rfl 0 rfl dJ40_size_75 76 rfl ?_
  refine x_ck (fun hb_ hb0_ => ?_)
  refine x_callA (enc := en_r) (owner := "java/util/AbstractCollection") C 16 0 [] 22 (ctJ41_iterator C.2.2.2.2.2.2.2.2.1 N m2 v0) hb_ hb0_ rfl rfl q2348 q2349 q2350 q1019 q134 q1021 q2101 ⟨by decide +kernel, by decide +kernel, by decide +kernel⟩ (Nat.le_of_ble_eq_true rfl) (Nat.le_of_ble_eq_true rfl) rfl (Nat.le_of_ble_eq_true rfl) dJ40_size_76 79 rfl rfl hen_r (kk_r (fun x4 m3 k1 n1 => ?_)) (kx_n he_r)
  refine s_astore_n C rfl (Nat.le_of_ble_eq_true rfl) [0] rfl rfl dJ40_size_79 80 rfl ?_
  refine Sm_sub [1, 0] rfl ?_
  exact wJ40_size_t22_b80 C hret h0 hin N N _ _ _ _ _
theorem wJ40_size_t22_b31 {l : Launch} {g : GG} {E : Me_} (C : Cx_ l g E "java/util/TreeMap$NavigableSubMap$EntrySetView" cJ40_size 2 17) (hret : (eT_ E).sig.returnType = (Option.some Jvm.ClassFile.FieldType.int)) (h0 : ∀ x ∈ (eC_ E).exceptionTable.toList, False) (hin : (eT_ E).name = "size") (N : Nat) : ∀ (m : Mm) (v0 : Option Nat) (k n : Nat), Sm_ l g E 2 en_i (fJ40_size_t22_b31 (gE_ g) N m v0) k n 31 [(0, vr_ v0)] [] m := by
  intro m v0 k n
  unfold fJ40_size_t22_b31
  refine s_aload_n C rfl 0 rfl dJ40_size_31 32 rfl ?_
  refine x_gi C 21 (RJ41, TJ41, 4) rfl 0 (Nat.le_of_ble_eq_true rfl) q2079 (Or.inl rfl) rfl 22 rfl dJ40_size_32 35 rfl (fun x1 => ?_)
  refine s_iconst C (-1) rfl dJ40_size_35 36 rfl ?_
  refine s_icmp_eq C dJ40_size_36 56 rfl 39 rfl (fun c_ => ?_) (fun c_ => ?_)
  · exact wJ40_size_t22_b56 C hret h0 hin N _ _ _ _
  · refine s_aload_n C rfl 0 rfl dJ40_size_39 40 rfl ?_
    refine x_gi C 21 (RJ41, TJ41, 4) rfl 1 (Nat.le_of_ble_eq_true rfl) q2080 (Or.inl rfl) rfl 22 rfl dJ40_size_40 43 rfl (fun x2 => ?_)
    refine s_aload_n C rfl 0 rfl dJ40_size_43 44 rfl ?_
    refine x_gr C 21 (RJ41, TJ41, 4) rfl 2 (Nat.le_of_ble_eq_true rfl) q2081 (Or.inl rfl) rfl 22 rfl dJ40_size_44 47 rfl (fun x3 => ?_)
    refine x_gr C 20 (RJ39, TJ39, 12) rfl 0 (Nat.le_of_ble_eq_true rfl) q2013 (Or.inl rfl) rfl 21 rfl dJ40_size_47 50 rfl (fun x4 => ?_)
    refine x_giN C 14 (RJ4, TJ4, 9) rfl 5 (Nat.le_of_ble_eq_true rfl) q210 rfl rfl 15 rfl dJ40_size_50 53 rfl (fun x5 => ?_)
    refine s_icmp_eq C dJ40_size_53 109 rfl 56 rfl (fun c_ => ?_) (fun c_ => ?_)
    · exact wJ40_size_t22_b109 C hret h0 hin N _ _ _ _
    · exact wJ40_size_t22_b56 C hret h0 hin N _ _ _ _
theorem wJ40_size_t22 {l : Launch} {g : GG} {E : Me_} (C : Cx_ l g E "java/util/TreeMap$NavigableSubMap$EntrySetView" cJ40_size 2 17) (hret : (eT_ E).sig.returnType = (Option.some Jvm.ClassFile.FieldType.int)) (h0 : ∀ x ∈ (eC_ E).exceptionTable.toList, False) (hin : (eT_ E).name = "size") (N : Nat) : ∀ (m : Mm) (v0 : Option Nat) (k n : Nat), Sm_ l g E 2 en_i (fJ40_size_t22 (gE_ g) N m v0) k n 0 [(0, vr_ v0)] [] m := by
  intro m v0 k n
  unfold fJ40_size_t22
  refine s_aload_n C rfl 0 rfl dJ40_size_0 1 rfl ?_
  refine x_gr C 21 (RJ41, TJ41, 4) rfl 2 (Nat.le_of_ble_eq_true rfl) q2081 (Or.inl rfl) rfl 22 rfl dJ40_size_1 4 rfl (fun x1 => ?_)
  refine x_gi C 20 (RJ39, TJ39, 12) rfl 3 (Nat.le_of_ble_eq_true rfl) q2017 (Or.inl rfl) rfl 21 rfl dJ40_size_4 7 rfl (fun x2 => ?_)
  refine s_if_eq C dJ40_size_7 31 rfl 10 rfl (fun c_ => ?_) (fun c_ => ?_)
  · exact wJ40_size_t22_b31 C hret h0 hin N _ _ _ _
  · refine s_aload_n C rfl 0 rfl dJ40_size_10 11 rfl ?_
    refine x_gr C 21 (RJ41, TJ41, 4) rfl 2 (Nat.le_of_ble_eq_true rfl) q2081 (Or.inl rfl) rfl 22 rfl dJ40_size_11 14 rfl (fun x3 => ?_)
    refine x_gi C 20 (RJ39, TJ39, 12) rfl 4 (Nat.le_of_ble_eq_true rfl) q2019 (Or.inl rfl) rfl 21 rfl dJ40_size_14 17 rfl (fun x4 => ?_)
    refine s_if_eq C dJ40_size_17 31 rfl 20 rfl (fun c_ => ?_) (fun c_ => ?_)
    · exact wJ40_size_t22_b31 C hret h0 hin N _ _ _ _
    · refine s_aload_n C rfl 0 rfl dJ40_size_20 21 rfl ?_
      refine x_gr C 21 (RJ41, TJ41, 4) rfl 2 (Nat.le_of_ble_eq_true rfl) q2081 (Or.inl rfl) rfl 22 rfl dJ40_size_21 24 rfl (fun x5 => ?_)
      refine x_gr C 20 (RJ39, TJ39, 12) rfl 0 (Nat.le_of_ble_eq_true rfl) q2013 (Or.inl rfl) rfl 21 rfl dJ40_size_24 27 rfl (fun x6 => ?_)
      refine x_ck (fun hb_ hb0_ => ?_)
      refine x_callV (enc := en_i) C 10 0 [] 15 (ctJ4_size C.2.2.2.2.2.2.2.2.1 N m x6) hb_ hb0_ rfl rfl q2347 q2329 q3729 q87 q2330 hdJ4_size (Nat.le_of_ble_eq_true rfl) (Nat.le_of_ble_eq_true rfl) rfl (Nat.le_of_ble_eq_true rfl) dJ40_size_27 30 rfl rfl hen_i (kk_i (fun x7 m1 k1 n1 => ?_)) (kx_n he_i)
      exact x_iret C hret rfl dJ40_size_30
theorem hdJ40_size_t22 : ((⟨"java/util/TreeMap$NavigableSubMap$EntrySetView", "size", "()I"⟩ : MethodName)).cls ≠ "java/lang/invoke/MethodHandle" ∧ ((⟨"java/util/TreeMap$NavigableSubMap$EntrySetView", "size", "()I"⟩ : MethodName)).cls ≠ "java/lang/invoke/VarHandle" ∧ (parseMethodDescriptor ((⟨"java/util/TreeMap$NavigableSubMap$EntrySetView", "size", "()I"⟩ : MethodName)).desc).map (fun d => d.parameters.length) = some 0 := ⟨by decide +kernel, by decide +kernel, by decide +kernel⟩
theorem ctJ40_size_t22 {l : Launch} {g : GG} (hst : l.stackTraces = false) (N : Nat) (m : Mm) (v0 : Option Nat) : ∀ v m' k n, fJ40_size_t22 (gE_ g) N m v0 = some (v, m', k, n) → Ct_ l g (⟨"java/util/TreeMap$NavigableSubMap$EntrySetView", "size", "()I"⟩ : MethodName) (ws_ (⟨"java/util/TreeMap$NavigableSubMap$EntrySetView", "size", "()I"⟩ : MethodName) cJ40_size 2 (Option.some Jvm.ClassFile.FieldType.int)) 17 [vr_ v0] m (en_i v) m' k n :=
  Ct_of (by decide +kernel) rfl hst (Nat.le_of_ble_eq_true rfl) rfl (fun E C hret h0 hin => wJ40_size_t22 C hret h0 hin N m v0 0 0)
