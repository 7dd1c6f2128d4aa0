set_option maxRecDepth 100000
abbrev cJ4_addEntryToEmptyMap : ByteArray := prog_79_method_30_code
def yJ4_addEntryToEmptyMap : MethodName := ⟨RJ4, "addEntryToEmptyMap", "(Ljava/lang/Object;Ljava/lang/Object;)V"⟩
def dkwJ4_addEntryToEmptyMap_1 : List UInt8 := [181, 0, 7, 42, 89, 180, 0, 13, 4, 96, 181, 0, 13, 177]
abbrev dktJ4_addEntryToEmptyMap_1 : List UInt8 := dkwJ4_addEntryToEmptyMap_1 ++ []
def dkwJ4_addEntryToEmptyMap_0 : List UInt8 := [42, 43, 43, 182, 0, 123, 87, 42, 187, 0, 59, 89, 43, 44, 1, 183, 0, 167, 181, 0, 101, 42, 4]
abbrev dktJ4_addEntryToEmptyMap_0 : List UInt8 := dkwJ4_addEntryToEmptyMap_0 ++ dktJ4_addEntryToEmptyMap_1
theorem dksJ4_addEntryToEmptyMap_0 : cJ4_addEntryToEmptyMap.data.toList.drop 0 = dktJ4_addEntryToEmptyMap_0 := by decide +kernel
theorem dksJ4_addEntryToEmptyMap_1 : cJ4_addEntryToEmptyMap.data.toList.drop 23 = dktJ4_addEntryToEmptyMap_1 := dk_seg dksJ4_addEntryToEmptyMap_0 23 rfl rfl
theorem dJ4_addEntryToEmptyMap_0 : decode cJ4_addEntryToEmptyMap 0 = .ok (.aload_n 0, 1) := dk_42 (dk_at dksJ4_addEntryToEmptyMap_0 0 rfl rfl)
theorem dJ4_addEntryToEmptyMap_1 : decode cJ4_addEntryToEmptyMap 1 = .ok (.aload_n 1, 1) := dk_43 (dk_at dksJ4_addEntryToEmptyMap_0 1 rfl rfl)
theorem dJ4_addEntryToEmptyMap_2 : decode cJ4_addEntryToEmptyMap 2 = .ok (.aload_n 1, 1) := dk_43 (dk_at dksJ4_addEntryToEmptyMap_0 2 rfl rfl)
theorem dJ4_addEntryToEmptyMap_3 : decode cJ4_addEntryToEmptyMap 3 = .ok (.invokevirtual 123, 3) := dk_182 0 123 (dk_at dksJ4_addEntryToEmptyMap_0 3 rfl rfl)
theorem dJ4_addEntryToEmptyMap_6 : decode cJ4_addEntryToEmptyMap 6 = .ok (.pop, 1) := dk_87 (dk_at dksJ4_addEntryToEmptyMap_0 6 rfl rfl)
theorem dJ4_addEntryToEmptyMap_7 : decode cJ4_addEntryToEmptyMap 7 = .ok (.aload_n 0, 1) := dk_42 (dk_at dksJ4_addEntryToEmptyMap_0 7 rfl rfl)
theorem dJ4_addEntryToEmptyMap_8 : decode cJ4_addEntryToEmptyMap 8 = .ok (.new 59, 3) := dk_187 0 59 (dk_at dksJ4_addEntryToEmptyMap_0 8 rfl rfl)
theorem dJ4_addEntryToEmptyMap_11 : decode cJ4_addEntryToEmptyMap 11 = .ok (.dup, 1) := dk_89 (dk_at dksJ4_addEntryToEmptyMap_0 11 rfl rfl)
theorem dJ4_addEntryToEmptyMap_12 : decode cJ4_addEntryToEmptyMap 12 = .ok (.aload_n 1, 1) := dk_43 (dk_at dksJ4_addEntryToEmptyMap_0 12 rfl rfl)
theorem dJ4_addEntryToEmptyMap_13 : decode cJ4_addEntryToEmptyMap 13 = .ok (.aload_n 2, 1) := dk_44 (dk_at dksJ4_addEntryToEmptyMap_0 13 rfl rfl)
theorem dJ4_addEntryToEmptyMap_14 : decode cJ4_addEntryToEmptyMap 14 = .ok (.aconst_null, 1) := dk_1 (dk_at dksJ4_addEntryToEmptyMap_0 14 rfl rfl)
theorem dJ4_addEntryToEmptyMap_15 : decode cJ4_addEntryToEmptyMap 15 = .ok (.invokespecial 167, 3) := dk_183 0 167 (dk_at dksJ4_addEntryToEmptyMap_0 15 rfl rfl)
theorem dJ4_addEntryToEmptyMap_18 : decode cJ4_addEntryToEmptyMap 18 = .ok (.putfield 101, 3) := dk_181 0 101 (dk_at dksJ4_addEntryToEmptyMap_0 18 rfl rfl)
theorem dJ4_addEntryToEmptyMap_21 : decode cJ4_addEntryToEmptyMap 21 = .ok (.aload_n 0, 1) := dk_42 (dk_at dksJ4_addEntryToEmptyMap_0 21 rfl rfl)
theorem dJ4_addEntryToEmptyMap_22 : decode cJ4_addEntryToEmptyMap 22 = .ok (.iconst 1, 1) := dk_4 (dk_at dksJ4_addEntryToEmptyMap_0 22 rfl rfl)
theorem dJ4_addEntryToEmptyMap_23 : decode cJ4_addEntryToEmptyMap 23 = .ok (.putfield 7, 3) := dk_181 0 7 (dk_at dksJ4_addEntryToEmptyMap_1 0 rfl rfl)
theorem dJ4_addEntryToEmptyMap_26 : decode cJ4_addEntryToEmptyMap 26 = .ok (.aload_n 0, 1) := dk_42 (dk_at dksJ4_addEntryToEmptyMap_1 3 rfl rfl)
theorem dJ4_addEntryToEmptyMap_27 : decode cJ4_addEntryToEmptyMap 27 = .ok (.dup, 1) := dk_89 (dk_at dksJ4_addEntryToEmptyMap_1 4 rfl rfl)
theorem dJ4_addEntryToEmptyMap_28 : decode cJ4_addEntryToEmptyMap 28 = .ok (.getfield 13, 3) := dk_180 0 13 (dk_at dksJ4_addEntryToEmptyMap_1 5 rfl rfl)
theorem dJ4_addEntryToEmptyMap_31 : decode cJ4_addEntryToEmptyMap 31 = .ok (.iconst 1, 1) := dk_4 (dk_at dksJ4_addEntryToEmptyMap_1 8 rfl rfl)
theorem dJ4_addEntryToEmptyMap_32 : decode cJ4_addEntryToEmptyMap 32 = .ok (.iadd, 1) := dk_96 (dk_at dksJ4_addEntryToEmptyMap_1 9 rfl rfl)
theorem dJ4_addEntryToEmptyMap_33 : decode cJ4_addEntryToEmptyMap 33 = .ok (.putfield 13, 3) := dk_181 0 13 (dk_at dksJ4_addEntryToEmptyMap_1 10 rfl rfl)
theorem dJ4_addEntryToEmptyMap_36 : decode cJ4_addEntryToEmptyMap 36 = .ok (.return_, 1) := dk_177 (dk_at dksJ4_addEntryToEmptyMap_1 13 rfl rfl)
def fJ4_addEntryToEmptyMap (e : Nat → Nat) (N : Nat) (m : Mm) (v0 : Option Nat) (v1 : Option Nat) (v2 : Option Nat) : Rs (Unit) := ck_ m v0 15 (bd_ (fJ4_compare e N m v0 v1 v1) (fun x1 m1 => nw_ m1 16 6 (fun x2 m2 => bd_ (fJ37_init e N m2 (some x2) v1 v2 none) (fun _ m3 => pr_ m3 v0 15 3 (some x2) (fun m4 => pi_ m4 v0 15 4 1 (fun m5 => gi_ m5 v0 15 5 (fun x3 => pi_ m5 v0 15 5 (x3 + 1) (fun m6 => rt_ () m6))))))))
abbrev cJ23_requireNonNull : ByteArray := prog_71_method_10_code
def yJ23_requireNonNull : MethodName := ⟨RJ23, "requireNonNull", "(Ljava/lang/Object;)Ljava/lang/Object;"⟩
def dkwJ23_requireNonNull_0 : List UInt8 := [42, 199, 0, 11, 187, 0, 84, 89, 183, 0, 86, 191, 42, 176]
abbrev dktJ23_requireNonNull_0 : List UInt8 := dkwJ23_requireNonNull_0 ++ []
theorem dksJ23_requireNonNull_0 : cJ23_requireNonNull.data.toList.drop 0 = dktJ23_requireNonNull_0 := by decide +kernel
theorem dJ23_requireNonNull_0 : decode cJ23_requireNonNull 0 = .ok (.aload_n 0, 1) := dk_42 (dk_at dksJ23_requireNonNull_0 0 rfl rfl)
theorem dJ23_requireNonNull_1 : decode cJ23_requireNonNull 1 = .ok (.ifnonnull 11, 3) := dk_199 0 11 (dk_at dksJ23_requireNonNull_0 1 rfl rfl)
theorem dJ23_requireNonNull_4 : decode cJ23_requireNonNull 4 = .ok (.new 84, 3) := dk_187 0 84 (dk_at dksJ23_requireNonNull_0 4 rfl rfl)
theorem dJ23_requireNonNull_7 : decode cJ23_requireNonNull 7 = .ok (.dup, 1) := dk_89 (dk_at dksJ23_requireNonNull_0 7 rfl rfl)
theorem dJ23_requireNonNull_8 : decode cJ23_requireNonNull 8 = .ok (.invokespecial 86, 3) := dk_183 0 86 (dk_at dksJ23_requireNonNull_0 8 rfl rfl)
theorem dJ23_requireNonNull_11 : decode cJ23_requireNonNull 11 = .ok (.athrow, 1) := dk_191 (dk_at dksJ23_requireNonNull_0 11 rfl rfl)
theorem dJ23_requireNonNull_12 : decode cJ23_requireNonNull 12 = .ok (.aload_n 0, 1) := dk_42 (dk_at dksJ23_requireNonNull_0 12 rfl rfl)
theorem dJ23_requireNonNull_13 : decode cJ23_requireNonNull 13 = .ok (.areturn, 1) := dk_176 (dk_at dksJ23_requireNonNull_0 13 rfl rfl)
def fJ23_requireNonNull (e : Nat → Nat) (N : Nat) (m : Mm) (v0 : Option Nat) : Rs (Option Nat) := if v0 = none then (none) else (rt_ v0 m)
abbrev cJ4_put_2 : ByteArray := prog_79_method_31_code
def yJ4_put_2 : MethodName := ⟨RJ4, "put", "(Ljava/lang/Object;Ljava/lang/Object;Z)Ljava/lang/Object;"⟩
def dkwJ4_put_2_9 : List UInt8 := [4, 167, 0, 4, 3, 182, 0, 139, 1, 176]
abbrev dktJ4_put_2_9 : List UInt8 := dkwJ4_put_2_9 ++ []
def dkwJ4_put_2_8 : List UInt8 := [25, 4, 44, 181, 0, 58, 25, 9, 176, 25, 4, 199, 255, 181, 42, 43, 44, 25, 6, 21, 5, 156, 0, 7]
abbrev dktJ4_put_2_8 : List UInt8 := dkwJ4_put_2_8 ++ dktJ4_put_2_9
def dkwJ4_put_2_7 : List UInt8 := [180, 0, 114, 58, 4, 167, 0, 28, 25, 4, 180, 0, 58, 58, 9, 29, 154, 0, 8, 25, 9, 199, 0, 9]
abbrev dktJ4_put_2_7 : List UInt8 := dkwJ4_put_2_7 ++ dktJ4_put_2_8
def dkwJ4_put_2_6 : List UInt8 := [21, 5, 156, 0, 13, 25, 4, 180, 0, 111, 58, 4, 167, 0, 43, 21, 5, 158, 0, 13, 25, 4]
abbrev dktJ4_put_2_6 : List UInt8 := dkwJ4_put_2_6 ++ dktJ4_put_2_7
def dkwJ4_put_2_5 : List UInt8 := [192, 0, 99, 58, 8, 25, 4, 58, 6, 25, 8, 25, 4, 180, 0, 105, 185, 0, 107, 2, 0, 54, 5]
abbrev dktJ4_put_2_5 : List UInt8 := dkwJ4_put_2_5 ++ dktJ4_put_2_6
def dkwJ4_put_2_4 : List UInt8 := [25, 4, 44, 181, 0, 58, 25, 8, 176, 25, 4, 199, 255, 180, 167, 0, 92, 43, 184, 0, 95, 87, 43]
abbrev dktJ4_put_2_4 : List UInt8 := dkwJ4_put_2_4 ++ dktJ4_put_2_5
def dkwJ4_put_2_3 : List UInt8 := [180, 0, 114, 58, 4, 167, 0, 28, 25, 4, 180, 0, 58, 58, 8, 29, 154, 0, 8, 25, 8, 199, 0, 9]
abbrev dktJ4_put_2_3 : List UInt8 := dkwJ4_put_2_3 ++ dktJ4_put_2_4
def dkwJ4_put_2_2 : List UInt8 := [54, 5, 21, 5, 156, 0, 13, 25, 4, 180, 0, 111, 58, 4, 167, 0, 43, 21, 5, 158, 0, 13, 25, 4]
abbrev dktJ4_put_2_2 : List UInt8 := dkwJ4_put_2_2 ++ dktJ4_put_2_3
def dkwJ4_put_2_1 : List UInt8 := [58, 7, 25, 7, 198, 0, 85, 25, 4, 58, 6, 25, 7, 43, 25, 4, 180, 0, 105, 185, 0, 117, 3, 0]
abbrev dktJ4_put_2_1 : List UInt8 := dkwJ4_put_2_1 ++ dktJ4_put_2_2
def dkwJ4_put_2_0 : List UInt8 := [42, 180, 0, 101, 58, 4, 25, 4, 199, 0, 11, 42, 43, 44, 182, 0, 135, 1, 176, 42, 180, 0, 16]
abbrev dktJ4_put_2_0 : List UInt8 := dkwJ4_put_2_0 ++ dktJ4_put_2_1
theorem dksJ4_put_2_0 : cJ4_put_2.data.toList.drop 0 = dktJ4_put_2_0 := by decide +kernel
theorem dksJ4_put_2_1 : cJ4_put_2.data.toList.drop 23 = dktJ4_put_2_1 := dk_seg dksJ4_put_2_0 23 rfl rfl
theorem dksJ4_put_2_2 : cJ4_put_2.data.toList.drop 47 = dktJ4_put_2_2 := dk_seg dksJ4_put_2_1 24 rfl rfl
theorem dksJ4_put_2_3 : cJ4_put_2.data.toList.drop 71 = dktJ4_put_2_3 := dk_seg dksJ4_put_2_2 24 rfl rfl
theorem dksJ4_put_2_4 : cJ4_put_2.data.toList.drop 95 = dktJ4_put_2_4 := dk_seg dksJ4_put_2_3 24 rfl rfl
theorem dksJ4_put_2_5 : cJ4_put_2.data.toList.drop 118 = dktJ4_put_2_5 := dk_seg dksJ4_put_2_4 23 rfl rfl
theorem dksJ4_put_2_6 : cJ4_put_2.data.toList.drop 141 = dktJ4_put_2_6 := dk_seg dksJ4_put_2_5 23 rfl rfl
theorem dksJ4_put_2_7 : cJ4_put_2.data.toList.drop 163 = dktJ4_put_2_7 := dk_seg dksJ4_put_2_6 22 rfl rfl
theorem dksJ4_put_2_8 : cJ4_put_2.data.toList.drop 187 = dktJ4_put_2_8 := dk_seg dksJ4_put_2_7 24 rfl rfl
theorem dksJ4_put_2_9 : cJ4_put_2.data.toList.drop 211 = dktJ4_put_2_9 := dk_seg dksJ4_put_2_8 24 rfl rfl
theorem dJ4_put_2_0 : decode cJ4_put_2 0 = .ok (.aload_n 0, 1) := dk_42 (dk_at dksJ4_put_2_0 0 rfl rfl)
theorem dJ4_put_2_1 : decode cJ4_put_2 1 = .ok (.getfield 101, 3) := dk_180 0 101 (dk_at dksJ4_put_2_0 1 rfl rfl)
theorem dJ4_put_2_4 : decode cJ4_put_2 4 = .ok (.astore 4, 2) := dk_58 4 (dk_at dksJ4_put_2_0 4 rfl rfl)
theorem dJ4_put_2_6 : decode cJ4_put_2 6 = .ok (.aload 4, 2) := dk_25 4 (dk_at dksJ4_put_2_0 6 rfl rfl)
theorem dJ4_put_2_8 : decode cJ4_put_2 8 = .ok (.ifnonnull 11, 3) := dk_199 0 11 (dk_at dksJ4_put_2_0 8 rfl rfl)
theorem dJ4_put_2_11 : decode cJ4_put_2 11 = .ok (.aload_n 0, 1) := dk_42 (dk_at dksJ4_put_2_0 11 rfl rfl)
theorem dJ4_put_2_12 : decode cJ4_put_2 12 = .ok (.aload_n 1, 1) := dk_43 (dk_at dksJ4_put_2_0 12 rfl rfl)
theorem dJ4_put_2_13 : decode cJ4_put_2 13 = .ok (.aload_n 2, 1) := dk_44 (dk_at dksJ4_put_2_0 13 rfl rfl)
theorem dJ4_put_2_14 : decode cJ4_put_2 14 = .ok (.invokevirtual 135, 3) := dk_182 0 135 (dk_at dksJ4_put_2_0 14 rfl rfl)
theorem dJ4_put_2_17 : decode cJ4_put_2 17 = .ok (.aconst_null, 1) := dk_1 (dk_at dksJ4_put_2_0 17 rfl rfl)
theorem dJ4_put_2_18 : decode cJ4_put_2 18 = .ok (.areturn, 1) := dk_176 (dk_at dksJ4_put_2_0 18 rfl rfl)
theorem dJ4_put_2_19 : decode cJ4_put_2 19 = .ok (.aload_n 0, 1) := dk_42 (dk_at dksJ4_put_2_0 19 rfl rfl)
theorem dJ4_put_2_20 : decode cJ4_put_2 20 = .ok (.getfield 16, 3) := dk_180 0 16 (dk_at dksJ4_put_2_0 20 rfl rfl)
theorem dJ4_put_2_23 : decode cJ4_put_2 23 = .ok (.astore 7, 2) := dk_58 7 (dk_at dksJ4_put_2_1 0 rfl rfl)
theorem dJ4_put_2_25 : decode cJ4_put_2 25 = .ok (.aload 7, 2) := dk_25 7 (dk_at dksJ4_put_2_1 2 rfl rfl)
theorem dJ4_put_2_27 : decode cJ4_put_2 27 = .ok (.ifnull 85, 3) := dk_198 0 85 (dk_at dksJ4_put_2_1 4 rfl rfl)
theorem dJ4_put_2_30 : decode cJ4_put_2 30 = .ok (.aload 4, 2) := dk_25 4 (dk_at dksJ4_put_2_1 7 rfl rfl)
theorem dJ4_put_2_32 : decode cJ4_put_2 32 = .ok (.astore 6, 2) := dk_58 6 (dk_at dksJ4_put_2_1 9 rfl rfl)
theorem dJ4_put_2_34 : decode cJ4_put_2 34 = .ok (.aload 7, 2) := dk_25 7 (dk_at dksJ4_put_2_1 11 rfl rfl)
theorem dJ4_put_2_36 : decode cJ4_put_2 36 = .ok (.aload_n 1, 1) := dk_43 (dk_at dksJ4_put_2_1 13 rfl rfl)
theorem dJ4_put_2_37 : decode cJ4_put_2 37 = .ok (.aload 4, 2) := dk_25 4 (dk_at dksJ4_put_2_1 14 rfl rfl)
theorem dJ4_put_2_39 : decode cJ4_put_2 39 = .ok (.getfield 105, 3) := dk_180 0 105 (dk_at dksJ4_put_2_1 16 rfl rfl)
theorem dJ4_put_2_42 : decode cJ4_put_2 42 = .ok (.invokeinterface 117 3, 5) := by decide +kernel
theorem dJ4_put_2_47 : decode cJ4_put_2 47 = .ok (.istore 5, 2) := dk_54 5 (dk_at dksJ4_put_2_2 0 rfl rfl)
theorem dJ4_put_2_49 : decode cJ4_put_2 49 = .ok (.iload 5, 2) := dk_21 5 (dk_at dksJ4_put_2_2 2 rfl rfl)
theorem dJ4_put_2_51 : decode cJ4_put_2 51 = .ok (.ifCond .ge 13, 3) := dk_156 0 13 (dk_at dksJ4_put_2_2 4 rfl rfl)
theorem dJ4_put_2_54 : decode cJ4_put_2 54 = .ok (.aload 4, 2) := dk_25 4 (dk_at dksJ4_put_2_2 7 rfl rfl)
theorem dJ4_put_2_56 : decode cJ4_put_2 56 = .ok (.getfield 111, 3) := dk_180 0 111 (dk_at dksJ4_put_2_2 9 rfl rfl)
theorem dJ4_put_2_59 : decode cJ4_put_2 59 = .ok (.astore 4, 2) := dk_58 4 (dk_at dksJ4_put_2_2 12 rfl rfl)
theorem dJ4_put_2_61 : decode cJ4_put_2 61 = .ok (.goto 43, 3) := dk_167 0 43 (dk_at dksJ4_put_2_2 14 rfl rfl)
theorem dJ4_put_2_64 : decode cJ4_put_2 64 = .ok (.iload 5, 2) := dk_21 5 (dk_at dksJ4_put_2_2 17 rfl rfl)
theorem dJ4_put_2_66 : decode cJ4_put_2 66 = .ok (.ifCond .le 13, 3) := dk_158 0 13 (dk_at dksJ4_put_2_2 19 rfl rfl)
theorem dJ4_put_2_69 : decode cJ4_put_2 69 = .ok (.aload 4, 2) := dk_25 4 (dk_at dksJ4_put_2_2 22 rfl rfl)
theorem dJ4_put_2_71 : decode cJ4_put_2 71 = .ok (.getfield 114, 3) := dk_180 0 114 (dk_at dksJ4_put_2_3 0 rfl rfl)
theorem dJ4_put_2_74 : decode cJ4_put_2 74 = .ok (.astore 4, 2) := dk_58 4 (dk_at dksJ4_put_2_3 3 rfl rfl)
theorem dJ4_put_2_76 : decode cJ4_put_2 76 = .ok (.goto 28, 3) := dk_167 0 28 (dk_at dksJ4_put_2_3 5 rfl rfl)
theorem dJ4_put_2_79 : decode cJ4_put_2 79 = .ok (.aload 4, 2) := dk_25 4 (dk_at dksJ4_put_2_3 8 rfl rfl)
theorem dJ4_put_2_81 : decode cJ4_put_2 81 = .ok (.getfield 58, 3) := dk_180 0 58 (dk_at dksJ4_put_2_3 10 rfl rfl)
theorem dJ4_put_2_84 : decode cJ4_put_2 84 = .ok (.astore 8, 2) := dk_58 8 (dk_at dksJ4_put_2_3 13 rfl rfl)
theorem dJ4_put_2_86 : decode cJ4_put_2 86 = .ok (.iload_n 3, 1) := dk_29 (dk_at dksJ4_put_2_3 15 rfl rfl)
theorem dJ4_put_2_87 : decode cJ4_put_2 87 = .ok (.ifCond .ne 8, 3) := dk_154 0 8 (dk_at dksJ4_put_2_3 16 rfl rfl)
theorem dJ4_put_2_90 : decode cJ4_put_2 90 = .ok (.aload 8, 2) := dk_25 8 (dk_at dksJ4_put_2_3 19 rfl rfl)
theorem dJ4_put_2_92 : decode cJ4_put_2 92 = .ok (.ifnonnull 9, 3) := dk_199 0 9 (dk_at dksJ4_put_2_3 21 rfl rfl)
theorem dJ4_put_2_95 : decode cJ4_put_2 95 = .ok (.aload 4, 2) := dk_25 4 (dk_at dksJ4_put_2_4 0 rfl rfl)
theorem dJ4_put_2_97 : decode cJ4_put_2 97 = .ok (.aload_n 2, 1) := dk_44 (dk_at dksJ4_put_2_4 2 rfl rfl)
theorem dJ4_put_2_98 : decode cJ4_put_2 98 = .ok (.putfield 58, 3) := dk_181 0 58 (dk_at dksJ4_put_2_4 3 rfl rfl)
theorem dJ4_put_2_101 : decode cJ4_put_2 101 = .ok (.aload 8, 2) := dk_25 8 (dk_at dksJ4_put_2_4 6 rfl rfl)
theorem dJ4_put_2_103 : decode cJ4_put_2 103 = .ok (.areturn, 1) := dk_176 (dk_at dksJ4_put_2_4 8 rfl rfl)
theorem dJ4_put_2_104 : decode cJ4_put_2 104 = .ok (.aload 4, 2) := dk_25 4 (dk_at dksJ4_put_2_4 9 rfl rfl)
theorem dJ4_put_2_106 : decode cJ4_put_2 106 = .ok (.ifnonnull (-76), 3) := dk_199 255 180 (dk_at dksJ4_put_2_4 11 rfl rfl)
theorem dJ4_put_2_109 : decode cJ4_put_2 109 = .ok (.goto 92, 3) := dk_167 0 92 (dk_at dksJ4_put_2_4 14 rfl rfl)
theorem dJ4_put_2_112 : decode cJ4_put_2 112 = .ok (.aload_n 1, 1) := dk_43 (dk_at dksJ4_put_2_4 17 rfl rfl)
theorem dJ4_put_2_113 : decode cJ4_put_2 113 = .ok (.invokestatic 95, 3) := dk_184 0 95 (dk_at dksJ4_put_2_4 18 rfl rfl)
theorem dJ4_put_2_116 : decode cJ4_put_2 116 = .ok (.pop, 1) := dk_87 (dk_at dksJ4_put_2_4 21 rfl rfl)
theorem dJ4_put_2_117 : decode cJ4_put_2 117 = .ok (.aload_n 1, 1) := dk_43 (dk_at dksJ4_put_2_4 22 rfl rfl)
theorem dJ4_put_2_118 : decode cJ4_put_2 118 = .ok (.checkcast 99, 3) := dk_192 0 99 (dk_at dksJ4_put_2_5 0 rfl rfl)
theorem dJ4_put_2_121 : decode cJ4_put_2 121 = .ok (.astore 8, 2) := dk_58 8 (dk_at dksJ4_put_2_5 3 rfl rfl)
theorem dJ4_put_2_123 : decode cJ4_put_2 123 = .ok (.aload 4, 2) := dk_25 4 (dk_at dksJ4_put_2_5 5 rfl rfl)
theorem dJ4_put_2_125 : decode cJ4_put_2 125 = .ok (.astore 6, 2) := dk_58 6 (dk_at dksJ4_put_2_5 7 rfl rfl)
theorem dJ4_put_2_127 : decode cJ4_put_2 127 = .ok (.aload 8, 2) := dk_25 8 (dk_at dksJ4_put_2_5 9 rfl rfl)
theorem dJ4_put_2_129 : decode cJ4_put_2 129 = .ok (.aload 4, 2) := dk_25 4 (dk_at dksJ4_put_2_5 11 rfl rfl)
theorem dJ4_put_2_131 : decode cJ4_put_2 131 = .ok (.getfield 105, 3) := dk_180 0 105 (dk_at dksJ4_put_2_5 13 rfl rfl)
theorem dJ4_put_2_134 : decode cJ4_put_2 134 = .ok (.invokeinterface 107 2, 5) := by decide +kernel
theorem dJ4_put_2_139 : decode cJ4_put_2 139 = .ok (.istore 5, 2) := dk_54 5 (dk_at dksJ4_put_2_5 21 rfl rfl)
theorem dJ4_put_2_141 : decode cJ4_put_2 141 = .ok (.iload 5, 2) := dk_21 5 (dk_at dksJ4_put_2_6 0 rfl rfl)
theorem dJ4_put_2_143 : decode cJ4_put_2 143 = .ok (.ifCond .ge 13, 3) := dk_156 0 13 (dk_at dksJ4_put_2_6 2 rfl rfl)
theorem dJ4_put_2_146 : decode cJ4_put_2 146 = .ok (.aload 4, 2) := dk_25 4 (dk_at dksJ4_put_2_6 5 rfl rfl)
theorem dJ4_put_2_148 : decode cJ4_put_2 148 = .ok (.getfield 111, 3) := dk_180 0 111 (dk_at dksJ4_put_2_6 7 rfl rfl)
theorem dJ4_put_2_151 : decode cJ4_put_2 151 = .ok (.astore 4, 2) := dk_58 4 (dk_at dksJ4_put_2_6 10 rfl rfl)
theorem dJ4_put_2_153 : decode cJ4_put_2 153 = .ok (.goto 43, 3) := dk_167 0 43 (dk_at dksJ4_put_2_6 12 rfl rfl)
theorem dJ4_put_2_156 : decode cJ4_put_2 156 = .ok (.iload 5, 2) := dk_21 5 (dk_at dksJ4_put_2_6 15 rfl rfl)
theorem dJ4_put_2_158 : decode cJ4_put_2 158 = .ok (.ifCond .le 13, 3) := dk_158 0 13 (dk_at dksJ4_put_2_6 17 rfl rfl)
theorem dJ4_put_2_161 : decode cJ4_put_2 161 = .ok (.aload 4, 2) := dk_25 4 (dk_at dksJ4_put_2_6 20 rfl rfl)
theorem dJ4_put_2_163 : decode cJ4_put_2 163 = .ok (.getfield 114, 3) := dk_180 0 114 (dk_at dksJ4_put_2_7 0 rfl rfl)
theorem dJ4_put_2_166 : decode cJ4_put_2 166 = .ok (.astore 4, 2) := dk_58 4 (dk_at dksJ4_put_2_7 3 rfl rfl)
theorem dJ4_put_2_168 : decode cJ4_put_2 168 = .ok (.goto 28, 3) := dk_167 0 28 (dk_at dksJ4_put_2_7 5 rfl rfl)
theorem dJ4_put_2_171 : decode cJ4_put_2 171 = .ok (.aload 4, 2) := dk_25 4 (dk_at dksJ4_put_2_7 8 rfl rfl)
theorem dJ4_put_2_173 : decode cJ4_put_2 173 = .ok (.getfield 58, 3) := dk_180 0 58 (dk_at dksJ4_put_2_7 10 rfl rfl)
theorem dJ4_put_2_176 : decode cJ4_put_2 176 = .ok (.astore 9, 2) := dk_58 9 (dk_at dksJ4_put_2_7 13 rfl rfl)
theorem dJ4_put_2_178 : decode cJ4_put_2 178 = .ok (.iload_n 3, 1) := dk_29 (dk_at dksJ4_put_2_7 15 rfl rfl)
theorem dJ4_put_2_179 : decode cJ4_put_2 179 = .ok (.ifCond .ne 8, 3) := dk_154 0 8 (dk_at dksJ4_put_2_7 16 rfl rfl)
theorem dJ4_put_2_182 : decode cJ4_put_2 182 = .ok (.aload 9, 2) := dk_25 9 (dk_at dksJ4_put_2_7 19 rfl rfl)
theorem dJ4_put_2_184 : decode cJ4_put_2 184 = .ok (.ifnonnull 9, 3) := dk_199 0 9 (dk_at dksJ4_put_2_7 21 rfl rfl)
theorem dJ4_put_2_187 : decode cJ4_put_2 187 = .ok (.aload 4, 2) := dk_25 4 (dk_at dksJ4_put_2_8 0 rfl rfl)
theorem dJ4_put_2_189 : decode cJ4_put_2 189 = .ok (.aload_n 2, 1) := dk_44 (dk_at dksJ4_put_2_8 2 rfl rfl)
theorem dJ4_put_2_190 : decode cJ4_put_2 190 = .ok (.putfield 58, 3) := dk_181 0 58 (dk_at dksJ4_put_2_8 3 rfl rfl)
theorem dJ4_put_2_193 : decode cJ4_put_2 193 = .ok (.aload 9, 2) := dk_25 9 (dk_at dksJ4_put_2_8 6 rfl rfl)
theorem dJ4_put_2_195 : decode cJ4_put_2 195 = .ok (.areturn, 1) := dk_176 (dk_at dksJ4_put_2_8 8 rfl rfl)
theorem dJ4_put_2_196 : decode cJ4_put_2 196 = .ok (.aload 4, 2) := dk_25 4 (dk_at dksJ4_put_2_8 9 rfl rfl)
theorem dJ4_put_2_198 : decode cJ4_put_2 198 = .ok (.ifnonnull (-75), 3) := dk_199 255 181 (dk_at dksJ4_put_2_8 11 rfl rfl)
theorem dJ4_put_2_201 : decode cJ4_put_2 201 = .ok (.aload_n 0, 1) := dk_42 (dk_at dksJ4_put_2_8 14 rfl rfl)
theorem dJ4_put_2_202 : decode cJ4_put_2 202 = .ok (.aload_n 1, 1) := dk_43 (dk_at dksJ4_put_2_8 15 rfl rfl)
theorem dJ4_put_2_203 : decode cJ4_put_2 203 = .ok (.aload_n 2, 1) := dk_44 (dk_at dksJ4_put_2_8 16 rfl rfl)
theorem dJ4_put_2_204 : decode cJ4_put_2 204 = .ok (.aload 6, 2) := dk_25 6 (dk_at dksJ4_put_2_8 17 rfl rfl)
theorem dJ4_put_2_206 : decode cJ4_put_2 206 = .ok (.iload 5, 2) := dk_21 5 (dk_at dksJ4_put_2_8 19 rfl rfl)
theorem dJ4_put_2_208 : decode cJ4_put_2 208 = .ok (.ifCond .ge 7, 3) := dk_156 0 7 (dk_at dksJ4_put_2_8 21 rfl rfl)
theorem dJ4_put_2_211 : decode cJ4_put_2 211 = .ok (.iconst 1, 1) := dk_4 (dk_at dksJ4_put_2_9 0 rfl rfl)
theorem dJ4_put_2_212 : decode cJ4_put_2 212 = .ok (.goto 4, 3) := dk_167 0 4 (dk_at dksJ4_put_2_9 1 rfl rfl)
theorem dJ4_put_2_215 : decode cJ4_put_2 215 = .ok (.iconst 0, 1) := dk_3 (dk_at dksJ4_put_2_9 4 rfl rfl)
theorem dJ4_put_2_216 : decode cJ4_put_2 216 = .ok (.invokevirtual 139, 3) := dk_182 0 139 (dk_at dksJ4_put_2_9 5 rfl rfl)
theorem dJ4_put_2_219 : decode cJ4_put_2 219 = .ok (.aconst_null, 1) := dk_1 (dk_at dksJ4_put_2_9 8 rfl rfl)
theorem dJ4_put_2_220 : decode cJ4_put_2 220 = .ok (.areturn, 1) := dk_176 (dk_at dksJ4_put_2_9 9 rfl rfl)
def fJ4_put_2_b193 (e : Nat → Nat) (N : Nat) (m : Mm) (v9 : Option Nat) : Rs (Option Nat) := rt_ v9 m
def fJ4_put_2_b187 (e : Nat → Nat) (N : Nat) (m : Mm) (v2 : Option Nat) (v4 : Option Nat) (v9 : Option Nat) : Rs (Option Nat) := pr_ m v4 16 1 v2 (fun m1 => fJ4_put_2_b193 e N m1 v9)
def fJ4_put_2_b216 (e : Nat → Nat) (N : Nat) (m : Mm) (s0 : Option Nat) (s1 : Option Nat) (s2 : Option Nat) (s3 : Option Nat) (s4 : Int32) : Rs (Option Nat) := ck_ m s0 15 (bd_ (fJ4_addEntry e N m s0 s1 s2 s3 s4) (fun _ m1 => rt_ none m1))
def fJ4_put_2_b196 (e : Nat → Nat) (N : Nat) (k123 : Mm → Option Nat → Option Nat → Option Nat → Int32 → Option Nat → Option Nat → Rs (Option Nat)) (m : Mm) (v0 : Option Nat) (v1 : Option Nat) (v2 : Option Nat) (v3 : Int32) (v4 : Option Nat) (v5 : Int32) (v6 : Option Nat) (v8 : Option Nat) : Rs (Option Nat) := if v4 = none then (if v5 < 0 then (fJ4_put_2_b216 e N m v0 v1 v2 v6 1) else (fJ4_put_2_b216 e N m v0 v1 v2 v6 0)) else (k123 m v0 v1 v2 v3 v4 v8)
def fJ4_put_2_b123 (e : Nat → Nat) (N : Nat) : Nat → Mm → Option Nat → Option Nat → Option Nat → Int32 → Option Nat → Option Nat → Rs (Option Nat)
  | 0, _, _, _, _, _, _, _ => none
  | F + 1, m, v0, v1, v2, v3, v4, v8 => gr_ m v4 16 0 (fun x1 => ck_ m v8 27 (bd_ (fJ21_compareTo e N m v8 x1) (fun x2 m1 => if x2 < 0 then (gr_ m1 v4 16 2 (fun x3 => fJ4_put_2_b196 e N (fJ4_put_2_b123 e N F) m1 v0 v1 v2 v3 x3 x2 v4 v8)) else (if 0 < x2 then (gr_ m1 v4 16 3 (fun x4 => fJ4_put_2_b196 e N (fJ4_put_2_b123 e N F) m1 v0 v1 v2 v3 x4 x2 v4 v8)) else (gr_ m1 v4 16 1 (fun x5 => if v3 = 0 then (if x5 = none then (fJ4_put_2_b187 e N m1 v2 v4 x5) else (fJ4_put_2_b193 e N m1 x5)) else (fJ4_put_2_b187 e N m1 v2 v4 x5)))))))
def fJ4_put_2 (e : Nat → Nat) (N : Nat) (m : Mm) (v0 : Option Nat) (v1 : Option Nat) (v2 : Option Nat) (v3 : Int32) : Rs (Option Nat) := gr_ m v0 15 3 (fun x1 => if x1 = none then (ck_ m v0 15 (bd_ (fJ4_addEntryToEmptyMap e N m v0 v1 v2) (fun _ m1 => rt_ none m1))) else (gr_ m v0 15 2 (fun x2 => if x2 = none then (bd_ (fJ23_requireNonNull e N m v1) (fun x3 m2 => cc_ m2 v1 [27] (fJ4_put_2_b123 e N N m2 v0 v1 v2 v3 x1 v1))) else (gr_ m x1 16 0 (fun x4 => none)))))
abbrev cJ4_put : ByteArray := prog_79_method_21_code
def yJ4_put : MethodName := ⟨RJ4, "put", "(Ljava/lang/Object;Ljava/lang/Object;)Ljava/lang/Object;"⟩
def dkwJ4_put_0 : List UInt8 := [42, 43, 44, 4, 182, 0, 127, 176]
abbrev dktJ4_put_0 : List UInt8 := dkwJ4_put_0 ++ []
theorem dksJ4_put_0 : cJ4_put.data.toList.drop 0 = dktJ4_put_0 := by decide +kernel
theorem dJ4_put_0 : decode cJ4_put 0 = .ok (.aload_n 0, 1) := dk_42 (dk_at dksJ4_put_0 0 rfl rfl)
theorem dJ4_put_1 : decode cJ4_put 1 = .ok (.aload_n 1, 1) := dk_43 (dk_at dksJ4_put_0 1 rfl rfl)
theorem dJ4_put_2 : decode cJ4_put 2 = .ok (.aload_n 2, 1) := dk_44 (dk_at dksJ4_put_0 2 rfl rfl)
theorem dJ4_put_3 : decode cJ4_put 3 = .ok (.iconst 1, 1) := dk_4 (dk_at dksJ4_put_0 3 rfl rfl)
theorem dJ4_put_4 : decode cJ4_put 4 = .ok (.invokevirtual 127, 3) := dk_182 0 127 (dk_at dksJ4_put_0 4 rfl rfl)
theorem dJ4_put_7 : decode cJ4_put 7 = .ok (.areturn, 1) := dk_176 (dk_at dksJ4_put_0 7 rfl rfl)
def fJ4_put (e : Nat → Nat) (N : Nat) (m : Mm) (v0 : Option Nat) (v1 : Option Nat) (v2 : Option Nat) : Rs (Option Nat) := ck_ m v0 15 (bd_ (fJ4_put_2 e N m v0 v1 v2 1) (fun x1 m1 => rt_ x1 m1))
def fJ20_init_t27 (e : Nat → Nat) (N : Nat) (m : Mm) (v0 : Option Nat) : Rs (Unit) := ok_ v0 (rt_ () m)
abbrev cJ21_init : ByteArray := prog_37_method_23_code
def yJ21_init : MethodName := ⟨RJ21, "<init>", "(I)V"⟩
def dkwJ21_init_0 : List UInt8 := [42, 183, 0, 202, 42, 27, 181, 0, 205, 177]
abbrev dktJ21_init_0 : List UInt8 := dkwJ21_init_0 ++ []
theorem dksJ21_init_0 : cJ21_init.data.toList.drop 0 = dktJ21_init_0 := by decide +kernel
theorem dJ21_init_0 : decode cJ21_init 0 = .ok (.aload_n 0, 1) := dk_42 (dk_at dksJ21_init_0 0 rfl rfl)
theorem dJ21_init_1 : decode cJ21_init 1 = .ok (.invokespecial 202, 3) := dk_183 0 202 (dk_at dksJ21_init_0 1 rfl rfl)
theorem dJ21_init_4 : decode cJ21_init 4 = .ok (.aload_n 0, 1) := dk_42 (dk_at dksJ21_init_0 4 rfl rfl)
theorem dJ21_init_5 : decode cJ21_init 5 = .ok (.iload_n 1, 1) := dk_27 (dk_at dksJ21_init_0 5 rfl rfl)
theorem dJ21_init_6 : decode cJ21_init 6 = .ok (.putfield 205, 3) := dk_181 0 205 (dk_at dksJ21_init_0 6 rfl rfl)
theorem dJ21_init_9 : decode cJ21_init 9 = .ok (.return_, 1) := dk_177 (dk_at dksJ21_init_0 9 rfl rfl)
def fJ21_init (e : Nat → Nat) (N : Nat) (m : Mm) (v0 : Option Nat) (v1 : Int32) : Rs (Unit) := ok_ v0 (bd_ (fJ20_init_t27 e N m v0) (fun _ m1 => wb_ m1 v0 (pi_ m1 v0 27 0 v1 (fun m2 => rt_ () m2))))
abbrev cJ21_valueOf : ByteArray := prog_37_method_22_code
def yJ21_valueOf : MethodName := ⟨RJ21, "valueOf", "(I)Ljava/lang/Integer;"⟩
def dkwJ21_valueOf_1 : List UInt8 := [187, 0, 1, 89, 26, 183, 0, 199, 176]
abbrev dktJ21_valueOf_1 : List UInt8 := dkwJ21_valueOf_1 ++ []
def dkwJ21_valueOf_0 : List UInt8 := [26, 16, 128, 161, 0, 20, 26, 178, 0, 191, 163, 0, 13, 178, 0, 195, 26, 17, 0, 128, 96, 50, 176]
abbrev dktJ21_valueOf_0 : List UInt8 := dkwJ21_valueOf_0 ++ dktJ21_valueOf_1
theorem dksJ21_valueOf_0 : cJ21_valueOf.data.toList.drop 0 = dktJ21_valueOf_0 := by decide +kernel
theorem dksJ21_valueOf_1 : cJ21_valueOf.data.toList.drop 23 = dktJ21_valueOf_1 := dk_seg dksJ21_valueOf_0 23 rfl rfl
theorem dJ21_valueOf_0 : decode cJ21_valueOf 0 = .ok (.iload_n 0, 1) := dk_26 (dk_at dksJ21_valueOf_0 0 rfl rfl)
theorem dJ21_valueOf_1 : decode cJ21_valueOf 1 = .ok (.bipush (-128), 2) := dk_16 128 (dk_at dksJ21_valueOf_0 1 rfl rfl)
theorem dJ21_valueOf_3 : decode cJ21_valueOf 3 = .ok (.if_icmp .lt 20, 3) := dk_161 0 20 (dk_at dksJ21_valueOf_0 3 rfl rfl)
theorem dJ21_valueOf_6 : decode cJ21_valueOf 6 = .ok (.iload_n 0, 1) := dk_26 (dk_at dksJ21_valueOf_0 6 rfl rfl)
theorem dJ21_valueOf_7 : decode cJ21_valueOf 7 = .ok (.getstatic 191, 3) := dk_178 0 191 (dk_at dksJ21_valueOf_0 7 rfl rfl)
theorem dJ21_valueOf_10 : decode cJ21_valueOf 10 = .ok (.if_icmp .gt 13, 3) := dk_163 0 13 (dk_at dksJ21_valueOf_0 10 rfl rfl)
theorem dJ21_valueOf_13 : decode cJ21_valueOf 13 = .ok (.getstatic 195, 3) := dk_178 0 195 (dk_at dksJ21_valueOf_0 13 rfl rfl)
theorem dJ21_valueOf_16 : decode cJ21_valueOf 16 = .ok (.iload_n 0, 1) := dk_26 (dk_at dksJ21_valueOf_0 16 rfl rfl)
theorem dJ21_valueOf_17 : decode cJ21_valueOf 17 = .ok (.sipush 128, 3) := dk_17 0 128 (dk_at dksJ21_valueOf_0 17 rfl rfl)
theorem dJ21_valueOf_20 : decode cJ21_valueOf 20 = .ok (.iadd, 1) := dk_96 (dk_at dksJ21_valueOf_0 20 rfl rfl)
theorem dJ21_valueOf_21 : decode cJ21_valueOf 21 = .ok (.aaload, 1) := dk_50 (dk_at dksJ21_valueOf_0 21 rfl rfl)
theorem dJ21_valueOf_22 : decode cJ21_valueOf 22 = .ok (.areturn, 1) := dk_176 (dk_at dksJ21_valueOf_0 22 rfl rfl)
theorem dJ21_valueOf_23 : decode cJ21_valueOf 23 = .ok (.new 1, 3) := dk_187 0 1 (dk_at dksJ21_valueOf_1 0 rfl rfl)
theorem dJ21_valueOf_26 : decode cJ21_valueOf 26 = .ok (.dup, 1) := dk_89 (dk_at dksJ21_valueOf_1 3 rfl rfl)
theorem dJ21_valueOf_27 : decode cJ21_valueOf 27 = .ok (.iload_n 0, 1) := dk_26 (dk_at dksJ21_valueOf_1 4 rfl rfl)
theorem dJ21_valueOf_28 : decode cJ21_valueOf 28 = .ok (.invokespecial 199, 3) := dk_183 0 199 (dk_at dksJ21_valueOf_1 5 rfl rfl)
theorem dJ21_valueOf_31 : decode cJ21_valueOf 31 = .ok (.areturn, 1) := dk_176 (dk_at dksJ21_valueOf_1 8 rfl rfl)
def fJ21_valueOf_b23 (e : Nat → Nat) (N : Nat) (m : Mm) (v0 : Int32) : Rs (Option Nat) := nw_ m 27 1 (fun x1 m1 => bd_ (fJ21_init e N m1 (some x1) v0) (fun _ m2 => rt_ (some x1) m2))
def fJ21_valueOf (e : Nat → Nat) (N : Nat) (m : Mm) (v0 : Int32) : Rs (Option Nat) := if v0 < (-128) then (fJ21_valueOf_b23 e N m v0) else (if (127 : Int32) < v0 then (fJ21_valueOf_b23 e N m v0) else (ar_ m (some (e 4)) 207 (v0 + 128) (fun x1 => rt_ x1 m)))
abbrev cJ30_hasNext : ByteArray := prog_92_method_2_code
def yJ30_hasNext : MethodName := ⟨RJ30, "hasNext", "()Z"⟩
def dkwJ30_hasNext_0 : List UInt8 := [42, 180, 0, 26, 198, 0, 7, 4, 167, 0, 4, 3, 172]
abbrev dktJ30_hasNext_0 : List UInt8 := dkwJ30_hasNext_0 ++ []
theorem dksJ30_hasNext_0 : cJ30_hasNext.data.toList.drop 0 = dktJ30_hasNext_0 := by decide +kernel
theorem dJ30_hasNext_0 : decode cJ30_hasNext 0 = .ok (.aload_n 0, 1) := dk_42 (dk_at dksJ30_hasNext_0 0 rfl rfl)
theorem dJ30_hasNext_1 : decode cJ30_hasNext 1 = .ok (.getfield 26, 3) := dk_180 0 26 (dk_at dksJ30_hasNext_0 1 rfl rfl)
theorem dJ30_hasNext_4 : decode cJ30_hasNext 4 = .ok (.ifnull 7, 3) := dk_198 0 7 (dk_at dksJ30_hasNext_0 4 rfl rfl)
theorem dJ30_hasNext_7 : decode cJ30_hasNext 7 = .ok (.iconst 1, 1) := dk_4 (dk_at dksJ30_hasNext_0 7 rfl rfl)
theorem dJ30_hasNext_8 : decode cJ30_hasNext 8 = .ok (.goto 4, 3) := dk_167 0 4 (dk_at dksJ30_hasNext_0 8 rfl rfl)
theorem dJ30_hasNext_11 : decode cJ30_hasNext 11 = .ok (.iconst 0, 1) := dk_3 (dk_at dksJ30_hasNext_0 11 rfl rfl)
theorem dJ30_hasNext_12 : decode cJ30_hasNext 12 = .ok (.ireturn, 1) := dk_172 (dk_at dksJ30_hasNext_0 12 rfl rfl)
def fJ30_hasNext_t18_b12 (e : Nat → Nat) (N : Nat) (m : Mm) (s0 : Int32) : Rs (Int32) := rz_ s0 s0 m
def fJ30_hasNext_t18 (e : Nat → Nat) (N : Nat) (m : Mm) (v0 : Option Nat) : Rs (Int32) := gr_ m v0 18 0 (fun x1 => if x1 = none then (fJ30_hasNext_t18_b12 e N m 0) else (fJ30_hasNext_t18_b12 e N m 1))
abbrev cJ4_successor : ByteArray := prog_79_method_74_code
def yJ4_successor : MethodName := ⟨RJ4, "successor", "(Ljava/util/TreeMap$Entry;)Ljava/util/TreeMap$Entry;"⟩
def dkwJ4_successor_2 : List UInt8 := [44, 43, 180, 0, 114, 166, 0, 13, 43, 77, 43, 180, 0, 124, 76, 167, 255, 237, 43, 176]
abbrev dktJ4_successor_2 : List UInt8 := dkwJ4_successor_2 ++ []
def dkwJ4_successor_1 : List UInt8 := [198, 0, 11, 43, 180, 0, 111, 76, 167, 255, 244, 43, 176, 42, 180, 0, 124, 76, 42, 77, 43, 198, 0, 21]
abbrev dktJ4_successor_1 : List UInt8 := dkwJ4_successor_1 ++ dktJ4_successor_2
def dkwJ4_successor_0 : List UInt8 := [42, 199, 0, 5, 1, 176, 42, 180, 0, 114, 198, 0, 25, 42, 180, 0, 114, 76, 43, 180, 0, 111]
abbrev dktJ4_successor_0 : List UInt8 := dkwJ4_successor_0 ++ dktJ4_successor_1
theorem dksJ4_successor_0 : cJ4_successor.data.toList.drop 0 = dktJ4_successor_0 := by decide +kernel
theorem dksJ4_successor_1 : cJ4_successor.data.toList.drop 22 = dktJ4_successor_1 := dk_seg dksJ4_successor_0 22 rfl rfl
theorem dksJ4_successor_2 : cJ4_successor.data.toList.drop 46 = dktJ4_successor_2 := dk_seg dksJ4_successor_1 24 rfl rfl
theorem dJ4_successor_0 : decode cJ4_successor 0 = .ok (.aload_n 0, 1) := dk_42 (dk_at dksJ4_successor_0 0 rfl rfl)
theorem dJ4_successor_1 : decode cJ4_successor 1 = .ok (.ifnonnull 5, 3) := dk_199 0 5 (dk_at dksJ4_successor_0 1 rfl rfl)
theorem dJ4_successor_4 : decode cJ4_successor 4 = .ok (.aconst_null, 1) := dk_1 (dk_at dksJ4_successor_0 4 rfl rfl)
theorem dJ4_successor_5 : decode cJ4_successor 5 = .ok (.areturn, 1) := dk_176 (dk_at dksJ4_successor_0 5 rfl rfl)
theorem dJ4_successor_6 : decode cJ4_successor 6 = .ok (.aload_n 0, 1) := dk_42 (dk_at dksJ4_successor_0 6 rfl rfl)
theorem dJ4_successor_7 : decode cJ4_successor 7 = .ok (.getfield 114, 3) := dk_180 0 114 (dk_at dksJ4_successor_0 7 rfl rfl)
theorem dJ4_successor_10 : decode cJ4_successor 10 = .ok (.ifnull 25, 3) := dk_198 0 25 (dk_at dksJ4_successor_0 10 rfl rfl)
theorem dJ4_successor_13 : decode cJ4_successor 13 = .ok (.aload_n 0, 1) := dk_42 (dk_at dksJ4_successor_0 13 rfl rfl)
theorem dJ4_successor_14 : decode cJ4_successor 14 = .ok (.getfield 114, 3) := dk_180 0 114 (dk_at dksJ4_successor_0 14 rfl rfl)
theorem dJ4_successor_17 : decode cJ4_successor 17 = .ok (.astore_n 1, 1) := dk_76 (dk_at dksJ4_successor_0 17 rfl rfl)
theorem dJ4_successor_18 : decode cJ4_successor 18 = .ok (.aload_n 1, 1) := dk_43 (dk_at dksJ4_successor_0 18 rfl rfl)
theorem dJ4_successor_19 : decode cJ4_successor 19 = .ok (.getfield 111, 3) := dk_180 0 111 (dk_at dksJ4_successor_0 19 rfl rfl)
theorem dJ4_successor_22 : decode cJ4_successor 22 = .ok (.ifnull 11, 3) := dk_198 0 11 (dk_at dksJ4_successor_1 0 rfl rfl)
theorem dJ4_successor_25 : decode cJ4_successor 25 = .ok (.aload_n 1, 1) := dk_43 (dk_at dksJ4_successor_1 3 rfl rfl)
theorem dJ4_successor_26 : decode cJ4_successor 26 = .ok (.getfield 111, 3) := dk_180 0 111 (dk_at dksJ4_successor_1 4 rfl rfl)
theorem dJ4_successor_29 : decode cJ4_successor 29 = .ok (.astore_n 1, 1) := dk_76 (dk_at dksJ4_successor_1 7 rfl rfl)
theorem dJ4_successor_30 : decode cJ4_successor 30 = .ok (.goto (-12), 3) := dk_167 255 244 (dk_at dksJ4_successor_1 8 rfl rfl)
theorem dJ4_successor_33 : decode cJ4_successor 33 = .ok (.aload_n 1, 1) := dk_43 (dk_at dksJ4_successor_1 11 rfl rfl)
theorem dJ4_successor_34 : decode cJ4_successor 34 = .ok (.areturn, 1) := dk_176 (dk_at dksJ4_successor_1 12 rfl rfl)
theorem dJ4_successor_35 : decode cJ4_successor 35 = .ok (.aload_n 0, 1) := dk_42 (dk_at dksJ4_successor_1 13 rfl rfl)
theorem dJ4_successor_36 : decode cJ4_successor 36 = .ok (.getfield 124, 3) := dk_180 0 124 (dk_at dksJ4_successor_1 14 rfl rfl)
theorem dJ4_successor_39 : decode cJ4_successor 39 = .ok (.astore_n 1, 1) := dk_76 (dk_at dksJ4_successor_1 17 rfl rfl)
theorem dJ4_successor_40 : decode cJ4_successor 40 = .ok (.aload_n 0, 1) := dk_42 (dk_at dksJ4_successor_1 18 rfl rfl)
theorem dJ4_successor_41 : decode cJ4_successor 41 = .ok (.astore_n 2, 1) := dk_77 (dk_at dksJ4_successor_1 19 rfl rfl)
theorem dJ4_successor_42 : decode cJ4_successor 42 = .ok (.aload_n 1, 1) := dk_43 (dk_at dksJ4_successor_1 20 rfl rfl)
theorem dJ4_successor_43 : decode cJ4_successor 43 = .ok (.ifnull 21, 3) := dk_198 0 21 (dk_at dksJ4_successor_1 21 rfl rfl)
theorem dJ4_successor_46 : decode cJ4_successor 46 = .ok (.aload_n 2, 1) := dk_44 (dk_at dksJ4_successor_2 0 rfl rfl)
theorem dJ4_successor_47 : decode cJ4_successor 47 = .ok (.aload_n 1, 1) := dk_43 (dk_at dksJ4_successor_2 1 rfl rfl)
theorem dJ4_successor_48 : decode cJ4_successor 48 = .ok (.getfield 114, 3) := dk_180 0 114 (dk_at dksJ4_successor_2 2 rfl rfl)
theorem dJ4_successor_51 : decode cJ4_successor 51 = .ok (.if_acmp .ne 13, 3) := dk_166 0 13 (dk_at dksJ4_successor_2 5 rfl rfl)
theorem dJ4_successor_54 : decode cJ4_successor 54 = .ok (.aload_n 1, 1) := dk_43 (dk_at dksJ4_successor_2 8 rfl rfl)
theorem dJ4_successor_55 : decode cJ4_successor 55 = .ok (.astore_n 2, 1) := dk_77 (dk_at dksJ4_successor_2 9 rfl rfl)
theorem dJ4_successor_56 : decode cJ4_successor 56 = .ok (.aload_n 1, 1) := dk_43 (dk_at dksJ4_successor_2 10 rfl rfl)
theorem dJ4_successor_57 : decode cJ4_successor 57 = .ok (.getfield 124, 3) := dk_180 0 124 (dk_at dksJ4_successor_2 11 rfl rfl)
theorem dJ4_successor_60 : decode cJ4_successor 60 = .ok (.astore_n 1, 1) := dk_76 (dk_at dksJ4_successor_2 14 rfl rfl)
theorem dJ4_successor_61 : decode cJ4_successor 61 = .ok (.goto (-19), 3) := dk_167 255 237 (dk_at dksJ4_successor_2 15 rfl rfl)
theorem dJ4_successor_64 : decode cJ4_successor 64 = .ok (.aload_n 1, 1) := dk_43 (dk_at dksJ4_successor_2 18 rfl rfl)
theorem dJ4_successor_65 : decode cJ4_successor 65 = .ok (.areturn, 1) := dk_176 (dk_at dksJ4_successor_2 19 rfl rfl)
def fJ4_successor_b18 (e : Nat → Nat) (N : Nat) : Nat → Mm → Option Nat → Rs (Option Nat)
  | 0, _, _ => none
  | F + 1, m, v1 => gr_ m v1 16 2 (fun x1 => if x1 = none then (rt_ v1 m) else (gr_ m v1 16 2 (fun x2 => fJ4_successor_b18 e N F m x2)))
def fJ4_successor_b64 (e : Nat → Nat) (N : Nat) (m : Mm) (v1 : Option Nat) : Rs (Option Nat) := rt_ v1 m
def fJ4_successor_b42 (e : Nat → Nat) (N : Nat) : Nat → Mm → Option Nat → Option Nat → Rs (Option Nat)
  | 0, _, _, _ => none
  | F + 1, m, v1, v2 => if v1 = none then (fJ4_successor_b64 e N m v1) else (gr_ m v1 16 3 (fun x1 => if v2 = x1 then (gr_ m v1 16 4 (fun x2 => fJ4_successor_b42 e N F m x2 v1)) else (fJ4_successor_b64 e N m v1)))
def fJ4_successor (e : Nat → Nat) (N : Nat) (m : Mm) (v0 : Option Nat) : Rs (Option Nat) := if v0 = none then (rt_ none m) else (gr_ m v0 16 3 (fun x1 => if x1 = none then (gr_ m v0 16 4 (fun x2 => fJ4_successor_b42 e N N m x2 v0)) else (gr_ m v0 16 3 (fun x3 => fJ4_successor_b18 e N N m x3))))
abbrev cJ30_nextEntry : ByteArray := prog_92_method_3_code
def yJ30_nextEntry : MethodName := ⟨RJ30, "nextEntry", "()Ljava/util/TreeMap$Entry;"⟩
def dkwJ30_nextEntry_2 : List UInt8 := [43, 181, 0, 22, 43, 176]
abbrev dktJ30_nextEntry_2 : List UInt8 := dkwJ30_nextEntry_2 ++ []
def dkwJ30_nextEntry_1 : List UInt8 := [42, 180, 0, 19, 159, 0, 11, 187, 0, 32, 89, 183, 0, 34, 191, 42, 43, 184, 0, 35, 181, 0, 26, 42]
abbrev dktJ30_nextEntry_1 : List UInt8 := dkwJ30_nextEntry_1 ++ dktJ30_nextEntry_2
def dkwJ30_nextEntry_0 : List UInt8 := [42, 180, 0, 26, 76, 43, 199, 0, 11, 187, 0, 29, 89, 183, 0, 31, 191, 42, 180, 0, 1, 180, 0, 13]
abbrev dktJ30_nextEntry_0 : List UInt8 := dkwJ30_nextEntry_0 ++ dktJ30_nextEntry_1
theorem dksJ30_nextEntry_0 : cJ30_nextEntry.data.toList.drop 0 = dktJ30_nextEntry_0 := by decide +kernel
theorem dksJ30_nextEntry_1 : cJ30_nextEntry.data.toList.drop 24 = dktJ30_nextEntry_1 := dk_seg dksJ30_nextEntry_0 24 rfl rfl
theorem dksJ30_nextEntry_2 : cJ30_nextEntry.data.toList.drop 48 = dktJ30_nextEntry_2 := dk_seg dksJ30_nextEntry_1 24 rfl rfl
theorem dJ30_nextEntry_0 : decode cJ30_nextEntry 0 = .ok (.aload_n 0, 1) := dk_42 (dk_at dksJ30_nextEntry_0 0 rfl rfl)
theorem dJ30_nextEntry_1 : decode cJ30_nextEntry 1 = .ok (.getfield 26, 3) := dk_180 0 26 (dk_at dksJ30_nextEntry_0 1 rfl rfl)
theorem dJ30_nextEntry_4 : decode cJ30_nextEntry 4 = .ok (.astore_n 1, 1) := dk_76 (dk_at dksJ30_nextEntry_0 4 rfl rfl)
theorem dJ30_nextEntry_5 : decode cJ30_nextEntry 5 = .ok (.aload_n 1, 1) := dk_43 (dk_at dksJ30_nextEntry_0 5 rfl rfl)
theorem dJ30_nextEntry_6 : decode cJ30_nextEntry 6 = .ok (.ifnonnull 11, 3) := dk_199 0 11 (dk_at dksJ30_nextEntry_0 6 rfl rfl)
theorem dJ30_nextEntry_9 : decode cJ30_nextEntry 9 = .ok (.new 29, 3) := dk_187 0 29 (dk_at dksJ30_nextEntry_0 9 rfl rfl)
theorem dJ30_nextEntry_12 : decode cJ30_nextEntry 12 = .ok (.dup, 1) := dk_89 (dk_at dksJ30_nextEntry_0 12 rfl rfl)
theorem dJ30_nextEntry_13 : decode cJ30_nextEntry 13 = .ok (.invokespecial 31, 3) := dk_183 0 31 (dk_at dksJ30_nextEntry_0 13 rfl rfl)
theorem dJ30_nextEntry_16 : decode cJ30_nextEntry 16 = .ok (.athrow, 1) := dk_191 (dk_at dksJ30_nextEntry_0 16 rfl rfl)
theorem dJ30_nextEntry_17 : decode cJ30_nextEntry 17 = .ok (.aload_n 0, 1) := dk_42 (dk_at dksJ30_nextEntry_0 17 rfl rfl)
theorem dJ30_nextEntry_18 : decode cJ30_nextEntry 18 = .ok (.getfield 1, 3) := dk_180 0 1 (dk_at dksJ30_nextEntry_0 18 rfl rfl)
theorem dJ30_nextEntry_21 : decode cJ30_nextEntry 21 = .ok (.getfield 13, 3) := dk_180 0 13 (dk_at dksJ30_nextEntry_0 21 rfl rfl)
theorem dJ30_nextEntry_24 : decode cJ30_nextEntry 24 = .ok (.aload_n 0, 1) := dk_42 (dk_at dksJ30_nextEntry_1 0 rfl rfl)
theorem dJ30_nextEntry_25 : decode cJ30_nextEntry 25 = .ok (.getfield 19, 3) := dk_180 0 19 (dk_at dksJ30_nextEntry_1 1 rfl rfl)
theorem dJ30_nextEntry_28 : decode cJ30_nextEntry 28 = .ok (.if_icmp .eq 11, 3) := dk_159 0 11 (dk_at dksJ30_nextEntry_1 4 rfl rfl)
theorem dJ30_nextEntry_31 : decode cJ30_nextEntry 31 = .ok (.new 32, 3) := dk_187 0 32 (dk_at dksJ30_nextEntry_1 7 rfl rfl)
theorem dJ30_nextEntry_34 : decode cJ30_nextEntry 34 = .ok (.dup, 1) := dk_89 (dk_at dksJ30_nextEntry_1 10 rfl rfl)
theorem dJ30_nextEntry_35 : decode cJ30_nextEntry 35 = .ok (.invokespecial 34, 3) := dk_183 0 34 (dk_at dksJ30_nextEntry_1 11 rfl rfl)
theorem dJ30_nextEntry_38 : decode cJ30_nextEntry 38 = .ok (.athrow, 1) := dk_191 (dk_at dksJ30_nextEntry_1 14 rfl rfl)
theorem dJ30_nextEntry_39 : decode cJ30_nextEntry 39 = .ok (.aload_n 0, 1) := dk_42 (dk_at dksJ30_nextEntry_1 15 rfl rfl)
theorem dJ30_nextEntry_40 : decode cJ30_nextEntry 40 = .ok (.aload_n 1, 1) := dk_43 (dk_at dksJ30_nextEntry_1 16 rfl rfl)
theorem dJ30_nextEntry_41 : decode cJ30_nextEntry 41 = .ok (.invokestatic 35, 3) := dk_184 0 35 (dk_at dksJ30_nextEntry_1 17 rfl rfl)
theorem dJ30_nextEntry_44 : decode cJ30_nextEntry 44 = .ok (.putfield 26, 3) := dk_181 0 26 (dk_at dksJ30_nextEntry_1 20 rfl rfl)
theorem dJ30_nextEntry_47 : decode cJ30_nextEntry 47 = .ok (.aload_n 0, 1) := dk_42 (dk_at dksJ30_nextEntry_1 23 rfl rfl)
theorem dJ30_nextEntry_48 : decode cJ30_nextEntry 48 = .ok (.aload_n 1, 1) := dk_43 (dk_at dksJ30_nextEntry_2 0 rfl rfl)
theorem dJ30_nextEntry_49 : decode cJ30_nextEntry 49 = .ok (.putfield 22, 3) := dk_181 0 22 (dk_at dksJ30_nextEntry_2 1 rfl rfl)
theorem dJ30_nextEntry_52 : decode cJ30_nextEntry 52 = .ok (.aload_n 1, 1) := dk_43 (dk_at dksJ30_nextEntry_2 4 rfl rfl)
theorem dJ30_nextEntry_53 : decode cJ30_nextEntry 53 = .ok (.areturn, 1) := dk_176 (dk_at dksJ30_nextEntry_2 5 rfl rfl)
def fJ30_nextEntry_t18 (e : Nat → Nat) (N : Nat) (m : Mm) (v0 : Option Nat) : Rs (Option Nat) := gr_ m v0 18 0 (fun x1 => if x1 = none then (none) else (gr_ m v0 18 3 (fun x2 => gi_ m x2 15 5 (fun x3 => gi_ m v0 18 2 (fun x4 => if x3 = x4 then (bd_ (fJ4_successor e N m x1) (fun x5 m1 => pr_ m1 v0 18 0 x5 (fun m2 => pr_ m2 v0 18 1 x1 (fun m3 => rt_ x1 m3)))) else (none))))))
abbrev cJ32_next : ByteArray := prog_85_method_2_code
def yJ32_next : MethodName := ⟨RJ32, "next", "()Ljava/lang/Object;"⟩
def dkwJ32_next_0 : List UInt8 := [42, 182, 0, 7, 180, 0, 13, 176]
abbrev dktJ32_next_0 : List UInt8 := dkwJ32_next_0 ++ []
theorem dksJ32_next_0 : cJ32_next.data.toList.drop 0 = dktJ32_next_0 := by decide +kernel
theorem dJ32_next_0 : decode cJ32_next 0 = .ok (.aload_n 0, 1) := dk_42 (dk_at dksJ32_next_0 0 rfl rfl)
theorem dJ32_next_1 : decode cJ32_next 1 = .ok (.invokevirtual 7, 3) := dk_182 0 7 (dk_at dksJ32_next_0 1 rfl rfl)
theorem dJ32_next_4 : decode cJ32_next 4 = .ok (.getfield 13, 3) := dk_180 0 13 (dk_at dksJ32_next_0 4 rfl rfl)
theorem dJ32_next_7 : decode cJ32_next 7 = .ok (.areturn, 1) := dk_176 (dk_at dksJ32_next_0 7 rfl rfl)
def fJ32_next (e : Nat → Nat) (N : Nat) (m : Mm) (v0 : Option Nat) : Rs (Option Nat) := ck_ m v0 18 (bd_ (fJ30_nextEntry_t18 e N m v0) (fun x1 m1 => gr_ m1 x1 16 0 (fun x2 => rt_ x2 m1)))
abbrev cJ21_intValue : ByteArray := prog_37_method_27_code
def yJ21_intValue : MethodName := ⟨RJ21, "intValue", "()I"⟩
theorem dJ21_intValue_0 : decode cJ21_intValue 0 = .ok (.aload_n 0, 1) := by decide +kernel
theorem dJ21_intValue_1 : decode cJ21_intValue 1 = .ok (.getfield 205, 3) := by decide +kernel
theorem dJ21_intValue_4 : decode cJ21_intValue 4 = .ok (.ireturn, 1) := by decide +kernel
def fJ21_intValue (e : Nat → Nat) (N : Nat) (m : Mm) (v0 : Option Nat) : Rs (Int32) := gi_ m v0 27 0 (fun x1 => rt_ x1 m)
abbrev cJ4_getEntry : ByteArray := prog_79_method_15_code
def yJ4_getEntry : MethodName := ⟨RJ4, "getEntry", "(Ljava/lang/Object;)Ljava/util/TreeMap$Entry;"⟩
def dkwJ4_getEntry_3 : List UInt8 := [45, 176, 167, 255, 212, 1, 176]
abbrev dktJ4_getEntry_3 : List UInt8 := dkwJ4_getEntry_3 ++ []
def dkwJ4_getEntry_2 : List UInt8 := [156, 0, 11, 45, 180, 0, 111, 78, 167, 0, 18, 21, 4, 158, 0, 11, 45, 180, 0, 114, 78, 167, 0, 5]
abbrev dktJ4_getEntry_2 : List UInt8 := dkwJ4_getEntry_2 ++ dktJ4_getEntry_3
def dkwJ4_getEntry_1 : List UInt8 := [180, 0, 101, 78, 45, 198, 0, 46, 44, 45, 180, 0, 105, 185, 0, 107, 2, 0, 54, 4, 21, 4]
abbrev dktJ4_getEntry_1 : List UInt8 := dkwJ4_getEntry_1 ++ dktJ4_getEntry_2
def dkwJ4_getEntry_0 : List UInt8 := [42, 180, 0, 16, 198, 0, 9, 42, 43, 182, 0, 92, 176, 43, 184, 0, 95, 87, 43, 192, 0, 99, 77, 42]
abbrev dktJ4_getEntry_0 : List UInt8 := dkwJ4_getEntry_0 ++ dktJ4_getEntry_1
theorem dksJ4_getEntry_0 : cJ4_getEntry.data.toList.drop 0 = dktJ4_getEntry_0 := by decide +kernel
theorem dksJ4_getEntry_1 : cJ4_getEntry.data.toList.drop 24 = dktJ4_getEntry_1 := dk_seg dksJ4_getEntry_0 24 rfl rfl
theorem dksJ4_getEntry_2 : cJ4_getEntry.data.toList.drop 46 = dktJ4_getEntry_2 := dk_seg dksJ4_getEntry_1 22 rfl rfl
theorem dksJ4_getEntry_3 : cJ4_getEntry.data.toList.drop 70 = dktJ4_getEntry_3 := dk_seg dksJ4_getEntry_2 24 rfl rfl
theorem dJ4_getEntry_0 : decode cJ4_getEntry 0 = .ok (.aload_n 0, 1) := dk_42 (dk_at dksJ4_getEntry_0 0 rfl rfl)
theorem dJ4_getEntry_1 : decode cJ4_getEntry 1 = .ok (.getfield 16, 3) := dk_180 0 16 (dk_at dksJ4_getEntry_0 1 rfl rfl)
theorem dJ4_getEntry_4 : decode cJ4_getEntry 4 = .ok (.ifnull 9, 3) := dk_198 0 9 (dk_at dksJ4_getEntry_0 4 rfl rfl)
theorem dJ4_getEntry_7 : decode cJ4_getEntry 7 = .ok (.aload_n 0, 1) := dk_42 (dk_at dksJ4_getEntry_0 7 rfl rfl)
theorem dJ4_getEntry_8 : decode cJ4_getEntry 8 = .ok (.aload_n 1, 1) := dk_43 (dk_at dksJ4_getEntry_0 8 rfl rfl)
theorem dJ4_getEntry_9 : decode cJ4_getEntry 9 = .ok (.invokevirtual 92, 3) := dk_182 0 92 (dk_at dksJ4_getEntry_0 9 rfl rfl)
theorem dJ4_getEntry_12 : decode cJ4_getEntry 12 = .ok (.areturn, 1) := dk_176 (dk_at dksJ4_getEntry_0 12 rfl rfl)
theorem dJ4_getEntry_13 : decode cJ4_getEntry 13 = .ok (.aload_n 1, 1) := dk_43 (dk_at dksJ4_getEntry_0 13 rfl rfl)
theorem dJ4_getEntry_14 : decode cJ4_getEntry 14 = .ok (.invokestatic 95, 3) := dk_184 0 95 (dk_at dksJ4_getEntry_0 14 rfl rfl)
theorem dJ4_getEntry_17 : decode cJ4_getEntry 17 = .ok (.pop, 1) := dk_87 (dk_at dksJ4_getEntry_0 17 rfl rfl)
theorem dJ4_getEntry_18 : decode cJ4_getEntry 18 = .ok (.aload_n 1, 1) := dk_43 (dk_at dksJ4_getEntry_0 18 rfl rfl)
theorem dJ4_getEntry_19 : decode cJ4_getEntry 19 = .ok (.checkcast 99, 3) := dk_192 0 99 (dk_at dksJ4_getEntry_0 19 rfl rfl)
theorem dJ4_getEntry_22 : decode cJ4_getEntry 22 = .ok (.astore_n 2, 1) := dk_77 (dk_at dksJ4_getEntry_0 22 rfl rfl)
theorem dJ4_getEntry_23 : decode cJ4_getEntry 23 = .ok (.aload_n 0, 1) := dk_42 (dk_at dksJ4_getEntry_0 23 rfl rfl)
theorem dJ4_getEntry_24 : decode cJ4_getEntry 24 = .ok (.getfield 101, 3) := dk_180 0 101 (dk_at dksJ4_getEntry_1 0 rfl rfl)
theorem dJ4_getEntry_27 : decode cJ4_getEntry 27 = .ok (.astore_n 3, 1) := dk_78 (dk_at dksJ4_getEntry_1 3 rfl rfl)
theorem dJ4_getEntry_28 : decode cJ4_getEntry 28 = .ok (.aload_n 3, 1) := dk_45 (dk_at dksJ4_getEntry_1 4 rfl rfl)
theorem dJ4_getEntry_29 : decode cJ4_getEntry 29 = .ok (.ifnull 46, 3) := dk_198 0 46 (dk_at dksJ4_getEntry_1 5 rfl rfl)
theorem dJ4_getEntry_32 : decode cJ4_getEntry 32 = .ok (.aload_n 2, 1) := dk_44 (dk_at dksJ4_getEntry_1 8 rfl rfl)
theorem dJ4_getEntry_33 : decode cJ4_getEntry 33 = .ok (.aload_n 3, 1) := dk_45 (dk_at dksJ4_getEntry_1 9 rfl rfl)
theorem dJ4_getEntry_34 : decode cJ4_getEntry 34 = .ok (.getfield 105, 3) := dk_180 0 105 (dk_at dksJ4_getEntry_1 10 rfl rfl)
theorem dJ4_getEntry_37 : decode cJ4_getEntry 37 = .ok (.invokeinterface 107 2, 5) := by decide +kernel
theorem dJ4_getEntry_42 : decode cJ4_getEntry 42 = .ok (.istore 4, 2) := dk_54 4 (dk_at dksJ4_getEntry_1 18 rfl rfl)
theorem dJ4_getEntry_44 : decode cJ4_getEntry 44 = .ok (.iload 4, 2) := dk_21 4 (dk_at dksJ4_getEntry_1 20 rfl rfl)
theorem dJ4_getEntry_46 : decode cJ4_getEntry 46 = .ok (.ifCond .ge 11, 3) := dk_156 0 11 (dk_at dksJ4_getEntry_2 0 rfl rfl)
theorem dJ4_getEntry_49 : decode cJ4_getEntry 49 = .ok (.aload_n 3, 1) := dk_45 (dk_at dksJ4_getEntry_2 3 rfl rfl)
theorem dJ4_getEntry_50 : decode cJ4_getEntry 50 = .ok (.getfield 111, 3) := dk_180 0 111 (dk_at dksJ4_getEntry_2 4 rfl rfl)
theorem dJ4_getEntry_53 : decode cJ4_getEntry 53 = .ok (.astore_n 3, 1) := dk_78 (dk_at dksJ4_getEntry_2 7 rfl rfl)
theorem dJ4_getEntry_54 : decode cJ4_getEntry 54 = .ok (.goto 18, 3) := dk_167 0 18 (dk_at dksJ4_getEntry_2 8 rfl rfl)
theorem dJ4_getEntry_57 : decode cJ4_getEntry 57 = .ok (.iload 4, 2) := dk_21 4 (dk_at dksJ4_getEntry_2 11 rfl rfl)
theorem dJ4_getEntry_59 : decode cJ4_getEntry 59 = .ok (.ifCond .le 11, 3) := dk_158 0 11 (dk_at dksJ4_getEntry_2 13 rfl rfl)
theorem dJ4_getEntry_62 : decode cJ4_getEntry 62 = .ok (.aload_n 3, 1) := dk_45 (dk_at dksJ4_getEntry_2 16 rfl rfl)
theorem dJ4_getEntry_63 : decode cJ4_getEntry 63 = .ok (.getfield 114, 3) := dk_180 0 114 (dk_at dksJ4_getEntry_2 17 rfl rfl)
theorem dJ4_getEntry_66 : decode cJ4_getEntry 66 = .ok (.astore_n 3, 1) := dk_78 (dk_at dksJ4_getEntry_2 20 rfl rfl)
theorem dJ4_getEntry_67 : decode cJ4_getEntry 67 = .ok (.goto 5, 3) := dk_167 0 5 (dk_at dksJ4_getEntry_2 21 rfl rfl)
theorem dJ4_getEntry_70 : decode cJ4_getEntry 70 = .ok (.aload_n 3, 1) := dk_45 (dk_at dksJ4_getEntry_3 0 rfl rfl)
theorem dJ4_getEntry_71 : decode cJ4_getEntry 71 = .ok (.areturn, 1) := dk_176 (dk_at dksJ4_getEntry_3 1 rfl rfl)
theorem dJ4_getEntry_72 : decode cJ4_getEntry 72 = .ok (.goto (-44), 3) := dk_167 255 212 (dk_at dksJ4_getEntry_3 2 rfl rfl)
theorem dJ4_getEntry_75 : decode cJ4_getEntry 75 = .ok (.aconst_null, 1) := dk_1 (dk_at dksJ4_getEntry_3 5 rfl rfl)
theorem dJ4_getEntry_76 : decode cJ4_getEntry 76 = .ok (.areturn, 1) := dk_176 (dk_at dksJ4_getEntry_3 6 rfl rfl)
def fJ4_getEntry_b72 (e : Nat → Nat) (N : Nat) (k28 : Mm → Option Nat → Option Nat → Rs (Option Nat)) (m : Mm) (v2 : Option Nat) (v3 : Option Nat) : Rs (Option Nat) := k28 m v2 v3
def fJ4_getEntry_b28 (e : Nat → Nat) (N : Nat) : Nat → Mm → Option Nat → Option Nat → Rs (Option Nat)
  | 0, _, _, _ => none
  | F + 1, m, v2, v3 => if v3 = none then (rt_ none m) else (gr_ m v3 16 0 (fun x1 => ck_ m v2 27 (bd_ (fJ21_compareTo e N m v2 x1) (fun x2 m1 => if x2 < 0 then (gr_ m1 v3 16 2 (fun x3 => fJ4_getEntry_b72 e N (fJ4_getEntry_b28 e N F) m1 v2 x3)) else (if 0 < x2 then (gr_ m1 v3 16 3 (fun x4 => fJ4_getEntry_b72 e N (fJ4_getEntry_b28 e N F) m1 v2 x4)) else (rt_ v3 m1))))))
def fJ4_getEntry (e : Nat → Nat) (N : Nat) (m : Mm) (v0 : Option Nat) (v1 : Option Nat) : Rs (Option Nat) := gr_ m v0 15 2 (fun x1 => if x1 = none then (bd_ (fJ23_requireNonNull e N m v1) (fun x2 m1 => cc_ m1 v1 [27] (gr_ m1 v0 15 3 (fun x3 => fJ4_getEntry_b28 e N N m1 v1 x3)))) else (none))
abbrev cJ4_get : ByteArray := prog_79_method_8_code
def yJ4_get : MethodName := ⟨RJ4, "get", "(Ljava/lang/Object;)Ljava/lang/Object;"⟩
def dkwJ4_get_0 : List UInt8 := [42, 43, 182, 0, 50, 77, 44, 199, 0, 7, 1, 167, 0, 7, 44, 180, 0, 58, 176]
abbrev dktJ4_get_0 : List UInt8 := dkwJ4_get_0 ++ []
theorem dksJ4_get_0 : cJ4_get.data.toList.drop 0 = dktJ4_get_0 := by decide +kernel
theorem dJ4_get_0 : decode cJ4_get 0 = .ok (.aload_n 0, 1) := dk_42 (dk_at dksJ4_get_0 0 rfl rfl)
theorem dJ4_get_1 : decode cJ4_get 1 = .ok (.aload_n 1, 1) := dk_43 (dk_at dksJ4_get_0 1 rfl rfl)
theorem dJ4_get_2 : decode cJ4_get 2 = .ok (.invokevirtual 50, 3) := dk_182 0 50 (dk_at dksJ4_get_0 2 rfl rfl)
theorem dJ4_get_5 : decode cJ4_get 5 = .ok (.astore_n 2, 1) := dk_77 (dk_at dksJ4_get_0 5 rfl rfl)
theorem dJ4_get_6 : decode cJ4_get 6 = .ok (.aload_n 2, 1) := dk_44 (dk_at dksJ4_get_0 6 rfl rfl)
theorem dJ4_get_7 : decode cJ4_get 7 = .ok (.ifnonnull 7, 3) := dk_199 0 7 (dk_at dksJ4_get_0 7 rfl rfl)
theorem dJ4_get_10 : decode cJ4_get 10 = .ok (.aconst_null, 1) := dk_1 (dk_at dksJ4_get_0 10 rfl rfl)
theorem dJ4_get_11 : decode cJ4_get 11 = .ok (.goto 7, 3) := dk_167 0 7 (dk_at dksJ4_get_0 11 rfl rfl)
theorem dJ4_get_14 : decode cJ4_get 14 = .ok (.aload_n 2, 1) := dk_44 (dk_at dksJ4_get_0 14 rfl rfl)
theorem dJ4_get_15 : decode cJ4_get 15 = .ok (.getfield 58, 3) := dk_180 0 58 (dk_at dksJ4_get_0 15 rfl rfl)
theorem dJ4_get_18 : decode cJ4_get 18 = .ok (.areturn, 1) := dk_176 (dk_at dksJ4_get_0 18 rfl rfl)
def fJ4_get_b18 (e : Nat → Nat) (N : Nat) (m : Mm) (s0 : Option Nat) : Rs (Option Nat) := rt_ s0 m
def fJ4_get (e : Nat → Nat) (N : Nat) (m : Mm) (v0 : Option Nat) (v1 : Option Nat) : Rs (Option Nat) := ck_ m v0 15 (bd_ (fJ4_getEntry e N m v0 v1) (fun x1 m1 => if x1 = none then (fJ4_get_b18 e N m1 none) else (gr_ m1 x1 16 1 (fun x2 => fJ4_get_b18 e N m1 x2))))
abbrev cJ28_longValue : ByteArray := prog_40_method_31_code
def yJ28_longValue : MethodName := ⟨RJ28, "longValue", "()J"⟩
theorem dJ28_longValue_0 : decode cJ28_longValue 0 = .ok (.aload_n 0, 1) := by decide +kernel
theorem dJ28_longValue_1 : decode cJ28_longValue 1 = .ok (.getfield 273, 3) := by decide +kernel
theorem dJ28_longValue_4 : decode cJ28_longValue 4 = .ok (.lreturn, 1) := by decide +kernel
def fJ28_longValue (e : Nat → Nat) (N : Nat) (m : Mm) (v0 : Option Nat) : Rs (Int64) := gj_ m v0 28 0 (fun x1 => rt_ x1 m)
abbrev cX3_isLive : ByteArray := prog_7_method_2_code
def yX3_isLive : MethodName := ⟨RX3, "isLive", "()Z"⟩
def dkwX3_isLive_1 : List UInt8 := [167, 0, 4, 3, 172]
abbrev dktX3_isLive_1 : List UInt8 := dkwX3_isLive_1 ++ []
def dkwX3_isLive_0 : List UInt8 := [42, 180, 0, 32, 153, 0, 17, 42, 180, 0, 38, 198, 0, 14, 42, 180, 0, 42, 154, 0, 7, 4]
abbrev dktX3_isLive_0 : List UInt8 := dkwX3_isLive_0 ++ dktX3_isLive_1
theorem dksX3_isLive_0 : cX3_isLive.data.toList.drop 0 = dktX3_isLive_0 := by decide +kernel
theorem dksX3_isLive_1 : cX3_isLive.data.toList.drop 22 = dktX3_isLive_1 := dk_seg dksX3_isLive_0 22 rfl rfl
theorem dX3_isLive_0 : decode cX3_isLive 0 = .ok (.aload_n 0, 1) := dk_42 (dk_at dksX3_isLive_0 0 rfl rfl)
theorem dX3_isLive_1 : decode cX3_isLive 1 = .ok (.getfield 32, 3) := dk_180 0 32 (dk_at dksX3_isLive_0 1 rfl rfl)
theorem dX3_isLive_4 : decode cX3_isLive 4 = .ok (.ifCond .eq 17, 3) := dk_153 0 17 (dk_at dksX3_isLive_0 4 rfl rfl)
theorem dX3_isLive_7 : decode cX3_isLive 7 = .ok (.aload_n 0, 1) := dk_42 (dk_at dksX3_isLive_0 7 rfl rfl)
theorem dX3_isLive_8 : decode cX3_isLive 8 = .ok (.getfield 38, 3) := dk_180 0 38 (dk_at dksX3_isLive_0 8 rfl rfl)
theorem dX3_isLive_11 : decode cX3_isLive 11 = .ok (.ifnull 14, 3) := dk_198 0 14 (dk_at dksX3_isLive_0 11 rfl rfl)
theorem dX3_isLive_14 : decode cX3_isLive 14 = .ok (.aload_n 0, 1) := dk_42 (dk_at dksX3_isLive_0 14 rfl rfl)
theorem dX3_isLive_15 : decode cX3_isLive 15 = .ok (.getfield 42, 3) := dk_180 0 42 (dk_at dksX3_isLive_0 15 rfl rfl)
theorem dX3_isLive_18 : decode cX3_isLive 18 = .ok (.ifCond .ne 7, 3) := dk_154 0 7 (dk_at dksX3_isLive_0 18 rfl rfl)
theorem dX3_isLive_21 : decode cX3_isLive 21 = .ok (.iconst 1, 1) := dk_4 (dk_at dksX3_isLive_0 21 rfl rfl)
theorem dX3_isLive_22 : decode cX3_isLive 22 = .ok (.goto 4, 3) := dk_167 0 4 (dk_at dksX3_isLive_1 0 rfl rfl)
theorem dX3_isLive_25 : decode cX3_isLive 25 = .ok (.iconst 0, 1) := dk_3 (dk_at dksX3_isLive_1 3 rfl rfl)
theorem dX3_isLive_26 : decode cX3_isLive 26 = .ok (.ireturn, 1) := dk_172 (dk_at dksX3_isLive_1 4 rfl rfl)
def fX3_isLive_b26 (e : Nat → Nat) (N : Nat) (m : Mm) (s0 : Int32) : Rs (Int32) := rz_ s0 s0 m
def fX3_isLive_b21 (e : Nat → Nat) (N : Nat) (m : Mm) : Rs (Int32) := fX3_isLive_b26 e N m 1
def fX3_isLive_b25 (e : Nat → Nat) (N : Nat) (m : Mm) : Rs (Int32) := fX3_isLive_b26 e N m 0
def fX3_isLive (e : Nat → Nat) (N : Nat) (m : Mm) (v0 : Option Nat) : Rs (Int32) := gi_ m v0 3 0 (fun x1 => if x1 = 0 then (fX3_isLive_b21 e N m) else (gr_ m v0 3 3 (fun x2 => if x2 = none then (fX3_isLive_b25 e N m) else (gi_ m v0 3 4 (fun x3 => if x3 = 0 then (fX3_isLive_b21 e N m) else (fX3_isLive_b25 e N m))))))
abbrev cJ0_init : ByteArray := prog_53_method_1_code
def yJ0_init : MethodName := ⟨RJ0, "<init>", "()V"⟩
theorem dJ0_init_0 : decode cJ0_init 0 = .ok (.aload_n 0, 1) := by decide +kernel
theorem dJ0_init_1 : decode cJ0_init 1 = .ok (.invokespecial 1, 3) := by decide +kernel
theorem dJ0_init_4 : decode cJ0_init 4 = .ok (.return_, 1) := by decide +kernel
def fJ0_init_t17 (e : Nat → Nat) (N : Nat) (m : Mm) (v0 : Option Nat) : Rs (Unit) := ok_ v0 (rt_ () m)
abbrev cJ24_init : ByteArray := prog_58_method_1_code
def yJ24_init : MethodName := ⟨RJ24, "<init>", "()V"⟩
theorem dJ24_init_0 : decode cJ24_init 0 = .ok (.aload_n 0, 1) := by decide +kernel
theorem dJ24_init_1 : decode cJ24_init 1 = .ok (.invokespecial 1, 3) := by decide +kernel
theorem dJ24_init_4 : decode cJ24_init 4 = .ok (.return_, 1) := by decide +kernel
def fJ24_init_t17 (e : Nat → Nat) (N : Nat) (m : Mm) (v0 : Option Nat) : Rs (Unit) := ok_ v0 (bd_ (fJ0_init_t17 e N m v0) (fun _ m1 => rt_ () m1))
abbrev cJ36_init : ByteArray := prog_86_method_1_code
def yJ36_init : MethodName := ⟨RJ36, "<init>", "(Ljava/util/NavigableMap;)V"⟩
def dkwJ36_init_0 : List UInt8 := [42, 183, 0, 1, 42, 43, 181, 0, 7, 177]
abbrev dktJ36_init_0 : List UInt8 := dkwJ36_init_0 ++ []
theorem dksJ36_init_0 : cJ36_init.data.toList.drop 0 = dktJ36_init_0 := by decide +kernel
theorem dJ36_init_0 : decode cJ36_init 0 = .ok (.aload_n 0, 1) := dk_42 (dk_at dksJ36_init_0 0 rfl rfl)
theorem dJ36_init_1 : decode cJ36_init 1 = .ok (.invokespecial 1, 3) := dk_183 0 1 (dk_at dksJ36_init_0 1 rfl rfl)
theorem dJ36_init_4 : decode cJ36_init 4 = .ok (.aload_n 0, 1) := dk_42 (dk_at dksJ36_init_0 4 rfl rfl)
theorem dJ36_init_5 : decode cJ36_init 5 = .ok (.aload_n 1, 1) := dk_43 (dk_at dksJ36_init_0 5 rfl rfl)
theorem dJ36_init_6 : decode cJ36_init 6 = .ok (.putfield 7, 3) := dk_181 0 7 (dk_at dksJ36_init_0 6 rfl rfl)
theorem dJ36_init_9 : decode cJ36_init 9 = .ok (.return_, 1) := dk_177 (dk_at dksJ36_init_0 9 rfl rfl)
def fJ36_init (e : Nat → Nat) (N : Nat) (m : Mm) (v0 : Option Nat) (v1 : Option Nat) : Rs (Unit) := ok_ v0 (bd_ (fJ24_init_t17 e N m v0) (fun _ m1 => pr_ m1 v0 17 0 v1 (fun m2 => rt_ () m2)))
abbrev cJ4_navigableKeySet : ByteArray := prog_79_method_50_code
def yJ4_navigableKeySet : MethodName := ⟨RJ4, "navigableKeySet", "()Ljava/util/NavigableSet;"⟩
def dkwJ4_navigableKeySet_1 : List UInt8 := [181, 0, 191, 176]
abbrev dktJ4_navigableKeySet_1 : List UInt8 := dkwJ4_navigableKeySet_1 ++ []
def dkwJ4_navigableKeySet_0 : List UInt8 := [42, 180, 0, 191, 76, 43, 198, 0, 7, 43, 167, 0, 16, 42, 187, 0, 222, 89, 42, 183, 0, 224, 90]
abbrev dktJ4_navigableKeySet_0 : List UInt8 := dkwJ4_navigableKeySet_0 ++ dktJ4_navigableKeySet_1
theorem dksJ4_navigableKeySet_0 : cJ4_navigableKeySet.data.toList.drop 0 = dktJ4_navigableKeySet_0 := by decide +kernel
theorem dksJ4_navigableKeySet_1 : cJ4_navigableKeySet.data.toList.drop 23 = dktJ4_navigableKeySet_1 := dk_seg dksJ4_navigableKeySet_0 23 rfl rfl
theorem dJ4_navigableKeySet_0 : decode cJ4_navigableKeySet 0 = .ok (.aload_n 0, 1) := dk_42 (dk_at dksJ4_navigableKeySet_0 0 rfl rfl)
theorem dJ4_navigableKeySet_1 : decode cJ4_navigableKeySet 1 = .ok (.getfield 191, 3) := dk_180 0 191 (dk_at dksJ4_navigableKeySet_0 1 rfl rfl)
theorem dJ4_navigableKeySet_4 : decode cJ4_navigableKeySet 4 = .ok (.astore_n 1, 1) := dk_76 (dk_at dksJ4_navigableKeySet_0 4 rfl rfl)
theorem dJ4_navigableKeySet_5 : decode cJ4_navigableKeySet 5 = .ok (.aload_n 1, 1) := dk_43 (dk_at dksJ4_navigableKeySet_0 5 rfl rfl)
theorem dJ4_navigableKeySet_6 : decode cJ4_navigableKeySet 6 = .ok (.ifnull 7, 3) := dk_198 0 7 (dk_at dksJ4_navigableKeySet_0 6 rfl rfl)
theorem dJ4_navigableKeySet_9 : decode cJ4_navigableKeySet 9 = .ok (.aload_n 1, 1) := dk_43 (dk_at dksJ4_navigableKeySet_0 9 rfl rfl)
theorem dJ4_navigableKeySet_10 : decode cJ4_navigableKeySet 10 = .ok (.goto 16, 3) := dk_167 0 16 (dk_at dksJ4_navigableKeySet_0 10 rfl rfl)
theorem dJ4_navigableKeySet_13 : decode cJ4_navigableKeySet 13 = .ok (.aload_n 0, 1) := dk_42 (dk_at dksJ4_navigableKeySet_0 13 rfl rfl)
theorem dJ4_navigableKeySet_14 : decode cJ4_navigableKeySet 14 = .ok (.new 222, 3) := dk_187 0 222 (dk_at dksJ4_navigableKeySet_0 14 rfl rfl)
theorem dJ4_navigableKeySet_17 : decode cJ4_navigableKeySet 17 = .ok (.dup, 1) := dk_89 (dk_at dksJ4_navigableKeySet_0 17 rfl rfl)
theorem dJ4_navigableKeySet_18 : decode cJ4_navigableKeySet 18 = .ok (.aload_n 0, 1) := dk_42 (dk_at dksJ4_navigableKeySet_0 18 rfl rfl)
theorem dJ4_navigableKeySet_19 : decode cJ4_navigableKeySet 19 = .ok (.invokespecial 224, 3) := dk_183 0 224 (dk_at dksJ4_navigableKeySet_0 19 rfl rfl)
theorem dJ4_navigableKeySet_22 : decode cJ4_navigableKeySet 22 = .ok (.dup_x1, 1) := dk_90 (dk_at dksJ4_navigableKeySet_0 22 rfl rfl)
theorem dJ4_navigableKeySet_23 : decode cJ4_navigableKeySet 23 = .ok (.putfield 191, 3) := dk_181 0 191 (dk_at dksJ4_navigableKeySet_1 0 rfl rfl)
theorem dJ4_navigableKeySet_26 : decode cJ4_navigableKeySet 26 = .ok (.areturn, 1) := dk_176 (dk_at dksJ4_navigableKeySet_1 3 rfl rfl)
def fJ4_navigableKeySet_b26 (e : Nat → Nat) (N : Nat) (m : Mm) (s0 : Option Nat) : Rs (Option Nat) := rt_ s0 m
def fJ4_navigableKeySet (e : Nat → Nat) (N : Nat) (m : Mm) (v0 : Option Nat) : Rs (Option Nat) := gr_ m v0 15 7 (fun x1 => if x1 = none then (nw_ m 17 1 (fun x2 m1 => bd_ (fJ36_init e N m1 (some x2) v0) (fun _ m2 => pr_ m2 v0 15 7 (some x2) (fun m3 => fJ4_navigableKeySet_b26 e N m3 (some x2))))) else (fJ4_navigableKeySet_b26 e N m x1))
abbrev cJ4_keySet : ByteArray := prog_79_method_49_code
def yJ4_keySet : MethodName := ⟨RJ4, "keySet", "()Ljava/util/Set;"⟩
theorem dJ4_keySet_0 : decode cJ4_keySet 0 = .ok (.aload_n 0, 1) := by decide +kernel
theorem dJ4_keySet_1 : decode cJ4_keySet 1 = .ok (.invokevirtual 219, 3) := by decide +kernel
theorem dJ4_keySet_4 : decode cJ4_keySet 4 = .ok (.areturn, 1) := by decide +kernel
def fJ4_keySet (e : Nat → Nat) (N : Nat) (m : Mm) (v0 : Option Nat) : Rs (Option Nat) := ck_ m v0 15 (bd_ (fJ4_navigableKeySet e N m v0) (fun x1 m1 => rt_ x1 m1))
abbrev cJ38_tooHigh : ByteArray := prog_87_method_3_code
def yJ38_tooHigh : MethodName := ⟨RJ38, "tooHigh", "(Ljava/lang/Object;)Z"⟩
def dkwJ38_tooHigh_1 : List UInt8 := [28, 154, 0, 12, 42, 180, 0, 43, 154, 0, 5, 4, 172, 3, 172]
abbrev dktJ38_tooHigh_1 : List UInt8 := dkwJ38_tooHigh_1 ++ []
def dkwJ38_tooHigh_0 : List UInt8 := [42, 180, 0, 37, 154, 0, 33, 42, 180, 0, 20, 43, 42, 180, 0, 40, 182, 0, 7, 61, 28, 157, 0, 14]
abbrev dktJ38_tooHigh_0 : List UInt8 := dkwJ38_tooHigh_0 ++ dktJ38_tooHigh_1
theorem dksJ38_tooHigh_0 : cJ38_tooHigh.data.toList.drop 0 = dktJ38_tooHigh_0 := by decide +kernel
theorem dksJ38_tooHigh_1 : cJ38_tooHigh.data.toList.drop 24 = dktJ38_tooHigh_1 := dk_seg dksJ38_tooHigh_0 24 rfl rfl
theorem dJ38_tooHigh_0 : decode cJ38_tooHigh 0 = .ok (.aload_n 0, 1) := dk_42 (dk_at dksJ38_tooHigh_0 0 rfl rfl)
theorem dJ38_tooHigh_1 : decode cJ38_tooHigh 1 = .ok (.getfield 37, 3) := dk_180 0 37 (dk_at dksJ38_tooHigh_0 1 rfl rfl)
theorem dJ38_tooHigh_4 : decode cJ38_tooHigh 4 = .ok (.ifCond .ne 33, 3) := dk_154 0 33 (dk_at dksJ38_tooHigh_0 4 rfl rfl)
theorem dJ38_tooHigh_7 : decode cJ38_tooHigh 7 = .ok (.aload_n 0, 1) := dk_42 (dk_at dksJ38_tooHigh_0 7 rfl rfl)
theorem dJ38_tooHigh_8 : decode cJ38_tooHigh 8 = .ok (.getfield 20, 3) := dk_180 0 20 (dk_at dksJ38_tooHigh_0 8 rfl rfl)
theorem dJ38_tooHigh_11 : decode cJ38_tooHigh 11 = .ok (.aload_n 1, 1) := dk_43 (dk_at dksJ38_tooHigh_0 11 rfl rfl)
theorem dJ38_tooHigh_12 : decode cJ38_tooHigh 12 = .ok (.aload_n 0, 1) := dk_42 (dk_at dksJ38_tooHigh_0 12 rfl rfl)
theorem dJ38_tooHigh_13 : decode cJ38_tooHigh 13 = .ok (.getfield 40, 3) := dk_180 0 40 (dk_at dksJ38_tooHigh_0 13 rfl rfl)
theorem dJ38_tooHigh_16 : decode cJ38_tooHigh 16 = .ok (.invokevirtual 7, 3) := dk_182 0 7 (dk_at dksJ38_tooHigh_0 16 rfl rfl)
theorem dJ38_tooHigh_19 : decode cJ38_tooHigh 19 = .ok (.istore_n 2, 1) := dk_61 (dk_at dksJ38_tooHigh_0 19 rfl rfl)
theorem dJ38_tooHigh_20 : decode cJ38_tooHigh 20 = .ok (.iload_n 2, 1) := dk_28 (dk_at dksJ38_tooHigh_0 20 rfl rfl)
theorem dJ38_tooHigh_21 : decode cJ38_tooHigh 21 = .ok (.ifCond .gt 14, 3) := dk_157 0 14 (dk_at dksJ38_tooHigh_0 21 rfl rfl)
theorem dJ38_tooHigh_24 : decode cJ38_tooHigh 24 = .ok (.iload_n 2, 1) := dk_28 (dk_at dksJ38_tooHigh_1 0 rfl rfl)
theorem dJ38_tooHigh_25 : decode cJ38_tooHigh 25 = .ok (.ifCond .ne 12, 3) := dk_154 0 12 (dk_at dksJ38_tooHigh_1 1 rfl rfl)
theorem dJ38_tooHigh_28 : decode cJ38_tooHigh 28 = .ok (.aload_n 0, 1) := dk_42 (dk_at dksJ38_tooHigh_1 4 rfl rfl)
theorem dJ38_tooHigh_29 : decode cJ38_tooHigh 29 = .ok (.getfield 43, 3) := dk_180 0 43 (dk_at dksJ38_tooHigh_1 5 rfl rfl)
theorem dJ38_tooHigh_32 : decode cJ38_tooHigh 32 = .ok (.ifCond .ne 5, 3) := dk_154 0 5 (dk_at dksJ38_tooHigh_1 8 rfl rfl)
theorem dJ38_tooHigh_35 : decode cJ38_tooHigh 35 = .ok (.iconst 1, 1) := dk_4 (dk_at dksJ38_tooHigh_1 11 rfl rfl)
theorem dJ38_tooHigh_36 : decode cJ38_tooHigh 36 = .ok (.ireturn, 1) := dk_172 (dk_at dksJ38_tooHigh_1 12 rfl rfl)
theorem dJ38_tooHigh_37 : decode cJ38_tooHigh 37 = .ok (.iconst 0, 1) := dk_3 (dk_at dksJ38_tooHigh_1 13 rfl rfl)
theorem dJ38_tooHigh_38 : decode cJ38_tooHigh 38 = .ok (.ireturn, 1) := dk_172 (dk_at dksJ38_tooHigh_1 14 rfl rfl)
def fJ38_tooHigh_t21_b35 (e : Nat → Nat) (N : Nat) (m : Mm) : Rs (Int32) := rt_ 1 m
def fJ38_tooHigh_t21_b37 (e : Nat → Nat) (N : Nat) (m : Mm) : Rs (Int32) := rt_ 0 m
def fJ38_tooHigh_t21 (e : Nat → Nat) (N : Nat) (m : Mm) (v0 : Option Nat) (v1 : Option Nat) : Rs (Int32) := gi_ m v0 21 4 (fun x1 => if x1 = 0 then (gr_ m v0 21 0 (fun x2 => gr_ m v0 21 2 (fun x3 => ck_ m x2 15 (bd_ (fJ4_compare e N m x2 v1 x3) (fun x4 m1 => if 0 < x4 then (fJ38_tooHigh_t21_b35 e N m1) else (if x4 = 0 then (gi_ m1 v0 21 6 (fun x5 => if x5 = 0 then (fJ38_tooHigh_t21_b35 e N m1) else (fJ38_tooHigh_t21_b37 e N m1))) else (fJ38_tooHigh_t21_b37 e N m1))))))) else (fJ38_tooHigh_t21_b37 e N m))
abbrev cJ4_getHigherEntry : ByteArray := prog_79_method_19_code
def yJ4_getHigherEntry : MethodName := ⟨RJ4, "getHigherEntry", "(Ljava/lang/Object;)Ljava/util/TreeMap$Entry;"⟩
def dkwJ4_getHigherEntry_4 : List UInt8 := [176, 167, 255, 165, 1, 176]
abbrev dktJ4_getHigherEntry_4 : List UInt8 := dkwJ4_getHigherEntry_4 ++ []
def dkwJ4_getHigherEntry_3 : List UInt8 := [25, 4, 180, 0, 114, 166, 0, 17, 25, 4, 58, 5, 25, 4, 180, 0, 124, 58, 4, 167, 255, 230, 25, 4]
abbrev dktJ4_getHigherEntry_3 : List UInt8 := dkwJ4_getHigherEntry_3 ++ dktJ4_getHigherEntry_4
def dkwJ4_getHigherEntry_2 : List UInt8 := [180, 0, 114, 77, 167, 0, 44, 44, 180, 0, 124, 58, 4, 44, 58, 5, 25, 4, 198, 0, 27, 25, 5]
abbrev dktJ4_getHigherEntry_2 : List UInt8 := dkwJ4_getHigherEntry_2 ++ dktJ4_getHigherEntry_3
def dkwJ4_getHigherEntry_1 : List UInt8 := [180, 0, 111, 198, 0, 11, 44, 180, 0, 111, 77, 167, 0, 61, 44, 176, 44, 180, 0, 114, 198, 0, 11, 44]
abbrev dktJ4_getHigherEntry_1 : List UInt8 := dkwJ4_getHigherEntry_1 ++ dktJ4_getHigherEntry_2
def dkwJ4_getHigherEntry_0 : List UInt8 := [42, 180, 0, 101, 77, 44, 198, 0, 93, 42, 43, 44, 180, 0, 105, 182, 0, 123, 62, 29, 156, 0, 20, 44]
abbrev dktJ4_getHigherEntry_0 : List UInt8 := dkwJ4_getHigherEntry_0 ++ dktJ4_getHigherEntry_1
theorem dksJ4_getHigherEntry_0 : cJ4_getHigherEntry.data.toList.drop 0 = dktJ4_getHigherEntry_0 := by decide +kernel
theorem dksJ4_getHigherEntry_1 : cJ4_getHigherEntry.data.toList.drop 24 = dktJ4_getHigherEntry_1 := dk_seg dksJ4_getHigherEntry_0 24 rfl rfl
theorem dksJ4_getHigherEntry_2 : cJ4_getHigherEntry.data.toList.drop 48 = dktJ4_getHigherEntry_2 := dk_seg dksJ4_getHigherEntry_1 24 rfl rfl
theorem dksJ4_getHigherEntry_3 : cJ4_getHigherEntry.data.toList.drop 71 = dktJ4_getHigherEntry_3 := dk_seg dksJ4_getHigherEntry_2 23 rfl rfl
theorem dksJ4_getHigherEntry_4 : cJ4_getHigherEntry.data.toList.drop 95 = dktJ4_getHigherEntry_4 := dk_seg dksJ4_getHigherEntry_3 24 rfl rfl
theorem dJ4_getHigherEntry_0 : decode cJ4_getHigherEntry 0 = .ok (.aload_n 0, 1) := dk_42 (dk_at dksJ4_getHigherEntry_0 0 rfl rfl)
theorem dJ4_getHigherEntry_1 : decode cJ4_getHigherEntry 1 = .ok (.getfield 101, 3) := dk_180 0 101 (dk_at dksJ4_getHigherEntry_0 1 rfl rfl)
theorem dJ4_getHigherEntry_4 : decode cJ4_getHigherEntry 4 = .ok (.astore_n 2, 1) := dk_77 (dk_at dksJ4_getHigherEntry_0 4 rfl rfl)
theorem dJ4_getHigherEntry_5 : decode cJ4_getHigherEntry 5 = .ok (.aload_n 2, 1) := dk_44 (dk_at dksJ4_getHigherEntry_0 5 rfl rfl)
theorem dJ4_getHigherEntry_6 : decode cJ4_getHigherEntry 6 = .ok (.ifnull 93, 3) := dk_198 0 93 (dk_at dksJ4_getHigherEntry_0 6 rfl rfl)
theorem dJ4_getHigherEntry_9 : decode cJ4_getHigherEntry 9 = .ok (.aload_n 0, 1) := dk_42 (dk_at dksJ4_getHigherEntry_0 9 rfl rfl)
theorem dJ4_getHigherEntry_10 : decode cJ4_getHigherEntry 10 = .ok (.aload_n 1, 1) := dk_43 (dk_at dksJ4_getHigherEntry_0 10 rfl rfl)
theorem dJ4_getHigherEntry_11 : decode cJ4_getHigherEntry 11 = .ok (.aload_n 2, 1) := dk_44 (dk_at dksJ4_getHigherEntry_0 11 rfl rfl)
theorem dJ4_getHigherEntry_12 : decode cJ4_getHigherEntry 12 = .ok (.getfield 105, 3) := dk_180 0 105 (dk_at dksJ4_getHigherEntry_0 12 rfl rfl)
theorem dJ4_getHigherEntry_15 : decode cJ4_getHigherEntry 15 = .ok (.invokevirtual 123, 3) := dk_182 0 123 (dk_at dksJ4_getHigherEntry_0 15 rfl rfl)
theorem dJ4_getHigherEntry_18 : decode cJ4_getHigherEntry 18 = .ok (.istore_n 3, 1) := dk_62 (dk_at dksJ4_getHigherEntry_0 18 rfl rfl)
theorem dJ4_getHigherEntry_19 : decode cJ4_getHigherEntry 19 = .ok (.iload_n 3, 1) := dk_29 (dk_at dksJ4_getHigherEntry_0 19 rfl rfl)
theorem dJ4_getHigherEntry_20 : decode cJ4_getHigherEntry 20 = .ok (.ifCond .ge 20, 3) := dk_156 0 20 (dk_at dksJ4_getHigherEntry_0 20 rfl rfl)
theorem dJ4_getHigherEntry_23 : decode cJ4_getHigherEntry 23 = .ok (.aload_n 2, 1) := dk_44 (dk_at dksJ4_getHigherEntry_0 23 rfl rfl)
theorem dJ4_getHigherEntry_24 : decode cJ4_getHigherEntry 24 = .ok (.getfield 111, 3) := dk_180 0 111 (dk_at dksJ4_getHigherEntry_1 0 rfl rfl)
theorem dJ4_getHigherEntry_27 : decode cJ4_getHigherEntry 27 = .ok (.ifnull 11, 3) := dk_198 0 11 (dk_at dksJ4_getHigherEntry_1 3 rfl rfl)
theorem dJ4_getHigherEntry_30 : decode cJ4_getHigherEntry 30 = .ok (.aload_n 2, 1) := dk_44 (dk_at dksJ4_getHigherEntry_1 6 rfl rfl)
theorem dJ4_getHigherEntry_31 : decode cJ4_getHigherEntry 31 = .ok (.getfield 111, 3) := dk_180 0 111 (dk_at dksJ4_getHigherEntry_1 7 rfl rfl)
theorem dJ4_getHigherEntry_34 : decode cJ4_getHigherEntry 34 = .ok (.astore_n 2, 1) := dk_77 (dk_at dksJ4_getHigherEntry_1 10 rfl rfl)
theorem dJ4_getHigherEntry_35 : decode cJ4_getHigherEntry 35 = .ok (.goto 61, 3) := dk_167 0 61 (dk_at dksJ4_getHigherEntry_1 11 rfl rfl)
theorem dJ4_getHigherEntry_38 : decode cJ4_getHigherEntry 38 = .ok (.aload_n 2, 1) := dk_44 (dk_at dksJ4_getHigherEntry_1 14 rfl rfl)
theorem dJ4_getHigherEntry_39 : decode cJ4_getHigherEntry 39 = .ok (.areturn, 1) := dk_176 (dk_at dksJ4_getHigherEntry_1 15 rfl rfl)
theorem dJ4_getHigherEntry_40 : decode cJ4_getHigherEntry 40 = .ok (.aload_n 2, 1) := dk_44 (dk_at dksJ4_getHigherEntry_1 16 rfl rfl)
theorem dJ4_getHigherEntry_41 : decode cJ4_getHigherEntry 41 = .ok (.getfield 114, 3) := dk_180 0 114 (dk_at dksJ4_getHigherEntry_1 17 rfl rfl)
theorem dJ4_getHigherEntry_44 : decode cJ4_getHigherEntry 44 = .ok (.ifnull 11, 3) := dk_198 0 11 (dk_at dksJ4_getHigherEntry_1 20 rfl rfl)
theorem dJ4_getHigherEntry_47 : decode cJ4_getHigherEntry 47 = .ok (.aload_n 2, 1) := dk_44 (dk_at dksJ4_getHigherEntry_1 23 rfl rfl)
theorem dJ4_getHigherEntry_48 : decode cJ4_getHigherEntry 48 = .ok (.getfield 114, 3) := dk_180 0 114 (dk_at dksJ4_getHigherEntry_2 0 rfl rfl)
theorem dJ4_getHigherEntry_51 : decode cJ4_getHigherEntry 51 = .ok (.astore_n 2, 1) := dk_77 (dk_at dksJ4_getHigherEntry_2 3 rfl rfl)
theorem dJ4_getHigherEntry_52 : decode cJ4_getHigherEntry 52 = .ok (.goto 44, 3) := dk_167 0 44 (dk_at dksJ4_getHigherEntry_2 4 rfl rfl)
theorem dJ4_getHigherEntry_55 : decode cJ4_getHigherEntry 55 = .ok (.aload_n 2, 1) := dk_44 (dk_at dksJ4_getHigherEntry_2 7 rfl rfl)
theorem dJ4_getHigherEntry_56 : decode cJ4_getHigherEntry 56 = .ok (.getfield 124, 3) := dk_180 0 124 (dk_at dksJ4_getHigherEntry_2 8 rfl rfl)
theorem dJ4_getHigherEntry_59 : decode cJ4_getHigherEntry 59 = .ok (.astore 4, 2) := dk_58 4 (dk_at dksJ4_getHigherEntry_2 11 rfl rfl)
theorem dJ4_getHigherEntry_61 : decode cJ4_getHigherEntry 61 = .ok (.aload_n 2, 1) := dk_44 (dk_at dksJ4_getHigherEntry_2 13 rfl rfl)
theorem dJ4_getHigherEntry_62 : decode cJ4_getHigherEntry 62 = .ok (.astore 5, 2) := dk_58 5 (dk_at dksJ4_getHigherEntry_2 14 rfl rfl)
theorem dJ4_getHigherEntry_64 : decode cJ4_getHigherEntry 64 = .ok (.aload 4, 2) := dk_25 4 (dk_at dksJ4_getHigherEntry_2 16 rfl rfl)
theorem dJ4_getHigherEntry_66 : decode cJ4_getHigherEntry 66 = .ok (.ifnull 27, 3) := dk_198 0 27 (dk_at dksJ4_getHigherEntry_2 18 rfl rfl)
theorem dJ4_getHigherEntry_69 : decode cJ4_getHigherEntry 69 = .ok (.aload 5, 2) := dk_25 5 (dk_at dksJ4_getHigherEntry_2 21 rfl rfl)
theorem dJ4_getHigherEntry_71 : decode cJ4_getHigherEntry 71 = .ok (.aload 4, 2) := dk_25 4 (dk_at dksJ4_getHigherEntry_3 0 rfl rfl)
theorem dJ4_getHigherEntry_73 : decode cJ4_getHigherEntry 73 = .ok (.getfield 114, 3) := dk_180 0 114 (dk_at dksJ4_getHigherEntry_3 2 rfl rfl)
theorem dJ4_getHigherEntry_76 : decode cJ4_getHigherEntry 76 = .ok (.if_acmp .ne 17, 3) := dk_166 0 17 (dk_at dksJ4_getHigherEntry_3 5 rfl rfl)
theorem dJ4_getHigherEntry_79 : decode cJ4_getHigherEntry 79 = .ok (.aload 4, 2) := dk_25 4 (dk_at dksJ4_getHigherEntry_3 8 rfl rfl)
theorem dJ4_getHigherEntry_81 : decode cJ4_getHigherEntry 81 = .ok (.astore 5, 2) := dk_58 5 (dk_at dksJ4_getHigherEntry_3 10 rfl rfl)
theorem dJ4_getHigherEntry_83 : decode cJ4_getHigherEntry 83 = .ok (.aload 4, 2) := dk_25 4 (dk_at dksJ4_getHigherEntry_3 12 rfl rfl)
theorem dJ4_getHigherEntry_85 : decode cJ4_getHigherEntry 85 = .ok (.getfield 124, 3) := dk_180 0 124 (dk_at dksJ4_getHigherEntry_3 14 rfl rfl)
theorem dJ4_getHigherEntry_88 : decode cJ4_getHigherEntry 88 = .ok (.astore 4, 2) := dk_58 4 (dk_at dksJ4_getHigherEntry_3 17 rfl rfl)
theorem dJ4_getHigherEntry_90 : decode cJ4_getHigherEntry 90 = .ok (.goto (-26), 3) := dk_167 255 230 (dk_at dksJ4_getHigherEntry_3 19 rfl rfl)
theorem dJ4_getHigherEntry_93 : decode cJ4_getHigherEntry 93 = .ok (.aload 4, 2) := dk_25 4 (dk_at dksJ4_getHigherEntry_3 22 rfl rfl)
theorem dJ4_getHigherEntry_95 : decode cJ4_getHigherEntry 95 = .ok (.areturn, 1) := dk_176 (dk_at dksJ4_getHigherEntry_4 0 rfl rfl)
theorem dJ4_getHigherEntry_96 : decode cJ4_getHigherEntry 96 = .ok (.goto (-91), 3) := dk_167 255 165 (dk_at dksJ4_getHigherEntry_4 1 rfl rfl)
theorem dJ4_getHigherEntry_99 : decode cJ4_getHigherEntry 99 = .ok (.aconst_null, 1) := dk_1 (dk_at dksJ4_getHigherEntry_4 4 rfl rfl)
theorem dJ4_getHigherEntry_100 : decode cJ4_getHigherEntry 100 = .ok (.areturn, 1) := dk_176 (dk_at dksJ4_getHigherEntry_4 5 rfl rfl)
def fJ4_getHigherEntry_b93 (e : Nat → Nat) (N : Nat) (m : Mm) (v4 : Option Nat) : Rs (Option Nat) := rt_ v4 m
def fJ4_getHigherEntry_b64 (e : Nat → Nat) (N : Nat) : Nat → Mm → Option Nat → Option Nat → Rs (Option Nat)
  | 0, _, _, _ => none
  | F + 1, m, v4, v5 => if v4 = none then (fJ4_getHigherEntry_b93 e N m v4) else (gr_ m v4 16 3 (fun x1 => if v5 = x1 then (gr_ m v4 16 4 (fun x2 => fJ4_getHigherEntry_b64 e N F m x2 v4)) else (fJ4_getHigherEntry_b93 e N m v4)))
def fJ4_getHigherEntry_b96 (e : Nat → Nat) (N : Nat) (k5 : Mm → Option Nat → Option Nat → Option Nat → Rs (Option Nat)) (m : Mm) (v0 : Option Nat) (v1 : Option Nat) (v2 : Option Nat) : Rs (Option Nat) := k5 m v0 v1 v2
def fJ4_getHigherEntry_b5 (e : Nat → Nat) (N : Nat) : Nat → Mm → Option Nat → Option Nat → Option Nat → Rs (Option Nat)
  | 0, _, _, _, _ => none
  | F + 1, m, v0, v1, v2 => if v2 = none then (rt_ none m) else (gr_ m v2 16 0 (fun x1 => ck_ m v0 15 (bd_ (fJ4_compare e N m v0 v1 x1) (fun x2 m1 => if x2 < 0 then (gr_ m1 v2 16 2 (fun x3 => if x3 = none then (rt_ v2 m1) else (gr_ m1 v2 16 2 (fun x4 => fJ4_getHigherEntry_b96 e N (fJ4_getHigherEntry_b5 e N F) m1 v0 v1 x4)))) else (gr_ m1 v2 16 3 (fun x5 => if x5 = none then (gr_ m1 v2 16 4 (fun x6 => fJ4_getHigherEntry_b64 e N N m1 x6 v2)) else (gr_ m1 v2 16 3 (fun x7 => fJ4_getHigherEntry_b96 e N (fJ4_getHigherEntry_b5 e N F) m1 v0 v1 x7))))))))
def fJ4_getHigherEntry (e : Nat → Nat) (N : Nat) (m : Mm) (v0 : Option Nat) (v1 : Option Nat) : Rs (Option Nat) := gr_ m v0 15 3 (fun x1 => fJ4_getHigherEntry_b5 e N N m v0 v1 x1)
abbrev cJ4_getCeilingEntry : ByteArray := prog_79_method_17_code
def yJ4_getCeilingEntry : MethodName := ⟨RJ4, "getCeilingEntry", "(Ljava/lang/Object;)Ljava/util/TreeMap$Entry;"⟩
def dkwJ4_getCeilingEntry_4 : List UInt8 := [167, 255, 230, 25, 4, 176, 44, 176, 167, 255, 159, 1, 176]
abbrev dktJ4_getCeilingEntry_4 : List UInt8 := dkwJ4_getCeilingEntry_4 ++ []
def dkwJ4_getCeilingEntry_3 : List UInt8 := [198, 0, 27, 25, 5, 25, 4, 180, 0, 114, 166, 0, 17, 25, 4, 58, 5, 25, 4, 180, 0, 124, 58, 4]
abbrev dktJ4_getCeilingEntry_3 : List UInt8 := dkwJ4_getCeilingEntry_3 ++ dktJ4_getCeilingEntry_4
def dkwJ4_getCeilingEntry_2 : List UInt8 := [198, 0, 11, 44, 180, 0, 114, 77, 167, 0, 46, 44, 180, 0, 124, 58, 4, 44, 58, 5, 25, 4]
abbrev dktJ4_getCeilingEntry_2 : List UInt8 := dkwJ4_getCeilingEntry_2 ++ dktJ4_getCeilingEntry_3
def dkwJ4_getCeilingEntry_1 : List UInt8 := [180, 0, 111, 198, 0, 11, 44, 180, 0, 111, 77, 167, 0, 67, 44, 176, 29, 158, 0, 59, 44, 180, 0, 114]
abbrev dktJ4_getCeilingEntry_1 : List UInt8 := dkwJ4_getCeilingEntry_1 ++ dktJ4_getCeilingEntry_2
def dkwJ4_getCeilingEntry_0 : List UInt8 := [42, 180, 0, 101, 77, 44, 198, 0, 99, 42, 43, 44, 180, 0, 105, 182, 0, 123, 62, 29, 156, 0, 20, 44]
abbrev dktJ4_getCeilingEntry_0 : List UInt8 := dkwJ4_getCeilingEntry_0 ++ dktJ4_getCeilingEntry_1
theorem dksJ4_getCeilingEntry_0 : cJ4_getCeilingEntry.data.toList.drop 0 = dktJ4_getCeilingEntry_0 := by decide +kernel
theorem dksJ4_getCeilingEntry_1 : cJ4_getCeilingEntry.data.toList.drop 24 = dktJ4_getCeilingEntry_1 := dk_seg dksJ4_getCeilingEntry_0 24 rfl rfl
theorem dksJ4_getCeilingEntry_2 : cJ4_getCeilingEntry.data.toList.drop 48 = dktJ4_getCeilingEntry_2 := dk_seg dksJ4_getCeilingEntry_1 24 rfl rfl
theorem dksJ4_getCeilingEntry_3 : cJ4_getCeilingEntry.data.toList.drop 70 = dktJ4_getCeilingEntry_3 := dk_seg dksJ4_getCeilingEntry_2 22 rfl rfl
theorem dksJ4_getCeilingEntry_4 : cJ4_getCeilingEntry.data.toList.drop 94 = dktJ4_getCeilingEntry_4 := dk_seg dksJ4_getCeilingEntry_3 24 rfl rfl
theorem dJ4_getCeilingEntry_0 : decode cJ4_getCeilingEntry 0 = .ok (.aload_n 0, 1) := dk_42 (dk_at dksJ4_getCeilingEntry_0 0 rfl rfl)
theorem dJ4_getCeilingEntry_1 : decode cJ4_getCeilingEntry 1 = .ok (.getfield 101, 3) := dk_180 0 101 (dk_at dksJ4_getCeilingEntry_0 1 rfl rfl)
theorem dJ4_getCeilingEntry_4 : decode cJ4_getCeilingEntry 4 = .ok (.astore_n 2, 1) := dk_77 (dk_at dksJ4_getCeilingEntry_0 4 rfl rfl)
theorem dJ4_getCeilingEntry_5 : decode cJ4_getCeilingEntry 5 = .ok (.aload_n 2, 1) := dk_44 (dk_at dksJ4_getCeilingEntry_0 5 rfl rfl)
theorem dJ4_getCeilingEntry_6 : decode cJ4_getCeilingEntry 6 = .ok (.ifnull 99, 3) := dk_198 0 99 (dk_at dksJ4_getCeilingEntry_0 6 rfl rfl)
theorem dJ4_getCeilingEntry_9 : decode cJ4_getCeilingEntry 9 = .ok (.aload_n 0, 1) := dk_42 (dk_at dksJ4_getCeilingEntry_0 9 rfl rfl)
theorem dJ4_getCeilingEntry_10 : decode cJ4_getCeilingEntry 10 = .ok (.aload_n 1, 1) := dk_43 (dk_at dksJ4_getCeilingEntry_0 10 rfl rfl)
theorem dJ4_getCeilingEntry_11 : decode cJ4_getCeilingEntry 11 = .ok (.aload_n 2, 1) := dk_44 (dk_at dksJ4_getCeilingEntry_0 11 rfl rfl)
theorem dJ4_getCeilingEntry_12 : decode cJ4_getCeilingEntry 12 = .ok (.getfield 105, 3) := dk_180 0 105 (dk_at dksJ4_getCeilingEntry_0 12 rfl rfl)
theorem dJ4_getCeilingEntry_15 : decode cJ4_getCeilingEntry 15 = .ok (.invokevirtual 123, 3) := dk_182 0 123 (dk_at dksJ4_getCeilingEntry_0 15 rfl rfl)
theorem dJ4_getCeilingEntry_18 : decode cJ4_getCeilingEntry 18 = .ok (.istore_n 3, 1) := dk_62 (dk_at dksJ4_getCeilingEntry_0 18 rfl rfl)
theorem dJ4_getCeilingEntry_19 : decode cJ4_getCeilingEntry 19 = .ok (.iload_n 3, 1) := dk_29 (dk_at dksJ4_getCeilingEntry_0 19 rfl rfl)
theorem dJ4_getCeilingEntry_20 : decode cJ4_getCeilingEntry 20 = .ok (.ifCond .ge 20, 3) := dk_156 0 20 (dk_at dksJ4_getCeilingEntry_0 20 rfl rfl)
theorem dJ4_getCeilingEntry_23 : decode cJ4_getCeilingEntry 23 = .ok (.aload_n 2, 1) := dk_44 (dk_at dksJ4_getCeilingEntry_0 23 rfl rfl)
theorem dJ4_getCeilingEntry_24 : decode cJ4_getCeilingEntry 24 = .ok (.getfield 111, 3) := dk_180 0 111 (dk_at dksJ4_getCeilingEntry_1 0 rfl rfl)
theorem dJ4_getCeilingEntry_27 : decode cJ4_getCeilingEntry 27 = .ok (.ifnull 11, 3) := dk_198 0 11 (dk_at dksJ4_getCeilingEntry_1 3 rfl rfl)
theorem dJ4_getCeilingEntry_30 : decode cJ4_getCeilingEntry 30 = .ok (.aload_n 2, 1) := dk_44 (dk_at dksJ4_getCeilingEntry_1 6 rfl rfl)
theorem dJ4_getCeilingEntry_31 : decode cJ4_getCeilingEntry 31 = .ok (.getfield 111, 3) := dk_180 0 111 (dk_at dksJ4_getCeilingEntry_1 7 rfl rfl)
theorem dJ4_getCeilingEntry_34 : decode cJ4_getCeilingEntry 34 = .ok (.astore_n 2, 1) := dk_77 (dk_at dksJ4_getCeilingEntry_1 10 rfl rfl)
theorem dJ4_getCeilingEntry_35 : decode cJ4_getCeilingEntry 35 = .ok (.goto 67, 3) := dk_167 0 67 (dk_at dksJ4_getCeilingEntry_1 11 rfl rfl)
theorem dJ4_getCeilingEntry_38 : decode cJ4_getCeilingEntry 38 = .ok (.aload_n 2, 1) := dk_44 (dk_at dksJ4_getCeilingEntry_1 14 rfl rfl)
theorem dJ4_getCeilingEntry_39 : decode cJ4_getCeilingEntry 39 = .ok (.areturn, 1) := dk_176 (dk_at dksJ4_getCeilingEntry_1 15 rfl rfl)
theorem dJ4_getCeilingEntry_40 : decode cJ4_getCeilingEntry 40 = .ok (.iload_n 3, 1) := dk_29 (dk_at dksJ4_getCeilingEntry_1 16 rfl rfl)
theorem dJ4_getCeilingEntry_41 : decode cJ4_getCeilingEntry 41 = .ok (.ifCond .le 59, 3) := dk_158 0 59 (dk_at dksJ4_getCeilingEntry_1 17 rfl rfl)
theorem dJ4_getCeilingEntry_44 : decode cJ4_getCeilingEntry 44 = .ok (.aload_n 2, 1) := dk_44 (dk_at dksJ4_getCeilingEntry_1 20 rfl rfl)
theorem dJ4_getCeilingEntry_45 : decode cJ4_getCeilingEntry 45 = .ok (.getfield 114, 3) := dk_180 0 114 (dk_at dksJ4_getCeilingEntry_1 21 rfl rfl)
theorem dJ4_getCeilingEntry_48 : decode cJ4_getCeilingEntry 48 = .ok (.ifnull 11, 3) := dk_198 0 11 (dk_at dksJ4_getCeilingEntry_2 0 rfl rfl)
theorem dJ4_getCeilingEntry_51 : decode cJ4_getCeilingEntry 51 = .ok (.aload_n 2, 1) := dk_44 (dk_at dksJ4_getCeilingEntry_2 3 rfl rfl)
theorem dJ4_getCeilingEntry_52 : decode cJ4_getCeilingEntry 52 = .ok (.getfield 114, 3) := dk_180 0 114 (dk_at dksJ4_getCeilingEntry_2 4 rfl rfl)
theorem dJ4_getCeilingEntry_55 : decode cJ4_getCeilingEntry 55 = .ok (.astore_n 2, 1) := dk_77 (dk_at dksJ4_getCeilingEntry_2 7 rfl rfl)
theorem dJ4_getCeilingEntry_56 : decode cJ4_getCeilingEntry 56 = .ok (.goto 46, 3) := dk_167 0 46 (dk_at dksJ4_getCeilingEntry_2 8 rfl rfl)
theorem dJ4_getCeilingEntry_59 : decode cJ4_getCeilingEntry 59 = .ok (.aload_n 2, 1) := dk_44 (dk_at dksJ4_getCeilingEntry_2 11 rfl rfl)
theorem dJ4_getCeilingEntry_60 : decode cJ4_getCeilingEntry 60 = .ok (.getfield 124, 3) := dk_180 0 124 (dk_at dksJ4_getCeilingEntry_2 12 rfl rfl)
theorem dJ4_getCeilingEntry_63 : decode cJ4_getCeilingEntry 63 = .ok (.astore 4, 2) := dk_58 4 (dk_at dksJ4_getCeilingEntry_2 15 rfl rfl)
theorem dJ4_getCeilingEntry_65 : decode cJ4_getCeilingEntry 65 = .ok (.aload_n 2, 1) := dk_44 (dk_at dksJ4_getCeilingEntry_2 17 rfl rfl)
theorem dJ4_getCeilingEntry_66 : decode cJ4_getCeilingEntry 66 = .ok (.astore 5, 2) := dk_58 5 (dk_at dksJ4_getCeilingEntry_2 18 rfl rfl)
theorem dJ4_getCeilingEntry_68 : decode cJ4_getCeilingEntry 68 = .ok (.aload 4, 2) := dk_25 4 (dk_at dksJ4_getCeilingEntry_2 20 rfl rfl)
theorem dJ4_getCeilingEntry_70 : decode cJ4_getCeilingEntry 70 = .ok (.ifnull 27, 3) := dk_198 0 27 (dk_at dksJ4_getCeilingEntry_3 0 rfl rfl)
theorem dJ4_getCeilingEntry_73 : decode cJ4_getCeilingEntry 73 = .ok (.aload 5, 2) := dk_25 5 (dk_at dksJ4_getCeilingEntry_3 3 rfl rfl)
theorem dJ4_getCeilingEntry_75 : decode cJ4_getCeilingEntry 75 = .ok (.aload 4, 2) := dk_25 4 (dk_at dksJ4_getCeilingEntry_3 5 rfl rfl)
theorem dJ4_getCeilingEntry_77 : decode cJ4_getCeilingEntry 77 = .ok (.getfield 114, 3) := dk_180 0 114 (dk_at dksJ4_getCeilingEntry_3 7 rfl rfl)
theorem dJ4_getCeilingEntry_80 : decode cJ4_getCeilingEntry 80 = .ok (.if_acmp .ne 17, 3) := dk_166 0 17 (dk_at dksJ4_getCeilingEntry_3 10 rfl rfl)
theorem dJ4_getCeilingEntry_83 : decode cJ4_getCeilingEntry 83 = .ok (.aload 4, 2) := dk_25 4 (dk_at dksJ4_getCeilingEntry_3 13 rfl rfl)
theorem dJ4_getCeilingEntry_85 : decode cJ4_getCeilingEntry 85 = .ok (.astore 5, 2) := dk_58 5 (dk_at dksJ4_getCeilingEntry_3 15 rfl rfl)
theorem dJ4_getCeilingEntry_87 : decode cJ4_getCeilingEntry 87 = .ok (.aload 4, 2) := dk_25 4 (dk_at dksJ4_getCeilingEntry_3 17 rfl rfl)
theorem dJ4_getCeilingEntry_89 : decode cJ4_getCeilingEntry 89 = .ok (.getfield 124, 3) := dk_180 0 124 (dk_at dksJ4_getCeilingEntry_3 19 rfl rfl)
theorem dJ4_getCeilingEntry_92 : decode cJ4_getCeilingEntry 92 = .ok (.astore 4, 2) := dk_58 4 (dk_at dksJ4_getCeilingEntry_3 22 rfl rfl)
theorem dJ4_getCeilingEntry_94 : decode cJ4_getCeilingEntry 94 = .ok (.goto (-26), 3) := dk_167 255 230 (dk_at dksJ4_getCeilingEntry_4 0 rfl rfl)
theorem dJ4_getCeilingEntry_97 : decode cJ4_getCeilingEntry 97 = .ok (.aload 4, 2) := dk_25 4 (dk_at dksJ4_getCeilingEntry_4 3 rfl rfl)
theorem dJ4_getCeilingEntry_99 : decode cJ4_getCeilingEntry 99 = .ok (.areturn, 1) := dk_176 (dk_at dksJ4_getCeilingEntry_4 5 rfl rfl)
theorem dJ4_getCeilingEntry_100 : decode cJ4_getCeilingEntry 100 = .ok (.aload_n 2, 1) := dk_44 (dk_at dksJ4_getCeilingEntry_4 6 rfl rfl)
theorem dJ4_getCeilingEntry_101 : decode cJ4_getCeilingEntry 101 = .ok (.areturn, 1) := dk_176 (dk_at dksJ4_getCeilingEntry_4 7 rfl rfl)
theorem dJ4_getCeilingEntry_102 : decode cJ4_getCeilingEntry 102 = .ok (.goto (-97), 3) := dk_167 255 159 (dk_at dksJ4_getCeilingEntry_4 8 rfl rfl)
theorem dJ4_getCeilingEntry_105 : decode cJ4_getCeilingEntry 105 = .ok (.aconst_null, 1) := dk_1 (dk_at dksJ4_getCeilingEntry_4 11 rfl rfl)
theorem dJ4_getCeilingEntry_106 : decode cJ4_getCeilingEntry 106 = .ok (.areturn, 1) := dk_176 (dk_at dksJ4_getCeilingEntry_4 12 rfl rfl)
def fJ4_getCeilingEntry_b97 (e : Nat → Nat) (N : Nat) (m : Mm) (v4 : Option Nat) : Rs (Option Nat) := rt_ v4 m
def fJ4_getCeilingEntry_b68 (e : Nat → Nat) (N : Nat) : Nat → Mm → Option Nat → Option Nat → Rs (Option Nat)
  | 0, _, _, _ => none
  | F + 1, m, v4, v5 => if v4 = none then (fJ4_getCeilingEntry_b97 e N m v4) else (gr_ m v4 16 3 (fun x1 => if v5 = x1 then (gr_ m v4 16 4 (fun x2 => fJ4_getCeilingEntry_b68 e N F m x2 v4)) else (fJ4_getCeilingEntry_b97 e N m v4)))
def fJ4_getCeilingEntry_b102 (e : Nat → Nat) (N : Nat) (k5 : Mm → Option Nat → Option Nat → Option Nat → Rs (Option Nat)) (m : Mm) (v0 : Option Nat) (v1 : Option Nat) (v2 : Option Nat) : Rs (Option Nat) := k5 m v0 v1 v2
def fJ4_getCeilingEntry_b5 (e : Nat → Nat) (N : Nat) : Nat → Mm → Option Nat → Option Nat → Option Nat → Rs (Option Nat)
  | 0, _, _, _, _ => none
  | F + 1, m, v0, v1, v2 => if v2 = none then (rt_ none m) else (gr_ m v2 16 0 (fun x1 => ck_ m v0 15 (bd_ (fJ4_compare e N m v0 v1 x1) (fun x2 m1 => if x2 < 0 then (gr_ m1 v2 16 2 (fun x3 => if x3 = none then (rt_ v2 m1) else (gr_ m1 v2 16 2 (fun x4 => fJ4_getCeilingEntry_b102 e N (fJ4_getCeilingEntry_b5 e N F) m1 v0 v1 x4)))) else (if 0 < x2 then (gr_ m1 v2 16 3 (fun x5 => if x5 = none then (gr_ m1 v2 16 4 (fun x6 => fJ4_getCeilingEntry_b68 e N N m1 x6 v2)) else (gr_ m1 v2 16 3 (fun x7 => fJ4_getCeilingEntry_b102 e N (fJ4_getCeilingEntry_b5 e N F) m1 v0 v1 x7)))) else (rt_ v2 m1))))))
def fJ4_getCeilingEntry (e : Nat → Nat) (N : Nat) (m : Mm) (v0 : Option Nat) (v1 : Option Nat) : Rs (Option Nat) := gr_ m v0 15 3 (fun x1 => fJ4_getCeilingEntry_b5 e N N m v0 v1 x1)
abbrev cJ4_getFirstEntry : ByteArray := prog_79_method_72_code
def yJ4_getFirstEntry : MethodName := ⟨RJ4, "getFirstEntry", "()Ljava/util/TreeMap$Entry;"⟩
def dkwJ4_getFirstEntry_1 : List UInt8 := [43, 176]
abbrev dktJ4_getFirstEntry_1 : List UInt8 := dkwJ4_getFirstEntry_1 ++ []
def dkwJ4_getFirstEntry_0 : List UInt8 := [42, 180, 0, 101, 76, 43, 198, 0, 18, 43, 180, 0, 111, 198, 0, 11, 43, 180, 0, 111, 76, 167, 255, 244]
abbrev dktJ4_getFirstEntry_0 : List UInt8 := dkwJ4_getFirstEntry_0 ++ dktJ4_getFirstEntry_1
theorem dksJ4_getFirstEntry_0 : cJ4_getFirstEntry.data.toList.drop 0 = dktJ4_getFirstEntry_0 := by decide +kernel
theorem dksJ4_getFirstEntry_1 : cJ4_getFirstEntry.data.toList.drop 24 = dktJ4_getFirstEntry_1 := dk_seg dksJ4_getFirstEntry_0 24 rfl rfl
theorem dJ4_getFirstEntry_0 : decode cJ4_getFirstEntry 0 = .ok (.aload_n 0, 1) := dk_42 (dk_at dksJ4_getFirstEntry_0 0 rfl rfl)
theorem dJ4_getFirstEntry_1 : decode cJ4_getFirstEntry 1 = .ok (.getfield 101, 3) := dk_180 0 101 (dk_at dksJ4_getFirstEntry_0 1 rfl rfl)
theorem dJ4_getFirstEntry_4 : decode cJ4_getFirstEntry 4 = .ok (.astore_n 1, 1) := dk_76 (dk_at dksJ4_getFirstEntry_0 4 rfl rfl)
theorem dJ4_getFirstEntry_5 : decode cJ4_getFirstEntry 5 = .ok (.aload_n 1, 1) := dk_43 (dk_at dksJ4_getFirstEntry_0 5 rfl rfl)
theorem dJ4_getFirstEntry_6 : decode cJ4_getFirstEntry 6 = .ok (.ifnull 18, 3) := dk_198 0 18 (dk_at dksJ4_getFirstEntry_0 6 rfl rfl)
theorem dJ4_getFirstEntry_9 : decode cJ4_getFirstEntry 9 = .ok (.aload_n 1, 1) := dk_43 (dk_at dksJ4_getFirstEntry_0 9 rfl rfl)
theorem dJ4_getFirstEntry_10 : decode cJ4_getFirstEntry 10 = .ok (.getfield 111, 3) := dk_180 0 111 (dk_at dksJ4_getFirstEntry_0 10 rfl rfl)
theorem dJ4_getFirstEntry_13 : decode cJ4_getFirstEntry 13 = .ok (.ifnull 11, 3) := dk_198 0 11 (dk_at dksJ4_getFirstEntry_0 13 rfl rfl)
theorem dJ4_getFirstEntry_16 : decode cJ4_getFirstEntry 16 = .ok (.aload_n 1, 1) := dk_43 (dk_at dksJ4_getFirstEntry_0 16 rfl rfl)
theorem dJ4_getFirstEntry_17 : decode cJ4_getFirstEntry 17 = .ok (.getfield 111, 3) := dk_180 0 111 (dk_at dksJ4_getFirstEntry_0 17 rfl rfl)
theorem dJ4_getFirstEntry_20 : decode cJ4_getFirstEntry 20 = .ok (.astore_n 1, 1) := dk_76 (dk_at dksJ4_getFirstEntry_0 20 rfl rfl)
theorem dJ4_getFirstEntry_21 : decode cJ4_getFirstEntry 21 = .ok (.goto (-12), 3) := dk_167 255 244 (dk_at dksJ4_getFirstEntry_0 21 rfl rfl)
theorem dJ4_getFirstEntry_24 : decode cJ4_getFirstEntry 24 = .ok (.aload_n 1, 1) := dk_43 (dk_at dksJ4_getFirstEntry_1 0 rfl rfl)
theorem dJ4_getFirstEntry_25 : decode cJ4_getFirstEntry 25 = .ok (.areturn, 1) := dk_176 (dk_at dksJ4_getFirstEntry_1 1 rfl rfl)
def fJ4_getFirstEntry_b24 (e : Nat → Nat) (N : Nat) (m : Mm) (v1 : Option Nat) : Rs (Option Nat) := rt_ v1 m
def fJ4_getFirstEntry_b9 (e : Nat → Nat) (N : Nat) : Nat → Mm → Option Nat → Rs (Option Nat)
  | 0, _, _ => none
  | F + 1, m, v1 => gr_ m v1 16 2 (fun x1 => if x1 = none then (fJ4_getFirstEntry_b24 e N m v1) else (gr_ m v1 16 2 (fun x2 => fJ4_getFirstEntry_b9 e N F m x2)))
def fJ4_getFirstEntry (e : Nat → Nat) (N : Nat) (m : Mm) (v0 : Option Nat) : Rs (Option Nat) := gr_ m v0 15 3 (fun x1 => if x1 = none then (fJ4_getFirstEntry_b24 e N m x1) else (fJ4_getFirstEntry_b9 e N N m x1))
abbrev cJ38_absLowest : ByteArray := prog_87_method_7_code
def yJ38_absLowest : MethodName := ⟨RJ38, "absLowest", "()Ljava/util/TreeMap$Entry;"⟩
def dkwJ38_absLowest_3 : List UInt8 := [176]
abbrev dktJ38_absLowest_3 : List UInt8 := dkwJ38_absLowest_3 ++ []
def dkwJ38_absLowest_2 : List UInt8 := [182, 0, 67, 76, 43, 198, 0, 14, 42, 43, 180, 0, 70, 182, 0, 50, 153, 0, 7, 1, 167, 0, 4, 43]
abbrev dktJ38_absLowest_2 : List UInt8 := dkwJ38_absLowest_2 ++ dktJ38_absLowest_3
def dkwJ38_absLowest_1 : List UInt8 := [42, 180, 0, 20, 42, 180, 0, 30, 182, 0, 63, 167, 0, 14, 42, 180, 0, 20, 42, 180, 0, 30]
abbrev dktJ38_absLowest_1 : List UInt8 := dkwJ38_absLowest_1 ++ dktJ38_absLowest_2
def dkwJ38_absLowest_0 : List UInt8 := [42, 180, 0, 26, 153, 0, 13, 42, 180, 0, 20, 182, 0, 59, 167, 0, 35, 42, 180, 0, 34, 153, 0, 17]
abbrev dktJ38_absLowest_0 : List UInt8 := dkwJ38_absLowest_0 ++ dktJ38_absLowest_1
theorem dksJ38_absLowest_0 : cJ38_absLowest.data.toList.drop 0 = dktJ38_absLowest_0 := by decide +kernel
theorem dksJ38_absLowest_1 : cJ38_absLowest.data.toList.drop 24 = dktJ38_absLowest_1 := dk_seg dksJ38_absLowest_0 24 rfl rfl
theorem dksJ38_absLowest_2 : cJ38_absLowest.data.toList.drop 46 = dktJ38_absLowest_2 := dk_seg dksJ38_absLowest_1 22 rfl rfl
theorem dksJ38_absLowest_3 : cJ38_absLowest.data.toList.drop 70 = dktJ38_absLowest_3 := dk_seg dksJ38_absLowest_2 24 rfl rfl
theorem dJ38_absLowest_0 : decode cJ38_absLowest 0 = .ok (.aload_n 0, 1) := dk_42 (dk_at dksJ38_absLowest_0 0 rfl rfl)
theorem dJ38_absLowest_1 : decode cJ38_absLowest 1 = .ok (.getfield 26, 3) := dk_180 0 26 (dk_at dksJ38_absLowest_0 1 rfl rfl)
theorem dJ38_absLowest_4 : decode cJ38_absLowest 4 = .ok (.ifCond .eq 13, 3) := dk_153 0 13 (dk_at dksJ38_absLowest_0 4 rfl rfl)
theorem dJ38_absLowest_7 : decode cJ38_absLowest 7 = .ok (.aload_n 0, 1) := dk_42 (dk_at dksJ38_absLowest_0 7 rfl rfl)
theorem dJ38_absLowest_8 : decode cJ38_absLowest 8 = .ok (.getfield 20, 3) := dk_180 0 20 (dk_at dksJ38_absLowest_0 8 rfl rfl)
theorem dJ38_absLowest_11 : decode cJ38_absLowest 11 = .ok (.invokevirtual 59, 3) := dk_182 0 59 (dk_at dksJ38_absLowest_0 11 rfl rfl)
theorem dJ38_absLowest_14 : decode cJ38_absLowest 14 = .ok (.goto 35, 3) := dk_167 0 35 (dk_at dksJ38_absLowest_0 14 rfl rfl)
theorem dJ38_absLowest_17 : decode cJ38_absLowest 17 = .ok (.aload_n 0, 1) := dk_42 (dk_at dksJ38_absLowest_0 17 rfl rfl)
theorem dJ38_absLowest_18 : decode cJ38_absLowest 18 = .ok (.getfield 34, 3) := dk_180 0 34 (dk_at dksJ38_absLowest_0 18 rfl rfl)
theorem dJ38_absLowest_21 : decode cJ38_absLowest 21 = .ok (.ifCond .eq 17, 3) := dk_153 0 17 (dk_at dksJ38_absLowest_0 21 rfl rfl)
theorem dJ38_absLowest_24 : decode cJ38_absLowest 24 = .ok (.aload_n 0, 1) := dk_42 (dk_at dksJ38_absLowest_1 0 rfl rfl)
theorem dJ38_absLowest_25 : decode cJ38_absLowest 25 = .ok (.getfield 20, 3) := dk_180 0 20 (dk_at dksJ38_absLowest_1 1 rfl rfl)
theorem dJ38_absLowest_28 : decode cJ38_absLowest 28 = .ok (.aload_n 0, 1) := dk_42 (dk_at dksJ38_absLowest_1 4 rfl rfl)
theorem dJ38_absLowest_29 : decode cJ38_absLowest 29 = .ok (.getfield 30, 3) := dk_180 0 30 (dk_at dksJ38_absLowest_1 5 rfl rfl)
theorem dJ38_absLowest_32 : decode cJ38_absLowest 32 = .ok (.invokevirtual 63, 3) := dk_182 0 63 (dk_at dksJ38_absLowest_1 8 rfl rfl)
theorem dJ38_absLowest_35 : decode cJ38_absLowest 35 = .ok (.goto 14, 3) := dk_167 0 14 (dk_at dksJ38_absLowest_1 11 rfl rfl)
theorem dJ38_absLowest_38 : decode cJ38_absLowest 38 = .ok (.aload_n 0, 1) := dk_42 (dk_at dksJ38_absLowest_1 14 rfl rfl)
theorem dJ38_absLowest_39 : decode cJ38_absLowest 39 = .ok (.getfield 20, 3) := dk_180 0 20 (dk_at dksJ38_absLowest_1 15 rfl rfl)
theorem dJ38_absLowest_42 : decode cJ38_absLowest 42 = .ok (.aload_n 0, 1) := dk_42 (dk_at dksJ38_absLowest_1 18 rfl rfl)
theorem dJ38_absLowest_43 : decode cJ38_absLowest 43 = .ok (.getfield 30, 3) := dk_180 0 30 (dk_at dksJ38_absLowest_1 19 rfl rfl)
theorem dJ38_absLowest_46 : decode cJ38_absLowest 46 = .ok (.invokevirtual 67, 3) := dk_182 0 67 (dk_at dksJ38_absLowest_2 0 rfl rfl)
theorem dJ38_absLowest_49 : decode cJ38_absLowest 49 = .ok (.astore_n 1, 1) := dk_76 (dk_at dksJ38_absLowest_2 3 rfl rfl)
theorem dJ38_absLowest_50 : decode cJ38_absLowest 50 = .ok (.aload_n 1, 1) := dk_43 (dk_at dksJ38_absLowest_2 4 rfl rfl)
theorem dJ38_absLowest_51 : decode cJ38_absLowest 51 = .ok (.ifnull 14, 3) := dk_198 0 14 (dk_at dksJ38_absLowest_2 5 rfl rfl)
theorem dJ38_absLowest_54 : decode cJ38_absLowest 54 = .ok (.aload_n 0, 1) := dk_42 (dk_at dksJ38_absLowest_2 8 rfl rfl)
theorem dJ38_absLowest_55 : decode cJ38_absLowest 55 = .ok (.aload_n 1, 1) := dk_43 (dk_at dksJ38_absLowest_2 9 rfl rfl)
theorem dJ38_absLowest_56 : decode cJ38_absLowest 56 = .ok (.getfield 70, 3) := dk_180 0 70 (dk_at dksJ38_absLowest_2 10 rfl rfl)
theorem dJ38_absLowest_59 : decode cJ38_absLowest 59 = .ok (.invokevirtual 50, 3) := dk_182 0 50 (dk_at dksJ38_absLowest_2 13 rfl rfl)
theorem dJ38_absLowest_62 : decode cJ38_absLowest 62 = .ok (.ifCond .eq 7, 3) := dk_153 0 7 (dk_at dksJ38_absLowest_2 16 rfl rfl)
theorem dJ38_absLowest_65 : decode cJ38_absLowest 65 = .ok (.aconst_null, 1) := dk_1 (dk_at dksJ38_absLowest_2 19 rfl rfl)
theorem dJ38_absLowest_66 : decode cJ38_absLowest 66 = .ok (.goto 4, 3) := dk_167 0 4 (dk_at dksJ38_absLowest_2 20 rfl rfl)
theorem dJ38_absLowest_69 : decode cJ38_absLowest 69 = .ok (.aload_n 1, 1) := dk_43 (dk_at dksJ38_absLowest_2 23 rfl rfl)
theorem dJ38_absLowest_70 : decode cJ38_absLowest 70 = .ok (.areturn, 1) := dk_176 (dk_at dksJ38_absLowest_3 0 rfl rfl)
def fJ38_absLowest_t21_b70 (e : Nat → Nat) (N : Nat) (m : Mm) (s0 : Option Nat) : Rs (Option Nat) := rt_ s0 m
def fJ38_absLowest_t21_b65 (e : Nat → Nat) (N : Nat) (m : Mm) : Rs (Option Nat) := fJ38_absLowest_t21_b70 e N m none
def fJ38_absLowest_t21_b49 (e : Nat → Nat) (N : Nat) (m : Mm) (v0 : Option Nat) (s0 : Option Nat) : Rs (Option Nat) := if s0 = none then (fJ38_absLowest_t21_b65 e N m) else (gr_ m s0 16 0 (fun x1 => ck_ m v0 21 (bd_ (fJ38_tooHigh_t21 e N m v0 x1) (fun x2 m1 => if x2 = 0 then (fJ38_absLowest_t21_b70 e N m1 s0) else (fJ38_absLowest_t21_b65 e N m1)))))
def fJ38_absLowest_t21 (e : Nat → Nat) (N : Nat) (m : Mm) (v0 : Option Nat) : Rs (Option Nat) := gi_ m v0 21 3 (fun x1 => if x1 = 0 then (gi_ m v0 21 5 (fun x2 => if x2 = 0 then (gr_ m v0 21 0 (fun x3 => gr_ m v0 21 1 (fun x4 => ck_ m x3 15 (bd_ (fJ4_getHigherEntry e N m x3 x4) (fun x5 m1 => fJ38_absLowest_t21_b49 e N m1 v0 x5))))) else (gr_ m v0 21 0 (fun x6 => gr_ m v0 21 1 (fun x7 => ck_ m x6 15 (bd_ (fJ4_getCeilingEntry e N m x6 x7) (fun x8 m2 => fJ38_absLowest_t21_b49 e N m2 v0 x8))))))) else (gr_ m v0 21 0 (fun x9 => ck_ m x9 15 (bd_ (fJ4_getFirstEntry e N m x9) (fun x10 m3 => fJ38_absLowest_t21_b49 e N m3 v0 x10)))))
abbrev cJ38_absHighFence : ByteArray := prog_87_method_13_code
def yJ38_absHighFence : MethodName := ⟨RJ38, "absHighFence", "()Ljava/util/TreeMap$Entry;"⟩
def dkwJ38_absHighFence_1 : List UInt8 := [180, 0, 40, 182, 0, 67, 167, 0, 14, 42, 180, 0, 20, 42, 180, 0, 40, 182, 0, 63, 176]
abbrev dktJ38_absHighFence_1 : List UInt8 := dkwJ38_absHighFence_1 ++ []
def dkwJ38_absHighFence_0 : List UInt8 := [42, 180, 0, 37, 153, 0, 7, 1, 167, 0, 35, 42, 180, 0, 43, 153, 0, 17, 42, 180, 0, 20, 42]
abbrev dktJ38_absHighFence_0 : List UInt8 := dkwJ38_absHighFence_0 ++ dktJ38_absHighFence_1
theorem dksJ38_absHighFence_0 : cJ38_absHighFence.data.toList.drop 0 = dktJ38_absHighFence_0 := by decide +kernel
theorem dksJ38_absHighFence_1 : cJ38_absHighFence.data.toList.drop 23 = dktJ38_absHighFence_1 := dk_seg dksJ38_absHighFence_0 23 rfl rfl
theorem dJ38_absHighFence_0 : decode cJ38_absHighFence 0 = .ok (.aload_n 0, 1) := dk_42 (dk_at dksJ38_absHighFence_0 0 rfl rfl)
theorem dJ38_absHighFence_1 : decode cJ38_absHighFence 1 = .ok (.getfield 37, 3) := dk_180 0 37 (dk_at dksJ38_absHighFence_0 1 rfl rfl)
theorem dJ38_absHighFence_4 : decode cJ38_absHighFence 4 = .ok (.ifCond .eq 7, 3) := dk_153 0 7 (dk_at dksJ38_absHighFence_0 4 rfl rfl)
theorem dJ38_absHighFence_7 : decode cJ38_absHighFence 7 = .ok (.aconst_null, 1) := dk_1 (dk_at dksJ38_absHighFence_0 7 rfl rfl)
theorem dJ38_absHighFence_8 : decode cJ38_absHighFence 8 = .ok (.goto 35, 3) := dk_167 0 35 (dk_at dksJ38_absHighFence_0 8 rfl rfl)
theorem dJ38_absHighFence_11 : decode cJ38_absHighFence 11 = .ok (.aload_n 0, 1) := dk_42 (dk_at dksJ38_absHighFence_0 11 rfl rfl)
theorem dJ38_absHighFence_12 : decode cJ38_absHighFence 12 = .ok (.getfield 43, 3) := dk_180 0 43 (dk_at dksJ38_absHighFence_0 12 rfl rfl)
theorem dJ38_absHighFence_15 : decode cJ38_absHighFence 15 = .ok (.ifCond .eq 17, 3) := dk_153 0 17 (dk_at dksJ38_absHighFence_0 15 rfl rfl)
theorem dJ38_absHighFence_18 : decode cJ38_absHighFence 18 = .ok (.aload_n 0, 1) := dk_42 (dk_at dksJ38_absHighFence_0 18 rfl rfl)
theorem dJ38_absHighFence_19 : decode cJ38_absHighFence 19 = .ok (.getfield 20, 3) := dk_180 0 20 (dk_at dksJ38_absHighFence_0 19 rfl rfl)
theorem dJ38_absHighFence_22 : decode cJ38_absHighFence 22 = .ok (.aload_n 0, 1) := dk_42 (dk_at dksJ38_absHighFence_0 22 rfl rfl)
theorem dJ38_absHighFence_23 : decode cJ38_absHighFence 23 = .ok (.getfield 40, 3) := dk_180 0 40 (dk_at dksJ38_absHighFence_1 0 rfl rfl)
theorem dJ38_absHighFence_26 : decode cJ38_absHighFence 26 = .ok (.invokevirtual 67, 3) := dk_182 0 67 (dk_at dksJ38_absHighFence_1 3 rfl rfl)
theorem dJ38_absHighFence_29 : decode cJ38_absHighFence 29 = .ok (.goto 14, 3) := dk_167 0 14 (dk_at dksJ38_absHighFence_1 6 rfl rfl)
theorem dJ38_absHighFence_32 : decode cJ38_absHighFence 32 = .ok (.aload_n 0, 1) := dk_42 (dk_at dksJ38_absHighFence_1 9 rfl rfl)
theorem dJ38_absHighFence_33 : decode cJ38_absHighFence 33 = .ok (.getfield 20, 3) := dk_180 0 20 (dk_at dksJ38_absHighFence_1 10 rfl rfl)
theorem dJ38_absHighFence_36 : decode cJ38_absHighFence 36 = .ok (.aload_n 0, 1) := dk_42 (dk_at dksJ38_absHighFence_1 13 rfl rfl)
theorem dJ38_absHighFence_37 : decode cJ38_absHighFence 37 = .ok (.getfield 40, 3) := dk_180 0 40 (dk_at dksJ38_absHighFence_1 14 rfl rfl)
theorem dJ38_absHighFence_40 : decode cJ38_absHighFence 40 = .ok (.invokevirtual 63, 3) := dk_182 0 63 (dk_at dksJ38_absHighFence_1 17 rfl rfl)
theorem dJ38_absHighFence_43 : decode cJ38_absHighFence 43 = .ok (.areturn, 1) := dk_176 (dk_at dksJ38_absHighFence_1 20 rfl rfl)
def fJ38_absHighFence_t21_b43 (e : Nat → Nat) (N : Nat) (m : Mm) (s0 : Option Nat) : Rs (Option Nat) := rt_ s0 m
def fJ38_absHighFence_t21 (e : Nat → Nat) (N : Nat) (m : Mm) (v0 : Option Nat) : Rs (Option Nat) := gi_ m v0 21 4 (fun x1 => if x1 = 0 then (gi_ m v0 21 6 (fun x2 => if x2 = 0 then (gr_ m v0 21 0 (fun x3 => gr_ m v0 21 2 (fun x4 => ck_ m x3 15 (bd_ (fJ4_getCeilingEntry e N m x3 x4) (fun x5 m1 => fJ38_absHighFence_t21_b43 e N m1 x5))))) else (gr_ m v0 21 0 (fun x6 => gr_ m v0 21 2 (fun x7 => ck_ m x6 15 (bd_ (fJ4_getHigherEntry e N m x6 x7) (fun x8 m2 => fJ38_absHighFence_t21_b43 e N m2 x8))))))) else (fJ38_absHighFence_t21_b43 e N m none))
abbrev cJ26_init : ByteArray := prog_90_method_1_code
def yJ26_init : MethodName := ⟨RJ26, "<init>", "(Ljava/util/TreeMap$NavigableSubMap;Ljava/util/TreeMap$Entry;Ljava/util/TreeMap$Entry;)V"⟩
def dkwJ26_init_2 : List UInt8 := [181, 0, 44, 177]
abbrev dktJ26_init_2 : List UInt8 := dkwJ26_init_2 ++ []
def dkwJ26_init_1 : List UInt8 := [181, 0, 28, 42, 44, 181, 0, 32, 42, 45, 199, 0, 9, 178, 0, 35, 167, 0, 7, 45, 180, 0, 39]
abbrev dktJ26_init_1 : List UInt8 := dkwJ26_init_1 ++ dktJ26_init_2
def dkwJ26_init_0 : List UInt8 := [42, 43, 181, 0, 1, 42, 183, 0, 7, 42, 43, 180, 0, 13, 180, 0, 19, 181, 0, 25, 42, 1]
abbrev dktJ26_init_0 : List UInt8 := dkwJ26_init_0 ++ dktJ26_init_1
theorem dksJ26_init_0 : cJ26_init.data.toList.drop 0 = dktJ26_init_0 := by decide +kernel
theorem dksJ26_init_1 : cJ26_init.data.toList.drop 22 = dktJ26_init_1 := dk_seg dksJ26_init_0 22 rfl rfl
theorem dksJ26_init_2 : cJ26_init.data.toList.drop 45 = dktJ26_init_2 := dk_seg dksJ26_init_1 23 rfl rfl
theorem dJ26_init_0 : decode cJ26_init 0 = .ok (.aload_n 0, 1) := dk_42 (dk_at dksJ26_init_0 0 rfl rfl)
theorem dJ26_init_1 : decode cJ26_init 1 = .ok (.aload_n 1, 1) := dk_43 (dk_at dksJ26_init_0 1 rfl rfl)
theorem dJ26_init_2 : decode cJ26_init 2 = .ok (.putfield 1, 3) := dk_181 0 1 (dk_at dksJ26_init_0 2 rfl rfl)
theorem dJ26_init_5 : decode cJ26_init 5 = .ok (.aload_n 0, 1) := dk_42 (dk_at dksJ26_init_0 5 rfl rfl)
theorem dJ26_init_6 : decode cJ26_init 6 = .ok (.invokespecial 7, 3) := dk_183 0 7 (dk_at dksJ26_init_0 6 rfl rfl)
theorem dJ26_init_9 : decode cJ26_init 9 = .ok (.aload_n 0, 1) := dk_42 (dk_at dksJ26_init_0 9 rfl rfl)
theorem dJ26_init_10 : decode cJ26_init 10 = .ok (.aload_n 1, 1) := dk_43 (dk_at dksJ26_init_0 10 rfl rfl)
theorem dJ26_init_11 : decode cJ26_init 11 = .ok (.getfield 13, 3) := dk_180 0 13 (dk_at dksJ26_init_0 11 rfl rfl)
theorem dJ26_init_14 : decode cJ26_init 14 = .ok (.getfield 19, 3) := dk_180 0 19 (dk_at dksJ26_init_0 14 rfl rfl)
theorem dJ26_init_17 : decode cJ26_init 17 = .ok (.putfield 25, 3) := dk_181 0 25 (dk_at dksJ26_init_0 17 rfl rfl)
theorem dJ26_init_20 : decode cJ26_init 20 = .ok (.aload_n 0, 1) := dk_42 (dk_at dksJ26_init_0 20 rfl rfl)
theorem dJ26_init_21 : decode cJ26_init 21 = .ok (.aconst_null, 1) := dk_1 (dk_at dksJ26_init_0 21 rfl rfl)
theorem dJ26_init_22 : decode cJ26_init 22 = .ok (.putfield 28, 3) := dk_181 0 28 (dk_at dksJ26_init_1 0 rfl rfl)
theorem dJ26_init_25 : decode cJ26_init 25 = .ok (.aload_n 0, 1) := dk_42 (dk_at dksJ26_init_1 3 rfl rfl)
theorem dJ26_init_26 : decode cJ26_init 26 = .ok (.aload_n 2, 1) := dk_44 (dk_at dksJ26_init_1 4 rfl rfl)
theorem dJ26_init_27 : decode cJ26_init 27 = .ok (.putfield 32, 3) := dk_181 0 32 (dk_at dksJ26_init_1 5 rfl rfl)
theorem dJ26_init_30 : decode cJ26_init 30 = .ok (.aload_n 0, 1) := dk_42 (dk_at dksJ26_init_1 8 rfl rfl)
theorem dJ26_init_31 : decode cJ26_init 31 = .ok (.aload_n 3, 1) := dk_45 (dk_at dksJ26_init_1 9 rfl rfl)
theorem dJ26_init_32 : decode cJ26_init 32 = .ok (.ifnonnull 9, 3) := dk_199 0 9 (dk_at dksJ26_init_1 10 rfl rfl)
theorem dJ26_init_35 : decode cJ26_init 35 = .ok (.getstatic 35, 3) := dk_178 0 35 (dk_at dksJ26_init_1 13 rfl rfl)
theorem dJ26_init_38 : decode cJ26_init 38 = .ok (.goto 7, 3) := dk_167 0 7 (dk_at dksJ26_init_1 16 rfl rfl)
theorem dJ26_init_41 : decode cJ26_init 41 = .ok (.aload_n 3, 1) := dk_45 (dk_at dksJ26_init_1 19 rfl rfl)
theorem dJ26_init_42 : decode cJ26_init 42 = .ok (.getfield 39, 3) := dk_180 0 39 (dk_at dksJ26_init_1 20 rfl rfl)
theorem dJ26_init_45 : decode cJ26_init 45 = .ok (.putfield 44, 3) := dk_181 0 44 (dk_at dksJ26_init_2 0 rfl rfl)
theorem dJ26_init_48 : decode cJ26_init 48 = .ok (.return_, 1) := dk_177 (dk_at dksJ26_init_2 3 rfl rfl)
def fJ26_init_t24_b45 (e : Nat → Nat) (N : Nat) (m : Mm) (s0 : Option Nat) (s1 : Option Nat) : Rs (Unit) := pr_ m s0 24 2 s1 (fun m1 => rt_ () m1)
def fJ26_init_t24 (e : Nat → Nat) (N : Nat) (m : Mm) (v0 : Option Nat) (v1 : Option Nat) (v2 : Option Nat) (v3 : Option Nat) : Rs (Unit) := pr_ m v0 24 4 v1 (fun m1 => ok_ v0 (gr_ m1 v1 21 0 (fun x1 => gi_ m1 x1 15 5 (fun x2 => pi_ m1 v0 24 3 x2 (fun m2 => pr_ m2 v0 24 0 none (fun m3 => pr_ m3 v0 24 1 v2 (fun m4 => if v3 = none then (fJ26_init_t24_b45 e N m4 v0 (some (e 3))) else (gr_ m4 v3 16 0 (fun x3 => fJ26_init_t24_b45 e N m4 v0 x3)))))))))
abbrev cJ33_init : ByteArray := prog_91_method_1_code
def yJ33_init : MethodName := ⟨RJ33, "<init>", "(Ljava/util/TreeMap$NavigableSubMap;Ljava/util/TreeMap$Entry;Ljava/util/TreeMap$Entry;)V"⟩
def dkwJ33_init_0 : List UInt8 := [42, 43, 181, 0, 1, 42, 43, 44, 45, 183, 0, 7, 177]
abbrev dktJ33_init_0 : List UInt8 := dkwJ33_init_0 ++ []
theorem dksJ33_init_0 : cJ33_init.data.toList.drop 0 = dktJ33_init_0 := by decide +kernel
theorem dJ33_init_0 : decode cJ33_init 0 = .ok (.aload_n 0, 1) := dk_42 (dk_at dksJ33_init_0 0 rfl rfl)
theorem dJ33_init_1 : decode cJ33_init 1 = .ok (.aload_n 1, 1) := dk_43 (dk_at dksJ33_init_0 1 rfl rfl)
theorem dJ33_init_2 : decode cJ33_init 2 = .ok (.putfield 1, 3) := dk_181 0 1 (dk_at dksJ33_init_0 2 rfl rfl)
theorem dJ33_init_5 : decode cJ33_init 5 = .ok (.aload_n 0, 1) := dk_42 (dk_at dksJ33_init_0 5 rfl rfl)
theorem dJ33_init_6 : decode cJ33_init 6 = .ok (.aload_n 1, 1) := dk_43 (dk_at dksJ33_init_0 6 rfl rfl)
theorem dJ33_init_7 : decode cJ33_init 7 = .ok (.aload_n 2, 1) := dk_44 (dk_at dksJ33_init_0 7 rfl rfl)
theorem dJ33_init_8 : decode cJ33_init 8 = .ok (.aload_n 3, 1) := dk_45 (dk_at dksJ33_init_0 8 rfl rfl)
theorem dJ33_init_9 : decode cJ33_init 9 = .ok (.invokespecial 7, 3) := dk_183 0 7 (dk_at dksJ33_init_0 9 rfl rfl)
theorem dJ33_init_12 : decode cJ33_init 12 = .ok (.return_, 1) := dk_177 (dk_at dksJ33_init_0 12 rfl rfl)
def fJ33_init (e : Nat → Nat) (N : Nat) (m : Mm) (v0 : Option Nat) (v1 : Option Nat) (v2 : Option Nat) (v3 : Option Nat) : Rs (Unit) := pr_ m v0 24 5 v1 (fun m1 => ok_ v0 (bd_ (fJ26_init_t24 e N m1 v0 v1 v2 v3) (fun _ m2 => rt_ () m2)))
abbrev cJ39_keyIterator : ByteArray := prog_80_method_7_code
def yJ39_keyIterator : MethodName := ⟨RJ39, "keyIterator", "()Ljava/util/Iterator;"⟩
def dkwJ39_keyIterator_0 : List UInt8 := [187, 0, 60, 89, 42, 42, 182, 0, 62, 42, 182, 0, 66, 183, 0, 69, 176]
abbrev dktJ39_keyIterator_0 : List UInt8 := dkwJ39_keyIterator_0 ++ []
theorem dksJ39_keyIterator_0 : cJ39_keyIterator.data.toList.drop 0 = dktJ39_keyIterator_0 := by decide +kernel
theorem dJ39_keyIterator_0 : decode cJ39_keyIterator 0 = .ok (.new 60, 3) := dk_187 0 60 (dk_at dksJ39_keyIterator_0 0 rfl rfl)
theorem dJ39_keyIterator_3 : decode cJ39_keyIterator 3 = .ok (.dup, 1) := dk_89 (dk_at dksJ39_keyIterator_0 3 rfl rfl)
theorem dJ39_keyIterator_4 : decode cJ39_keyIterator 4 = .ok (.aload_n 0, 1) := dk_42 (dk_at dksJ39_keyIterator_0 4 rfl rfl)
theorem dJ39_keyIterator_5 : decode cJ39_keyIterator 5 = .ok (.aload_n 0, 1) := dk_42 (dk_at dksJ39_keyIterator_0 5 rfl rfl)
theorem dJ39_keyIterator_6 : decode cJ39_keyIterator 6 = .ok (.invokevirtual 62, 3) := dk_182 0 62 (dk_at dksJ39_keyIterator_0 6 rfl rfl)
theorem dJ39_keyIterator_9 : decode cJ39_keyIterator 9 = .ok (.aload_n 0, 1) := dk_42 (dk_at dksJ39_keyIterator_0 9 rfl rfl)
theorem dJ39_keyIterator_10 : decode cJ39_keyIterator 10 = .ok (.invokevirtual 66, 3) := dk_182 0 66 (dk_at dksJ39_keyIterator_0 10 rfl rfl)
theorem dJ39_keyIterator_13 : decode cJ39_keyIterator 13 = .ok (.invokespecial 69, 3) := dk_183 0 69 (dk_at dksJ39_keyIterator_0 13 rfl rfl)
theorem dJ39_keyIterator_16 : decode cJ39_keyIterator 16 = .ok (.areturn, 1) := dk_176 (dk_at dksJ39_keyIterator_0 16 rfl rfl)
def fJ39_keyIterator (e : Nat → Nat) (N : Nat) (m : Mm) (v0 : Option Nat) : Rs (Option Nat) := nw_ m 24 6 (fun x1 m1 => ck_ m1 v0 21 (bd_ (fJ38_absLowest_t21 e N m1 v0) (fun x2 m2 => ck_ m2 v0 21 (bd_ (fJ38_absHighFence_t21 e N m2 v0) (fun x3 m3 => bd_ (fJ33_init e N m3 (some x1) v0 x2 x3) (fun _ m4 => rt_ (some x1) m4))))))
abbrev cJ30_init : ByteArray := prog_92_method_1_code
def yJ30_init : MethodName := ⟨RJ30, "<init>", "(Ljava/util/TreeMap;Ljava/util/TreeMap$Entry;)V"⟩
def dkwJ30_init_1 : List UInt8 := [181, 0, 26, 177]
abbrev dktJ30_init_1 : List UInt8 := dkwJ30_init_1 ++ []
def dkwJ30_init_0 : List UInt8 := [42, 43, 181, 0, 1, 42, 183, 0, 7, 42, 43, 180, 0, 13, 181, 0, 19, 42, 1, 181, 0, 22, 42, 44]
abbrev dktJ30_init_0 : List UInt8 := dkwJ30_init_0 ++ dktJ30_init_1
theorem dksJ30_init_0 : cJ30_init.data.toList.drop 0 = dktJ30_init_0 := by decide +kernel
theorem dksJ30_init_1 : cJ30_init.data.toList.drop 24 = dktJ30_init_1 := dk_seg dksJ30_init_0 24 rfl rfl
theorem dJ30_init_0 : decode cJ30_init 0 = .ok (.aload_n 0, 1) := dk_42 (dk_at dksJ30_init_0 0 rfl rfl)
theorem dJ30_init_1 : decode cJ30_init 1 = .ok (.aload_n 1, 1) := dk_43 (dk_at dksJ30_init_0 1 rfl rfl)
theorem dJ30_init_2 : decode cJ30_init 2 = .ok (.putfield 1, 3) := dk_181 0 1 (dk_at dksJ30_init_0 2 rfl rfl)
theorem dJ30_init_5 : decode cJ30_init 5 = .ok (.aload_n 0, 1) := dk_42 (dk_at dksJ30_init_0 5 rfl rfl)
theorem dJ30_init_6 : decode cJ30_init 6 = .ok (.invokespecial 7, 3) := dk_183 0 7 (dk_at dksJ30_init_0 6 rfl rfl)
theorem dJ30_init_9 : decode cJ30_init 9 = .ok (.aload_n 0, 1) := dk_42 (dk_at dksJ30_init_0 9 rfl rfl)
theorem dJ30_init_10 : decode cJ30_init 10 = .ok (.aload_n 1, 1) := dk_43 (dk_at dksJ30_init_0 10 rfl rfl)
theorem dJ30_init_11 : decode cJ30_init 11 = .ok (.getfield 13, 3) := dk_180 0 13 (dk_at dksJ30_init_0 11 rfl rfl)
theorem dJ30_init_14 : decode cJ30_init 14 = .ok (.putfield 19, 3) := dk_181 0 19 (dk_at dksJ30_init_0 14 rfl rfl)
theorem dJ30_init_17 : decode cJ30_init 17 = .ok (.aload_n 0, 1) := dk_42 (dk_at dksJ30_init_0 17 rfl rfl)
theorem dJ30_init_18 : decode cJ30_init 18 = .ok (.aconst_null, 1) := dk_1 (dk_at dksJ30_init_0 18 rfl rfl)
theorem dJ30_init_19 : decode cJ30_init 19 = .ok (.putfield 22, 3) := dk_181 0 22 (dk_at dksJ30_init_0 19 rfl rfl)
theorem dJ30_init_22 : decode cJ30_init 22 = .ok (.aload_n 0, 1) := dk_42 (dk_at dksJ30_init_0 22 rfl rfl)
theorem dJ30_init_23 : decode cJ30_init 23 = .ok (.aload_n 2, 1) := dk_44 (dk_at dksJ30_init_0 23 rfl rfl)
theorem dJ30_init_24 : decode cJ30_init 24 = .ok (.putfield 26, 3) := dk_181 0 26 (dk_at dksJ30_init_1 0 rfl rfl)
theorem dJ30_init_27 : decode cJ30_init 27 = .ok (.return_, 1) := dk_177 (dk_at dksJ30_init_1 3 rfl rfl)
def fJ30_init_t18 (e : Nat → Nat) (N : Nat) (m : Mm) (v0 : Option Nat) (v1 : Option Nat) (v2 : Option Nat) : Rs (Unit) := pr_ m v0 18 3 v1 (fun m1 => ok_ v0 (gi_ m1 v1 15 5 (fun x1 => pi_ m1 v0 18 2 x1 (fun m2 => pr_ m2 v0 18 1 none (fun m3 => pr_ m3 v0 18 0 v2 (fun m4 => rt_ () m4))))))
abbrev cJ32_init : ByteArray := prog_85_method_1_code
def yJ32_init : MethodName := ⟨RJ32, "<init>", "(Ljava/util/TreeMap;Ljava/util/TreeMap$Entry;)V"⟩
def dkwJ32_init_0 : List UInt8 := [42, 43, 44, 183, 0, 1, 177]
abbrev dktJ32_init_0 : List UInt8 := dkwJ32_init_0 ++ []
theorem dksJ32_init_0 : cJ32_init.data.toList.drop 0 = dktJ32_init_0 := by decide +kernel
theorem dJ32_init_0 : decode cJ32_init 0 = .ok (.aload_n 0, 1) := dk_42 (dk_at dksJ32_init_0 0 rfl rfl)
theorem dJ32_init_1 : decode cJ32_init 1 = .ok (.aload_n 1, 1) := dk_43 (dk_at dksJ32_init_0 1 rfl rfl)
theorem dJ32_init_2 : decode cJ32_init 2 = .ok (.aload_n 2, 1) := dk_44 (dk_at dksJ32_init_0 2 rfl rfl)
theorem dJ32_init_3 : decode cJ32_init 3 = .ok (.invokespecial 1, 3) := dk_183 0 1 (dk_at dksJ32_init_0 3 rfl rfl)
theorem dJ32_init_6 : decode cJ32_init 6 = .ok (.return_, 1) := dk_177 (dk_at dksJ32_init_0 6 rfl rfl)
def fJ32_init (e : Nat → Nat) (N : Nat) (m : Mm) (v0 : Option Nat) (v1 : Option Nat) (v2 : Option Nat) : Rs (Unit) := ok_ v0 (bd_ (fJ30_init_t18 e N m v0 v1 v2) (fun _ m1 => rt_ () m1))
abbrev cJ4_keyIterator : ByteArray := prog_79_method_65_code
def yJ4_keyIterator : MethodName := ⟨RJ4, "keyIterator", "()Ljava/util/Iterator;"⟩
def dkwJ4_keyIterator_0 : List UInt8 := [187, 1, 13, 89, 42, 42, 182, 0, 54, 183, 1, 15, 176]
abbrev dktJ4_keyIterator_0 : List UInt8 := dkwJ4_keyIterator_0 ++ []
theorem dksJ4_keyIterator_0 : cJ4_keyIterator.data.toList.drop 0 = dktJ4_keyIterator_0 := by decide +kernel
theorem dJ4_keyIterator_0 : decode cJ4_keyIterator 0 = .ok (.new 269, 3) := dk_187 1 13 (dk_at dksJ4_keyIterator_0 0 rfl rfl)
theorem dJ4_keyIterator_3 : decode cJ4_keyIterator 3 = .ok (.dup, 1) := dk_89 (dk_at dksJ4_keyIterator_0 3 rfl rfl)
theorem dJ4_keyIterator_4 : decode cJ4_keyIterator 4 = .ok (.aload_n 0, 1) := dk_42 (dk_at dksJ4_keyIterator_0 4 rfl rfl)
theorem dJ4_keyIterator_5 : decode cJ4_keyIterator 5 = .ok (.aload_n 0, 1) := dk_42 (dk_at dksJ4_keyIterator_0 5 rfl rfl)
theorem dJ4_keyIterator_6 : decode cJ4_keyIterator 6 = .ok (.invokevirtual 54, 3) := dk_182 0 54 (dk_at dksJ4_keyIterator_0 6 rfl rfl)
theorem dJ4_keyIterator_9 : decode cJ4_keyIterator 9 = .ok (.invokespecial 271, 3) := dk_183 1 15 (dk_at dksJ4_keyIterator_0 9 rfl rfl)
theorem dJ4_keyIterator_12 : decode cJ4_keyIterator 12 = .ok (.areturn, 1) := dk_176 (dk_at dksJ4_keyIterator_0 12 rfl rfl)
def fJ4_keyIterator (e : Nat → Nat) (N : Nat) (m : Mm) (v0 : Option Nat) : Rs (Option Nat) := nw_ m 18 4 (fun x1 m1 => ck_ m1 v0 15 (bd_ (fJ4_getFirstEntry e N m1 v0) (fun x2 m2 => bd_ (fJ32_init e N m2 (some x1) v0 x2) (fun _ m3 => rt_ (some x1) m3))))
abbrev cJ36_iterator : ByteArray := prog_86_method_2_code
def yJ36_iterator : MethodName := ⟨RJ36, "iterator", "()Ljava/util/Iterator;"⟩
def dkwJ36_iterator_1 : List UInt8 := [180, 0, 7, 192, 0, 19, 182, 0, 21, 176]
abbrev dktJ36_iterator_1 : List UInt8 := dkwJ36_iterator_1 ++ []
def dkwJ36_iterator_0 : List UInt8 := [42, 180, 0, 7, 193, 0, 13, 153, 0, 14, 42, 180, 0, 7, 192, 0, 13, 182, 0, 15, 176, 42]
abbrev dktJ36_iterator_0 : List UInt8 := dkwJ36_iterator_0 ++ dktJ36_iterator_1
theorem dksJ36_iterator_0 : cJ36_iterator.data.toList.drop 0 = dktJ36_iterator_0 := by decide +kernel
theorem dksJ36_iterator_1 : cJ36_iterator.data.toList.drop 22 = dktJ36_iterator_1 := dk_seg dksJ36_iterator_0 22 rfl rfl
theorem dJ36_iterator_0 : decode cJ36_iterator 0 = .ok (.aload_n 0, 1) := dk_42 (dk_at dksJ36_iterator_0 0 rfl rfl)
theorem dJ36_iterator_1 : decode cJ36_iterator 1 = .ok (.getfield 7, 3) := dk_180 0 7 (dk_at dksJ36_iterator_0 1 rfl rfl)
theorem dJ36_iterator_4 : decode cJ36_iterator 4 = .ok (.instanceof 13, 3) := dk_193 0 13 (dk_at dksJ36_iterator_0 4 rfl rfl)
theorem dJ36_iterator_7 : decode cJ36_iterator 7 = .ok (.ifCond .eq 14, 3) := dk_153 0 14 (dk_at dksJ36_iterator_0 7 rfl rfl)
theorem dJ36_iterator_10 : decode cJ36_iterator 10 = .ok (.aload_n 0, 1) := dk_42 (dk_at dksJ36_iterator_0 10 rfl rfl)
theorem dJ36_iterator_11 : decode cJ36_iterator 11 = .ok (.getfield 7, 3) := dk_180 0 7 (dk_at dksJ36_iterator_0 11 rfl rfl)
theorem dJ36_iterator_14 : decode cJ36_iterator 14 = .ok (.checkcast 13, 3) := dk_192 0 13 (dk_at dksJ36_iterator_0 14 rfl rfl)
theorem dJ36_iterator_17 : decode cJ36_iterator 17 = .ok (.invokevirtual 15, 3) := dk_182 0 15 (dk_at dksJ36_iterator_0 17 rfl rfl)
theorem dJ36_iterator_20 : decode cJ36_iterator 20 = .ok (.areturn, 1) := dk_176 (dk_at dksJ36_iterator_0 20 rfl rfl)
theorem dJ36_iterator_21 : decode cJ36_iterator 21 = .ok (.aload_n 0, 1) := dk_42 (dk_at dksJ36_iterator_0 21 rfl rfl)
theorem dJ36_iterator_22 : decode cJ36_iterator 22 = .ok (.getfield 7, 3) := dk_180 0 7 (dk_at dksJ36_iterator_1 0 rfl rfl)
theorem dJ36_iterator_25 : decode cJ36_iterator 25 = .ok (.checkcast 19, 3) := dk_192 0 19 (dk_at dksJ36_iterator_1 3 rfl rfl)
theorem dJ36_iterator_28 : decode cJ36_iterator 28 = .ok (.invokevirtual 21, 3) := dk_182 0 21 (dk_at dksJ36_iterator_1 6 rfl rfl)
theorem dJ36_iterator_31 : decode cJ36_iterator 31 = .ok (.areturn, 1) := dk_176 (dk_at dksJ36_iterator_1 9 rfl rfl)
def fJ36_iterator (e : Nat → Nat) (N : Nat) (m : Mm) (v0 : Option Nat) : Rs (Option Nat) := gr_ m v0 17 0 (fun x1 => cs_ m x1 15 (io_ m x1 [15] (fun x2 => if x2 = 0 then (gr_ m v0 17 0 (fun x3 => cc_ m x3 [21] (ck_ m x3 21 (bd_ (fJ39_keyIterator e N m x3) (fun x4 m1 => rt_ x4 m1))))) else (gr_ m v0 17 0 (fun x5 => cc_ m x5 [15] (ck_ m x5 15 (bd_ (fJ4_keyIterator e N m x5) (fun x6 m2 => rt_ x6 m2))))))) (io0_ m x1 21 (if (0 : Int32) = 0 then (gr_ m v0 17 0 (fun x7 => cc_ m x7 [21] (ck_ m x7 21 (bd_ (fJ39_keyIterator e N m x7) (fun x8 m3 => rt_ x8 m3))))) else (gr_ m v0 17 0 (fun x9 => cc_ m x9 [15] (ck_ m x9 15 (bd_ (fJ4_keyIterator e N m x9) (fun x10 m4 => rt_ x10 m4))))))))
abbrev cX2_indexes : ByteArray := prog_21_method_4_code
def yX2_indexes : MethodName := ⟨RX2, "indexes", "(LMasterTree$Entry;Z)V"⟩
def dkwX2_indexes_7 : List UInt8 := [180, 0, 40, 21, 5, 47, 33, 20, 0, 107, 131, 127, 80, 177]
abbrev dktX2_indexes_7 : List UInt8 := dkwX2_indexes_7 ++ []
def dkwX2_indexes_6 : List UInt8 := [42, 180, 0, 40, 21, 5, 28, 153, 0, 15, 42, 180, 0, 40, 21, 5, 47, 33, 129, 167, 0, 16, 42]
abbrev dktX2_indexes_6 : List UInt8 := dkwX2_indexes_6 ++ dktX2_indexes_7
def dkwX2_indexes_5 : List UInt8 := [20, 0, 107, 131, 127, 184, 0, 109, 182, 0, 112, 87, 167, 255, 163, 43, 180, 0, 116, 180, 0, 120, 54, 5]
abbrev dktX2_indexes_5 : List UInt8 := dkwX2_indexes_5 ++ dktX2_indexes_6
def dkwX2_indexes_4 : List UInt8 := [42, 180, 0, 36, 21, 6, 184, 0, 93, 28, 153, 0, 10, 22, 8, 33, 129, 167, 0, 11, 22, 8, 33]
abbrev dktX2_indexes_4 : List UInt8 := dkwX2_indexes_4 ++ dktX2_indexes_5
def dkwX2_indexes_3 : List UInt8 := [182, 0, 97, 192, 0, 101, 58, 7, 25, 7, 199, 0, 7, 9, 167, 0, 8, 25, 7, 182, 0, 103, 55, 8]
abbrev dktX2_indexes_3 : List UInt8 := dkwX2_indexes_3 ++ dktX2_indexes_4
def dkwX2_indexes_2 : List UInt8 := [25, 5, 185, 0, 83, 1, 0, 192, 0, 87, 182, 0, 89, 54, 6, 42, 180, 0, 36, 21, 6, 184, 0, 93]
abbrev dktX2_indexes_2 : List UInt8 := dkwX2_indexes_2 ++ dktX2_indexes_3
def dkwX2_indexes_1 : List UInt8 := [180, 0, 65, 182, 0, 68, 185, 0, 72, 1, 0, 58, 5, 25, 5, 185, 0, 78, 1, 0, 153, 0, 89]
abbrev dktX2_indexes_1 : List UInt8 := dkwX2_indexes_1 ++ dktX2_indexes_2
def dkwX2_indexes_0 : List UInt8 := [43, 180, 0, 64, 153, 0, 10, 43, 182, 0, 57, 154, 0, 4, 177, 10, 43, 180, 0, 64, 121, 66, 43]
abbrev dktX2_indexes_0 : List UInt8 := dkwX2_indexes_0 ++ dktX2_indexes_1
theorem dksX2_indexes_0 : cX2_indexes.data.toList.drop 0 = dktX2_indexes_0 := by decide +kernel
theorem dksX2_indexes_1 : cX2_indexes.data.toList.drop 23 = dktX2_indexes_1 := dk_seg dksX2_indexes_0 23 rfl rfl
theorem dksX2_indexes_2 : cX2_indexes.data.toList.drop 46 = dktX2_indexes_2 := dk_seg dksX2_indexes_1 23 rfl rfl
theorem dksX2_indexes_3 : cX2_indexes.data.toList.drop 70 = dktX2_indexes_3 := dk_seg dksX2_indexes_2 24 rfl rfl
theorem dksX2_indexes_4 : cX2_indexes.data.toList.drop 94 = dktX2_indexes_4 := dk_seg dksX2_indexes_3 24 rfl rfl
theorem dksX2_indexes_5 : cX2_indexes.data.toList.drop 117 = dktX2_indexes_5 := dk_seg dksX2_indexes_4 23 rfl rfl
theorem dksX2_indexes_6 : cX2_indexes.data.toList.drop 141 = dktX2_indexes_6 := dk_seg dksX2_indexes_5 24 rfl rfl
theorem dksX2_indexes_7 : cX2_indexes.data.toList.drop 164 = dktX2_indexes_7 := dk_seg dksX2_indexes_6 23 rfl rfl
theorem dX2_indexes_0 : decode cX2_indexes 0 = .ok (.aload_n 1, 1) := dk_43 (dk_at dksX2_indexes_0 0 rfl rfl)
theorem dX2_indexes_1 : decode cX2_indexes 1 = .ok (.getfield 64, 3) := dk_180 0 64 (dk_at dksX2_indexes_0 1 rfl rfl)
theorem dX2_indexes_4 : decode cX2_indexes 4 = .ok (.ifCond .eq 10, 3) := dk_153 0 10 (dk_at dksX2_indexes_0 4 rfl rfl)
theorem dX2_indexes_7 : decode cX2_indexes 7 = .ok (.aload_n 1, 1) := dk_43 (dk_at dksX2_indexes_0 7 rfl rfl)
theorem dX2_indexes_8 : decode cX2_indexes 8 = .ok (.invokevirtual 57, 3) := dk_182 0 57 (dk_at dksX2_indexes_0 8 rfl rfl)
theorem dX2_indexes_11 : decode cX2_indexes 11 = .ok (.ifCond .ne 4, 3) := dk_154 0 4 (dk_at dksX2_indexes_0 11 rfl rfl)
theorem dX2_indexes_14 : decode cX2_indexes 14 = .ok (.return_, 1) := dk_177 (dk_at dksX2_indexes_0 14 rfl rfl)
theorem dX2_indexes_15 : decode cX2_indexes 15 = .ok (.lconst 1, 1) := dk_10 (dk_at dksX2_indexes_0 15 rfl rfl)
theorem dX2_indexes_16 : decode cX2_indexes 16 = .ok (.aload_n 1, 1) := dk_43 (dk_at dksX2_indexes_0 16 rfl rfl)
theorem dX2_indexes_17 : decode cX2_indexes 17 = .ok (.getfield 64, 3) := dk_180 0 64 (dk_at dksX2_indexes_0 17 rfl rfl)
theorem dX2_indexes_20 : decode cX2_indexes 20 = .ok (.lshl, 1) := dk_121 (dk_at dksX2_indexes_0 20 rfl rfl)
theorem dX2_indexes_21 : decode cX2_indexes 21 = .ok (.lstore_n 3, 1) := dk_66 (dk_at dksX2_indexes_0 21 rfl rfl)
theorem dX2_indexes_22 : decode cX2_indexes 22 = .ok (.aload_n 1, 1) := dk_43 (dk_at dksX2_indexes_0 22 rfl rfl)
theorem dX2_indexes_23 : decode cX2_indexes 23 = .ok (.getfield 65, 3) := dk_180 0 65 (dk_at dksX2_indexes_1 0 rfl rfl)
theorem dX2_indexes_26 : decode cX2_indexes 26 = .ok (.invokevirtual 68, 3) := dk_182 0 68 (dk_at dksX2_indexes_1 3 rfl rfl)
theorem dX2_indexes_29 : decode cX2_indexes 29 = .ok (.invokeinterface 72 1, 5) := by decide +kernel
theorem dX2_indexes_34 : decode cX2_indexes 34 = .ok (.astore 5, 2) := dk_58 5 (dk_at dksX2_indexes_1 11 rfl rfl)
theorem dX2_indexes_36 : decode cX2_indexes 36 = .ok (.aload 5, 2) := dk_25 5 (dk_at dksX2_indexes_1 13 rfl rfl)
theorem dX2_indexes_38 : decode cX2_indexes 38 = .ok (.invokeinterface 78 1, 5) := by decide +kernel
theorem dX2_indexes_43 : decode cX2_indexes 43 = .ok (.ifCond .eq 89, 3) := dk_153 0 89 (dk_at dksX2_indexes_1 20 rfl rfl)
theorem dX2_indexes_46 : decode cX2_indexes 46 = .ok (.aload 5, 2) := dk_25 5 (dk_at dksX2_indexes_2 0 rfl rfl)
theorem dX2_indexes_48 : decode cX2_indexes 48 = .ok (.invokeinterface 83 1, 5) := by decide +kernel
theorem dX2_indexes_53 : decode cX2_indexes 53 = .ok (.checkcast 87, 3) := dk_192 0 87 (dk_at dksX2_indexes_2 7 rfl rfl)
theorem dX2_indexes_56 : decode cX2_indexes 56 = .ok (.invokevirtual 89, 3) := dk_182 0 89 (dk_at dksX2_indexes_2 10 rfl rfl)
theorem dX2_indexes_59 : decode cX2_indexes 59 = .ok (.istore 6, 2) := dk_54 6 (dk_at dksX2_indexes_2 13 rfl rfl)
theorem dX2_indexes_61 : decode cX2_indexes 61 = .ok (.aload_n 0, 1) := dk_42 (dk_at dksX2_indexes_2 15 rfl rfl)
theorem dX2_indexes_62 : decode cX2_indexes 62 = .ok (.getfield 36, 3) := dk_180 0 36 (dk_at dksX2_indexes_2 16 rfl rfl)
theorem dX2_indexes_65 : decode cX2_indexes 65 = .ok (.iload 6, 2) := dk_21 6 (dk_at dksX2_indexes_2 19 rfl rfl)
theorem dX2_indexes_67 : decode cX2_indexes 67 = .ok (.invokestatic 93, 3) := dk_184 0 93 (dk_at dksX2_indexes_2 21 rfl rfl)
theorem dX2_indexes_70 : decode cX2_indexes 70 = .ok (.invokevirtual 97, 3) := dk_182 0 97 (dk_at dksX2_indexes_3 0 rfl rfl)
theorem dX2_indexes_73 : decode cX2_indexes 73 = .ok (.checkcast 101, 3) := dk_192 0 101 (dk_at dksX2_indexes_3 3 rfl rfl)
theorem dX2_indexes_76 : decode cX2_indexes 76 = .ok (.astore 7, 2) := dk_58 7 (dk_at dksX2_indexes_3 6 rfl rfl)
theorem dX2_indexes_78 : decode cX2_indexes 78 = .ok (.aload 7, 2) := dk_25 7 (dk_at dksX2_indexes_3 8 rfl rfl)
theorem dX2_indexes_80 : decode cX2_indexes 80 = .ok (.ifnonnull 7, 3) := dk_199 0 7 (dk_at dksX2_indexes_3 10 rfl rfl)
theorem dX2_indexes_83 : decode cX2_indexes 83 = .ok (.lconst 0, 1) := dk_9 (dk_at dksX2_indexes_3 13 rfl rfl)
theorem dX2_indexes_84 : decode cX2_indexes 84 = .ok (.goto 8, 3) := dk_167 0 8 (dk_at dksX2_indexes_3 14 rfl rfl)
theorem dX2_indexes_87 : decode cX2_indexes 87 = .ok (.aload 7, 2) := dk_25 7 (dk_at dksX2_indexes_3 17 rfl rfl)
theorem dX2_indexes_89 : decode cX2_indexes 89 = .ok (.invokevirtual 103, 3) := dk_182 0 103 (dk_at dksX2_indexes_3 19 rfl rfl)
theorem dX2_indexes_92 : decode cX2_indexes 92 = .ok (.lstore 8, 2) := dk_55 8 (dk_at dksX2_indexes_3 22 rfl rfl)
theorem dX2_indexes_94 : decode cX2_indexes 94 = .ok (.aload_n 0, 1) := dk_42 (dk_at dksX2_indexes_4 0 rfl rfl)
theorem dX2_indexes_95 : decode cX2_indexes 95 = .ok (.getfield 36, 3) := dk_180 0 36 (dk_at dksX2_indexes_4 1 rfl rfl)
theorem dX2_indexes_98 : decode cX2_indexes 98 = .ok (.iload 6, 2) := dk_21 6 (dk_at dksX2_indexes_4 4 rfl rfl)
theorem dX2_indexes_100 : decode cX2_indexes 100 = .ok (.invokestatic 93, 3) := dk_184 0 93 (dk_at dksX2_indexes_4 6 rfl rfl)
theorem dX2_indexes_103 : decode cX2_indexes 103 = .ok (.iload_n 2, 1) := dk_28 (dk_at dksX2_indexes_4 9 rfl rfl)
theorem dX2_indexes_104 : decode cX2_indexes 104 = .ok (.ifCond .eq 10, 3) := dk_153 0 10 (dk_at dksX2_indexes_4 10 rfl rfl)
theorem dX2_indexes_107 : decode cX2_indexes 107 = .ok (.lload 8, 2) := dk_22 8 (dk_at dksX2_indexes_4 13 rfl rfl)
theorem dX2_indexes_109 : decode cX2_indexes 109 = .ok (.lload_n 3, 1) := dk_33 (dk_at dksX2_indexes_4 15 rfl rfl)
theorem dX2_indexes_110 : decode cX2_indexes 110 = .ok (.lor, 1) := dk_129 (dk_at dksX2_indexes_4 16 rfl rfl)
theorem dX2_indexes_111 : decode cX2_indexes 111 = .ok (.goto 11, 3) := dk_167 0 11 (dk_at dksX2_indexes_4 17 rfl rfl)
theorem dX2_indexes_114 : decode cX2_indexes 114 = .ok (.lload 8, 2) := dk_22 8 (dk_at dksX2_indexes_4 20 rfl rfl)
theorem dX2_indexes_116 : decode cX2_indexes 116 = .ok (.lload_n 3, 1) := dk_33 (dk_at dksX2_indexes_4 22 rfl rfl)
theorem dX2_indexes_117 : decode cX2_indexes 117 = .ok (.ldc2_w 107, 3) := dk_20 0 107 (dk_at dksX2_indexes_5 0 rfl rfl)
theorem dX2_indexes_120 : decode cX2_indexes 120 = .ok (.lxor, 1) := dk_131 (dk_at dksX2_indexes_5 3 rfl rfl)
theorem dX2_indexes_121 : decode cX2_indexes 121 = .ok (.land, 1) := dk_127 (dk_at dksX2_indexes_5 4 rfl rfl)
theorem dX2_indexes_122 : decode cX2_indexes 122 = .ok (.invokestatic 109, 3) := dk_184 0 109 (dk_at dksX2_indexes_5 5 rfl rfl)
theorem dX2_indexes_125 : decode cX2_indexes 125 = .ok (.invokevirtual 112, 3) := dk_182 0 112 (dk_at dksX2_indexes_5 8 rfl rfl)
theorem dX2_indexes_128 : decode cX2_indexes 128 = .ok (.pop, 1) := dk_87 (dk_at dksX2_indexes_5 11 rfl rfl)
theorem dX2_indexes_129 : decode cX2_indexes 129 = .ok (.goto (-93), 3) := dk_167 255 163 (dk_at dksX2_indexes_5 12 rfl rfl)
theorem dX2_indexes_132 : decode cX2_indexes 132 = .ok (.aload_n 1, 1) := dk_43 (dk_at dksX2_indexes_5 15 rfl rfl)
theorem dX2_indexes_133 : decode cX2_indexes 133 = .ok (.getfield 116, 3) := dk_180 0 116 (dk_at dksX2_indexes_5 16 rfl rfl)
theorem dX2_indexes_136 : decode cX2_indexes 136 = .ok (.getfield 120, 3) := dk_180 0 120 (dk_at dksX2_indexes_5 19 rfl rfl)
theorem dX2_indexes_139 : decode cX2_indexes 139 = .ok (.istore 5, 2) := dk_54 5 (dk_at dksX2_indexes_5 22 rfl rfl)
theorem dX2_indexes_141 : decode cX2_indexes 141 = .ok (.aload_n 0, 1) := dk_42 (dk_at dksX2_indexes_6 0 rfl rfl)
theorem dX2_indexes_142 : decode cX2_indexes 142 = .ok (.getfield 40, 3) := dk_180 0 40 (dk_at dksX2_indexes_6 1 rfl rfl)
theorem dX2_indexes_145 : decode cX2_indexes 145 = .ok (.iload 5, 2) := dk_21 5 (dk_at dksX2_indexes_6 4 rfl rfl)
theorem dX2_indexes_147 : decode cX2_indexes 147 = .ok (.iload_n 2, 1) := dk_28 (dk_at dksX2_indexes_6 6 rfl rfl)
theorem dX2_indexes_148 : decode cX2_indexes 148 = .ok (.ifCond .eq 15, 3) := dk_153 0 15 (dk_at dksX2_indexes_6 7 rfl rfl)
theorem dX2_indexes_151 : decode cX2_indexes 151 = .ok (.aload_n 0, 1) := dk_42 (dk_at dksX2_indexes_6 10 rfl rfl)
theorem dX2_indexes_152 : decode cX2_indexes 152 = .ok (.getfield 40, 3) := dk_180 0 40 (dk_at dksX2_indexes_6 11 rfl rfl)
theorem dX2_indexes_155 : decode cX2_indexes 155 = .ok (.iload 5, 2) := dk_21 5 (dk_at dksX2_indexes_6 14 rfl rfl)
theorem dX2_indexes_157 : decode cX2_indexes 157 = .ok (.laload, 1) := dk_47 (dk_at dksX2_indexes_6 16 rfl rfl)
theorem dX2_indexes_158 : decode cX2_indexes 158 = .ok (.lload_n 3, 1) := dk_33 (dk_at dksX2_indexes_6 17 rfl rfl)
theorem dX2_indexes_159 : decode cX2_indexes 159 = .ok (.lor, 1) := dk_129 (dk_at dksX2_indexes_6 18 rfl rfl)
theorem dX2_indexes_160 : decode cX2_indexes 160 = .ok (.goto 16, 3) := dk_167 0 16 (dk_at dksX2_indexes_6 19 rfl rfl)
theorem dX2_indexes_163 : decode cX2_indexes 163 = .ok (.aload_n 0, 1) := dk_42 (dk_at dksX2_indexes_6 22 rfl rfl)
theorem dX2_indexes_164 : decode cX2_indexes 164 = .ok (.getfield 40, 3) := dk_180 0 40 (dk_at dksX2_indexes_7 0 rfl rfl)
theorem dX2_indexes_167 : decode cX2_indexes 167 = .ok (.iload 5, 2) := dk_21 5 (dk_at dksX2_indexes_7 3 rfl rfl)
theorem dX2_indexes_169 : decode cX2_indexes 169 = .ok (.laload, 1) := dk_47 (dk_at dksX2_indexes_7 5 rfl rfl)
theorem dX2_indexes_170 : decode cX2_indexes 170 = .ok (.lload_n 3, 1) := dk_33 (dk_at dksX2_indexes_7 6 rfl rfl)
theorem dX2_indexes_171 : decode cX2_indexes 171 = .ok (.ldc2_w 107, 3) := dk_20 0 107 (dk_at dksX2_indexes_7 7 rfl rfl)
theorem dX2_indexes_174 : decode cX2_indexes 174 = .ok (.lxor, 1) := dk_131 (dk_at dksX2_indexes_7 10 rfl rfl)
theorem dX2_indexes_175 : decode cX2_indexes 175 = .ok (.land, 1) := dk_127 (dk_at dksX2_indexes_7 11 rfl rfl)
theorem dX2_indexes_176 : decode cX2_indexes 176 = .ok (.lastore, 1) := dk_80 (dk_at dksX2_indexes_7 12 rfl rfl)
theorem dX2_indexes_177 : decode cX2_indexes 177 = .ok (.return_, 1) := dk_177 (dk_at dksX2_indexes_7 13 rfl rfl)
def fX2_indexes_b14 (e : Nat → Nat) (N : Nat) (m : Mm) : Rs (Unit) := rt_ () m
def fX2_indexes_b122 (e : Nat → Nat) (N : Nat) (k36 : Mm → Option Nat → Option Nat → Int32 → Int64 → Option Nat → Rs (Unit)) (m : Mm) (v0 : Option Nat) (v1 : Option Nat) (v2 : Int32) (v3 : Int64) (v5 : Option Nat) (s0 : Option Nat) (s1 : Option Nat) (s2 : Int64) : Rs (Unit) := bd_ (fJ28_valueOf e N m s2) (fun x1 m1 => ck_ m1 s0 15 (bd_ (fJ4_put e N m1 s0 s1 x1) (fun x2 m2 => k36 m2 v0 v1 v2 v3 v5)))
def fX2_indexes_b92 (e : Nat → Nat) (N : Nat) (k36 : Mm → Option Nat → Option Nat → Int32 → Int64 → Option Nat → Rs (Unit)) (m : Mm) (v0 : Option Nat) (v1 : Option Nat) (v2 : Int32) (v3 : Int64) (v5 : Option Nat) (v6 : Int32) (s0 : Int64) : Rs (Unit) := gr_ m v0 2 10 (fun x1 => bd_ (fJ21_valueOf e N m v6) (fun x2 m1 => if v2 = 0 then (fX2_indexes_b122 e N k36 m1 v0 v1 v2 v3 v5 x1 x2 (s0 &&& (v3 ^^^ (-1)))) else (fX2_indexes_b122 e N k36 m1 v0 v1 v2 v3 v5 x1 x2 (s0 ||| v3))))
def fX2_indexes_b176 (e : Nat → Nat) (N : Nat) (m : Mm) (s0 : Option Nat) (s1 : Int32) (s2 : Int64) : Rs (Unit) := bj_ m s0 203 s1 s2 (fun m1 => rt_ () m1)
def fX2_indexes_b36 (e : Nat → Nat) (N : Nat) : Nat → Mm → Option Nat → Option Nat → Int32 → Int64 → Option Nat → Rs (Unit)
  | 0, _, _, _, _, _, _ => none
  | F + 1, m, v0, v1, v2, v3, v5 => ck_ m v5 18 (bd_ (fJ30_hasNext_t18 e N m v5) (fun x1 m1 => if x1 = 0 then (gr_ m1 v1 3 3 (fun x2 => gi_ m1 x2 7 7 (fun x3 => gr_ m1 v0 2 11 (fun x4 => if v2 = 0 then (gr_ m1 v0 2 11 (fun x5 => aj_ m1 x5 203 x3 (fun x6 => fX2_indexes_b176 e N m1 x4 x3 (x6 &&& (v3 ^^^ (-1)))))) else (gr_ m1 v0 2 11 (fun x7 => aj_ m1 x7 203 x3 (fun x8 => fX2_indexes_b176 e N m1 x4 x3 (x8 ||| v3)))))))) else (ck_ m1 v5 18 (bd_ (fJ32_next e N m1 v5) (fun x9 m2 => cc_ m2 x9 [27] (ck_ m2 x9 27 (bd_ (fJ21_intValue e N m2 x9) (fun x10 m3 => gr_ m3 v0 2 10 (fun x11 => bd_ (fJ21_valueOf e N m3 x10) (fun x12 m4 => ck_ m4 x11 15 (bd_ (fJ4_get e N m4 x11 x12) (fun x13 m5 => cc_ m5 x13 [28] (if x13 = none then (fX2_indexes_b92 e N (fX2_indexes_b36 e N F) m5 v0 v1 v2 v3 v5 x10 0) else (ck_ m5 x13 28 (bd_ (fJ28_longValue e N m5 x13) (fun x14 m6 => fX2_indexes_b92 e N (fX2_indexes_b36 e N F) m6 v0 v1 v2 v3 v5 x10 x14))))))))))))))))
def fX2_indexes (e : Nat → Nat) (N : Nat) (m : Mm) (v0 : Option Nat) (v1 : Option Nat) (v2 : Int32) : Rs (Unit) := gi_ m v1 3 0 (fun x1 => if x1 = 0 then (fX2_indexes_b14 e N m) else (ck_ m v1 3 (bd_ (fX3_isLive e N m v1) (fun x2 m1 => if x2 = 0 then (fX2_indexes_b14 e N m1) else (gi_ m1 v1 3 0 (fun x3 => gr_ m1 v1 3 7 (fun x4 => ck_ m1 x4 15 (bd_ (fJ4_keySet e N m1 x4) (fun x5 m2 => ck_ m2 x5 17 (bd_ (fJ36_iterator e N m2 x5) (fun x6 m3 => fX2_indexes_b36 e N N m3 v0 v1 v2 (1 <<< ((x3 : Int32).toInt64 &&& 63)) x6)))))))))))
abbrev cJ2_rangeCheckForAdd : ByteArray := prog_59_method_45_code
def yJ2_rangeCheckForAdd : MethodName := ⟨RJ2, "rangeCheckForAdd", "(I)V"⟩
def dkwJ2_rangeCheckForAdd_1 : List UInt8 := [191, 177]
abbrev dktJ2_rangeCheckForAdd_1 : List UInt8 := dkwJ2_rangeCheckForAdd_1 ++ []
def dkwJ2_rangeCheckForAdd_0 : List UInt8 := [27, 42, 180, 0, 48, 163, 0, 7, 27, 156, 0, 16, 187, 0, 187, 89, 42, 27, 182, 0, 198, 183, 0, 193]
abbrev dktJ2_rangeCheckForAdd_0 : List UInt8 := dkwJ2_rangeCheckForAdd_0 ++ dktJ2_rangeCheckForAdd_1
theorem dksJ2_rangeCheckForAdd_0 : cJ2_rangeCheckForAdd.data.toList.drop 0 = dktJ2_rangeCheckForAdd_0 := by decide +kernel
theorem dksJ2_rangeCheckForAdd_1 : cJ2_rangeCheckForAdd.data.toList.drop 24 = dktJ2_rangeCheckForAdd_1 := dk_seg dksJ2_rangeCheckForAdd_0 24 rfl rfl
theorem dJ2_rangeCheckForAdd_0 : decode cJ2_rangeCheckForAdd 0 = .ok (.iload_n 1, 1) := dk_27 (dk_at dksJ2_rangeCheckForAdd_0 0 rfl rfl)
theorem dJ2_rangeCheckForAdd_1 : decode cJ2_rangeCheckForAdd 1 = .ok (.aload_n 0, 1) := dk_42 (dk_at dksJ2_rangeCheckForAdd_0 1 rfl rfl)
theorem dJ2_rangeCheckForAdd_2 : decode cJ2_rangeCheckForAdd 2 = .ok (.getfield 48, 3) := dk_180 0 48 (dk_at dksJ2_rangeCheckForAdd_0 2 rfl rfl)
theorem dJ2_rangeCheckForAdd_5 : decode cJ2_rangeCheckForAdd 5 = .ok (.if_icmp .gt 7, 3) := dk_163 0 7 (dk_at dksJ2_rangeCheckForAdd_0 5 rfl rfl)
theorem dJ2_rangeCheckForAdd_8 : decode cJ2_rangeCheckForAdd 8 = .ok (.iload_n 1, 1) := dk_27 (dk_at dksJ2_rangeCheckForAdd_0 8 rfl rfl)
theorem dJ2_rangeCheckForAdd_9 : decode cJ2_rangeCheckForAdd 9 = .ok (.ifCond .ge 16, 3) := dk_156 0 16 (dk_at dksJ2_rangeCheckForAdd_0 9 rfl rfl)
theorem dJ2_rangeCheckForAdd_12 : decode cJ2_rangeCheckForAdd 12 = .ok (.new 187, 3) := dk_187 0 187 (dk_at dksJ2_rangeCheckForAdd_0 12 rfl rfl)
theorem dJ2_rangeCheckForAdd_15 : decode cJ2_rangeCheckForAdd 15 = .ok (.dup, 1) := dk_89 (dk_at dksJ2_rangeCheckForAdd_0 15 rfl rfl)
theorem dJ2_rangeCheckForAdd_16 : decode cJ2_rangeCheckForAdd 16 = .ok (.aload_n 0, 1) := dk_42 (dk_at dksJ2_rangeCheckForAdd_0 16 rfl rfl)
theorem dJ2_rangeCheckForAdd_17 : decode cJ2_rangeCheckForAdd 17 = .ok (.iload_n 1, 1) := dk_27 (dk_at dksJ2_rangeCheckForAdd_0 17 rfl rfl)
theorem dJ2_rangeCheckForAdd_18 : decode cJ2_rangeCheckForAdd 18 = .ok (.invokevirtual 198, 3) := dk_182 0 198 (dk_at dksJ2_rangeCheckForAdd_0 18 rfl rfl)
theorem dJ2_rangeCheckForAdd_21 : decode cJ2_rangeCheckForAdd 21 = .ok (.invokespecial 193, 3) := dk_183 0 193 (dk_at dksJ2_rangeCheckForAdd_0 21 rfl rfl)
theorem dJ2_rangeCheckForAdd_24 : decode cJ2_rangeCheckForAdd 24 = .ok (.athrow, 1) := dk_191 (dk_at dksJ2_rangeCheckForAdd_1 0 rfl rfl)
theorem dJ2_rangeCheckForAdd_25 : decode cJ2_rangeCheckForAdd 25 = .ok (.return_, 1) := dk_177 (dk_at dksJ2_rangeCheckForAdd_1 1 rfl rfl)
def fJ2_rangeCheckForAdd_b12 (e : Nat → Nat) (N : Nat) (m : Mm) : Rs (Unit) := none
def fJ2_rangeCheckForAdd (e : Nat → Nat) (N : Nat) (m : Mm) (v0 : Option Nat) (v1 : Int32) : Rs (Unit) := gi_ m v0 13 2 (fun x1 => if x1 < v1 then (fJ2_rangeCheckForAdd_b12 e N m) else (if v1 < 0 then (fJ2_rangeCheckForAdd_b12 e N m) else (rt_ () m)))
abbrev cJ2_add_3 : ByteArray := prog_59_method_26_code
def yJ2_add_3 : MethodName := ⟨RJ2, "add", "(ILjava/lang/Object;)V"⟩
def dkwJ2_add_3_2 : List UInt8 := [29, 27, 100, 184, 0, 112, 25, 4, 27, 44, 83, 42, 29, 4, 96, 181, 0, 48, 177]
abbrev dktJ2_add_3_2 : List UInt8 := dkwJ2_add_3_2 ++ []
def dkwJ2_add_3_1 : List UInt8 := [180, 0, 9, 89, 58, 4, 190, 160, 0, 9, 42, 182, 0, 129, 58, 4, 25, 4, 27, 25, 4, 27, 4, 96]
abbrev dktJ2_add_3_1 : List UInt8 := dkwJ2_add_3_1 ++ dktJ2_add_3_2
def dkwJ2_add_3_0 : List UInt8 := [42, 27, 182, 0, 135, 42, 89, 180, 0, 63, 4, 96, 181, 0, 63, 42, 180, 0, 48, 89, 62, 42]
abbrev dktJ2_add_3_0 : List UInt8 := dkwJ2_add_3_0 ++ dktJ2_add_3_1
theorem dksJ2_add_3_0 : cJ2_add_3.data.toList.drop 0 = dktJ2_add_3_0 := by decide +kernel
theorem dksJ2_add_3_1 : cJ2_add_3.data.toList.drop 22 = dktJ2_add_3_1 := dk_seg dksJ2_add_3_0 22 rfl rfl
theorem dksJ2_add_3_2 : cJ2_add_3.data.toList.drop 46 = dktJ2_add_3_2 := dk_seg dksJ2_add_3_1 24 rfl rfl
theorem dJ2_add_3_0 : decode cJ2_add_3 0 = .ok (.aload_n 0, 1) := dk_42 (dk_at dksJ2_add_3_0 0 rfl rfl)
theorem dJ2_add_3_1 : decode cJ2_add_3 1 = .ok (.iload_n 1, 1) := dk_27 (dk_at dksJ2_add_3_0 1 rfl rfl)
theorem dJ2_add_3_2 : decode cJ2_add_3 2 = .ok (.invokevirtual 135, 3) := dk_182 0 135 (dk_at dksJ2_add_3_0 2 rfl rfl)
theorem dJ2_add_3_5 : decode cJ2_add_3 5 = .ok (.aload_n 0, 1) := dk_42 (dk_at dksJ2_add_3_0 5 rfl rfl)
theorem dJ2_add_3_6 : decode cJ2_add_3 6 = .ok (.dup, 1) := dk_89 (dk_at dksJ2_add_3_0 6 rfl rfl)
theorem dJ2_add_3_7 : decode cJ2_add_3 7 = .ok (.getfield 63, 3) := dk_180 0 63 (dk_at dksJ2_add_3_0 7 rfl rfl)
theorem dJ2_add_3_10 : decode cJ2_add_3 10 = .ok (.iconst 1, 1) := dk_4 (dk_at dksJ2_add_3_0 10 rfl rfl)
theorem dJ2_add_3_11 : decode cJ2_add_3 11 = .ok (.iadd, 1) := dk_96 (dk_at dksJ2_add_3_0 11 rfl rfl)
theorem dJ2_add_3_12 : decode cJ2_add_3 12 = .ok (.putfield 63, 3) := dk_181 0 63 (dk_at dksJ2_add_3_0 12 rfl rfl)
theorem dJ2_add_3_15 : decode cJ2_add_3 15 = .ok (.aload_n 0, 1) := dk_42 (dk_at dksJ2_add_3_0 15 rfl rfl)
theorem dJ2_add_3_16 : decode cJ2_add_3 16 = .ok (.getfield 48, 3) := dk_180 0 48 (dk_at dksJ2_add_3_0 16 rfl rfl)
theorem dJ2_add_3_19 : decode cJ2_add_3 19 = .ok (.dup, 1) := dk_89 (dk_at dksJ2_add_3_0 19 rfl rfl)
theorem dJ2_add_3_20 : decode cJ2_add_3 20 = .ok (.istore_n 3, 1) := dk_62 (dk_at dksJ2_add_3_0 20 rfl rfl)
theorem dJ2_add_3_21 : decode cJ2_add_3 21 = .ok (.aload_n 0, 1) := dk_42 (dk_at dksJ2_add_3_0 21 rfl rfl)
theorem dJ2_add_3_22 : decode cJ2_add_3 22 = .ok (.getfield 9, 3) := dk_180 0 9 (dk_at dksJ2_add_3_1 0 rfl rfl)
theorem dJ2_add_3_25 : decode cJ2_add_3 25 = .ok (.dup, 1) := dk_89 (dk_at dksJ2_add_3_1 3 rfl rfl)
theorem dJ2_add_3_26 : decode cJ2_add_3 26 = .ok (.astore 4, 2) := dk_58 4 (dk_at dksJ2_add_3_1 4 rfl rfl)
theorem dJ2_add_3_28 : decode cJ2_add_3 28 = .ok (.arraylength, 1) := dk_190 (dk_at dksJ2_add_3_1 6 rfl rfl)
theorem dJ2_add_3_29 : decode cJ2_add_3 29 = .ok (.if_icmp .ne 9, 3) := dk_160 0 9 (dk_at dksJ2_add_3_1 7 rfl rfl)
theorem dJ2_add_3_32 : decode cJ2_add_3 32 = .ok (.aload_n 0, 1) := dk_42 (dk_at dksJ2_add_3_1 10 rfl rfl)
theorem dJ2_add_3_33 : decode cJ2_add_3 33 = .ok (.invokevirtual 129, 3) := dk_182 0 129 (dk_at dksJ2_add_3_1 11 rfl rfl)
theorem dJ2_add_3_36 : decode cJ2_add_3 36 = .ok (.astore 4, 2) := dk_58 4 (dk_at dksJ2_add_3_1 14 rfl rfl)
theorem dJ2_add_3_38 : decode cJ2_add_3 38 = .ok (.aload 4, 2) := dk_25 4 (dk_at dksJ2_add_3_1 16 rfl rfl)
theorem dJ2_add_3_40 : decode cJ2_add_3 40 = .ok (.iload_n 1, 1) := dk_27 (dk_at dksJ2_add_3_1 18 rfl rfl)
theorem dJ2_add_3_41 : decode cJ2_add_3 41 = .ok (.aload 4, 2) := dk_25 4 (dk_at dksJ2_add_3_1 19 rfl rfl)
theorem dJ2_add_3_43 : decode cJ2_add_3 43 = .ok (.iload_n 1, 1) := dk_27 (dk_at dksJ2_add_3_1 21 rfl rfl)
theorem dJ2_add_3_44 : decode cJ2_add_3 44 = .ok (.iconst 1, 1) := dk_4 (dk_at dksJ2_add_3_1 22 rfl rfl)
theorem dJ2_add_3_45 : decode cJ2_add_3 45 = .ok (.iadd, 1) := dk_96 (dk_at dksJ2_add_3_1 23 rfl rfl)
theorem dJ2_add_3_46 : decode cJ2_add_3 46 = .ok (.iload_n 3, 1) := dk_29 (dk_at dksJ2_add_3_2 0 rfl rfl)
theorem dJ2_add_3_47 : decode cJ2_add_3 47 = .ok (.iload_n 1, 1) := dk_27 (dk_at dksJ2_add_3_2 1 rfl rfl)
theorem dJ2_add_3_48 : decode cJ2_add_3 48 = .ok (.isub, 1) := dk_100 (dk_at dksJ2_add_3_2 2 rfl rfl)
theorem dJ2_add_3_49 : decode cJ2_add_3 49 = .ok (.invokestatic 112, 3) := dk_184 0 112 (dk_at dksJ2_add_3_2 3 rfl rfl)
theorem dJ2_add_3_52 : decode cJ2_add_3 52 = .ok (.aload 4, 2) := dk_25 4 (dk_at dksJ2_add_3_2 6 rfl rfl)
theorem dJ2_add_3_54 : decode cJ2_add_3 54 = .ok (.iload_n 1, 1) := dk_27 (dk_at dksJ2_add_3_2 8 rfl rfl)
theorem dJ2_add_3_55 : decode cJ2_add_3 55 = .ok (.aload_n 2, 1) := dk_44 (dk_at dksJ2_add_3_2 9 rfl rfl)
theorem dJ2_add_3_56 : decode cJ2_add_3 56 = .ok (.aastore, 1) := dk_83 (dk_at dksJ2_add_3_2 10 rfl rfl)
theorem dJ2_add_3_57 : decode cJ2_add_3 57 = .ok (.aload_n 0, 1) := dk_42 (dk_at dksJ2_add_3_2 11 rfl rfl)
theorem dJ2_add_3_58 : decode cJ2_add_3 58 = .ok (.iload_n 3, 1) := dk_29 (dk_at dksJ2_add_3_2 12 rfl rfl)
theorem dJ2_add_3_59 : decode cJ2_add_3 59 = .ok (.iconst 1, 1) := dk_4 (dk_at dksJ2_add_3_2 13 rfl rfl)
theorem dJ2_add_3_60 : decode cJ2_add_3 60 = .ok (.iadd, 1) := dk_96 (dk_at dksJ2_add_3_2 14 rfl rfl)
theorem dJ2_add_3_61 : decode cJ2_add_3 61 = .ok (.putfield 48, 3) := dk_181 0 48 (dk_at dksJ2_add_3_2 15 rfl rfl)
theorem dJ2_add_3_64 : decode cJ2_add_3 64 = .ok (.return_, 1) := dk_177 (dk_at dksJ2_add_3_2 18 rfl rfl)
def fJ2_add_3_b38 (e : Nat → Nat) (N : Nat) (m : Mm) (v0 : Option Nat) (v1 : Int32) (v2 : Option Nat) (v3 : Int32) (v4 : Option Nat) : Rs (Unit) := ac_ m v4 v1 v4 (v1 + 1) (v3 - v1) (fun m1 => bk_ m1 v2 [2, 5, 6, 7, 8, 9, 10, 11, 27, 200] (br_ m1 v4 204 v1 v2 (fun m2 => pi_ m2 v0 13 2 (v3 + 1) (fun m3 => rt_ () m3))))
def fJ2_add_3 (e : Nat → Nat) (N : Nat) (m : Mm) (v0 : Option Nat) (v1 : Int32) (v2 : Option Nat) : Rs (Unit) := ck_ m v0 13 (bd_ (fJ2_rangeCheckForAdd e N m v0 v1) (fun _ m1 => gi_ m1 v0 13 0 (fun x1 => pi_ m1 v0 13 0 (x1 + 1) (fun m2 => gi_ m2 v0 13 2 (fun x2 => gr_ m2 v0 13 1 (fun x3 => ln_ m2 x3 204 (fun x4 => if x2 = x4 then (ck_ m2 v0 13 (bd_ (fJ2_grow e N m2 v0) (fun x5 m3 => fJ2_add_3_b38 e N m3 v0 v1 v2 x2 x5))) else (fJ2_add_3_b38 e N m2 v0 v1 v2 x2 x3))))))))
abbrev cX7_compareTo_2 : ByteArray := prog_5_method_2_code
def yX7_compareTo_2 : MethodName := ⟨RX7, "compareTo", "(LMasterTree$Change;)I"⟩
def dkwX7_compareTo_2_1 : List UInt8 := [167, 0, 14, 42, 180, 0, 13, 43, 180, 0, 13, 184, 0, 39, 172]
abbrev dktX7_compareTo_2_1 : List UInt8 := dkwX7_compareTo_2_1 ++ []
def dkwX7_compareTo_2_0 : List UInt8 := [42, 180, 0, 7, 43, 180, 0, 7, 159, 0, 17, 42, 180, 0, 7, 43, 180, 0, 7, 184, 0, 39]
abbrev dktX7_compareTo_2_0 : List UInt8 := dkwX7_compareTo_2_0 ++ dktX7_compareTo_2_1
theorem dksX7_compareTo_2_0 : cX7_compareTo_2.data.toList.drop 0 = dktX7_compareTo_2_0 := by decide +kernel
theorem dksX7_compareTo_2_1 : cX7_compareTo_2.data.toList.drop 22 = dktX7_compareTo_2_1 := dk_seg dksX7_compareTo_2_0 22 rfl rfl
theorem dX7_compareTo_2_0 : decode cX7_compareTo_2 0 = .ok (.aload_n 0, 1) := dk_42 (dk_at dksX7_compareTo_2_0 0 rfl rfl)
theorem dX7_compareTo_2_1 : decode cX7_compareTo_2 1 = .ok (.getfield 7, 3) := dk_180 0 7 (dk_at dksX7_compareTo_2_0 1 rfl rfl)
theorem dX7_compareTo_2_4 : decode cX7_compareTo_2 4 = .ok (.aload_n 1, 1) := dk_43 (dk_at dksX7_compareTo_2_0 4 rfl rfl)
theorem dX7_compareTo_2_5 : decode cX7_compareTo_2 5 = .ok (.getfield 7, 3) := dk_180 0 7 (dk_at dksX7_compareTo_2_0 5 rfl rfl)
theorem dX7_compareTo_2_8 : decode cX7_compareTo_2 8 = .ok (.if_icmp .eq 17, 3) := dk_159 0 17 (dk_at dksX7_compareTo_2_0 8 rfl rfl)
theorem dX7_compareTo_2_11 : decode cX7_compareTo_2 11 = .ok (.aload_n 0, 1) := dk_42 (dk_at dksX7_compareTo_2_0 11 rfl rfl)
theorem dX7_compareTo_2_12 : decode cX7_compareTo_2 12 = .ok (.getfield 7, 3) := dk_180 0 7 (dk_at dksX7_compareTo_2_0 12 rfl rfl)
theorem dX7_compareTo_2_15 : decode cX7_compareTo_2 15 = .ok (.aload_n 1, 1) := dk_43 (dk_at dksX7_compareTo_2_0 15 rfl rfl)
theorem dX7_compareTo_2_16 : decode cX7_compareTo_2 16 = .ok (.getfield 7, 3) := dk_180 0 7 (dk_at dksX7_compareTo_2_0 16 rfl rfl)
theorem dX7_compareTo_2_19 : decode cX7_compareTo_2 19 = .ok (.invokestatic 39, 3) := dk_184 0 39 (dk_at dksX7_compareTo_2_0 19 rfl rfl)
theorem dX7_compareTo_2_22 : decode cX7_compareTo_2 22 = .ok (.goto 14, 3) := dk_167 0 14 (dk_at dksX7_compareTo_2_1 0 rfl rfl)
theorem dX7_compareTo_2_25 : decode cX7_compareTo_2 25 = .ok (.aload_n 0, 1) := dk_42 (dk_at dksX7_compareTo_2_1 3 rfl rfl)
theorem dX7_compareTo_2_26 : decode cX7_compareTo_2 26 = .ok (.getfield 13, 3) := dk_180 0 13 (dk_at dksX7_compareTo_2_1 4 rfl rfl)
theorem dX7_compareTo_2_29 : decode cX7_compareTo_2 29 = .ok (.aload_n 1, 1) := dk_43 (dk_at dksX7_compareTo_2_1 7 rfl rfl)
theorem dX7_compareTo_2_30 : decode cX7_compareTo_2 30 = .ok (.getfield 13, 3) := dk_180 0 13 (dk_at dksX7_compareTo_2_1 8 rfl rfl)
theorem dX7_compareTo_2_33 : decode cX7_compareTo_2 33 = .ok (.invokestatic 39, 3) := dk_184 0 39 (dk_at dksX7_compareTo_2_1 11 rfl rfl)
theorem dX7_compareTo_2_36 : decode cX7_compareTo_2 36 = .ok (.ireturn, 1) := dk_172 (dk_at dksX7_compareTo_2_1 14 rfl rfl)
def fX7_compareTo_2_b36 (e : Nat → Nat) (N : Nat) (m : Mm) (s0 : Int32) : Rs (Int32) := rt_ s0 m
def fX7_compareTo_2 (e : Nat → Nat) (N : Nat) (m : Mm) (v0 : Option Nat) (v1 : Option Nat) : Rs (Int32) := gi_ m v0 7 0 (fun x1 => gi_ m v1 7 0 (fun x2 => if x1 = x2 then (gi_ m v0 7 1 (fun x3 => gi_ m v1 7 1 (fun x4 => bd_ (fJ21_compare e N m x3 x4) (fun x5 m1 => fX7_compareTo_2_b36 e N m1 x5)))) else (gi_ m v0 7 0 (fun x6 => gi_ m v1 7 0 (fun x7 => bd_ (fJ21_compare e N m x6 x7) (fun x8 m2 => fX7_compareTo_2_b36 e N m2 x8))))))
abbrev cX7_comesInto : ByteArray := prog_5_method_3_code
def yX7_comesInto : MethodName := ⟨RX7, "comesInto", "(Ljava/util/List;)V"⟩
def dkwX7_comesInto_1 : List UInt8 := [182, 0, 55, 156, 0, 9, 132, 2, 255, 167, 255, 230, 43, 28, 42, 185, 0, 59, 3, 0, 177]
abbrev dktX7_comesInto_1 : List UInt8 := dkwX7_comesInto_1 ++ []
def dkwX7_comesInto_0 : List UInt8 := [43, 185, 0, 45, 1, 0, 61, 28, 158, 0, 28, 42, 43, 28, 4, 100, 185, 0, 51, 2, 0, 192, 0, 8]
abbrev dktX7_comesInto_0 : List UInt8 := dkwX7_comesInto_0 ++ dktX7_comesInto_1
theorem dksX7_comesInto_0 : cX7_comesInto.data.toList.drop 0 = dktX7_comesInto_0 := by decide +kernel
theorem dksX7_comesInto_1 : cX7_comesInto.data.toList.drop 24 = dktX7_comesInto_1 := dk_seg dksX7_comesInto_0 24 rfl rfl
theorem dX7_comesInto_0 : decode cX7_comesInto 0 = .ok (.aload_n 1, 1) := dk_43 (dk_at dksX7_comesInto_0 0 rfl rfl)
theorem dX7_comesInto_1 : decode cX7_comesInto 1 = .ok (.invokeinterface 45 1, 5) := by decide +kernel
theorem dX7_comesInto_6 : decode cX7_comesInto 6 = .ok (.istore_n 2, 1) := dk_61 (dk_at dksX7_comesInto_0 6 rfl rfl)
theorem dX7_comesInto_7 : decode cX7_comesInto 7 = .ok (.iload_n 2, 1) := dk_28 (dk_at dksX7_comesInto_0 7 rfl rfl)
theorem dX7_comesInto_8 : decode cX7_comesInto 8 = .ok (.ifCond .le 28, 3) := dk_158 0 28 (dk_at dksX7_comesInto_0 8 rfl rfl)
theorem dX7_comesInto_11 : decode cX7_comesInto 11 = .ok (.aload_n 0, 1) := dk_42 (dk_at dksX7_comesInto_0 11 rfl rfl)
theorem dX7_comesInto_12 : decode cX7_comesInto 12 = .ok (.aload_n 1, 1) := dk_43 (dk_at dksX7_comesInto_0 12 rfl rfl)
theorem dX7_comesInto_13 : decode cX7_comesInto 13 = .ok (.iload_n 2, 1) := dk_28 (dk_at dksX7_comesInto_0 13 rfl rfl)
theorem dX7_comesInto_14 : decode cX7_comesInto 14 = .ok (.iconst 1, 1) := dk_4 (dk_at dksX7_comesInto_0 14 rfl rfl)
theorem dX7_comesInto_15 : decode cX7_comesInto 15 = .ok (.isub, 1) := dk_100 (dk_at dksX7_comesInto_0 15 rfl rfl)
theorem dX7_comesInto_16 : decode cX7_comesInto 16 = .ok (.invokeinterface 51 2, 5) := by decide +kernel
theorem dX7_comesInto_21 : decode cX7_comesInto 21 = .ok (.checkcast 8, 3) := dk_192 0 8 (dk_at dksX7_comesInto_0 21 rfl rfl)
theorem dX7_comesInto_24 : decode cX7_comesInto 24 = .ok (.invokevirtual 55, 3) := dk_182 0 55 (dk_at dksX7_comesInto_1 0 rfl rfl)
theorem dX7_comesInto_27 : decode cX7_comesInto 27 = .ok (.ifCond .ge 9, 3) := dk_156 0 9 (dk_at dksX7_comesInto_1 3 rfl rfl)
theorem dX7_comesInto_30 : decode cX7_comesInto 30 = .ok (.iinc 2 (-1), 3) := dk_132 2 255 (dk_at dksX7_comesInto_1 6 rfl rfl)
theorem dX7_comesInto_33 : decode cX7_comesInto 33 = .ok (.goto (-26), 3) := dk_167 255 230 (dk_at dksX7_comesInto_1 9 rfl rfl)
theorem dX7_comesInto_36 : decode cX7_comesInto 36 = .ok (.aload_n 1, 1) := dk_43 (dk_at dksX7_comesInto_1 12 rfl rfl)
theorem dX7_comesInto_37 : decode cX7_comesInto 37 = .ok (.iload_n 2, 1) := dk_28 (dk_at dksX7_comesInto_1 13 rfl rfl)
theorem dX7_comesInto_38 : decode cX7_comesInto 38 = .ok (.aload_n 0, 1) := dk_42 (dk_at dksX7_comesInto_1 14 rfl rfl)
theorem dX7_comesInto_39 : decode cX7_comesInto 39 = .ok (.invokeinterface 59 3, 5) := by decide +kernel
theorem dX7_comesInto_44 : decode cX7_comesInto 44 = .ok (.return_, 1) := dk_177 (dk_at dksX7_comesInto_1 20 rfl rfl)
def fX7_comesInto_b36 (e : Nat → Nat) (N : Nat) (m : Mm) (v0 : Option Nat) (v1 : Option Nat) (v2 : Int32) : Rs (Unit) := ck_ m v1 13 (bd_ (fJ2_add_3 e N m v1 v2 v0) (fun _ m1 => rt_ () m1))
def fX7_comesInto_b7 (e : Nat → Nat) (N : Nat) : Nat → Mm → Option Nat → Option Nat → Int32 → Rs (Unit)
  | 0, _, _, _, _ => none
  | F + 1, m, v0, v1, v2 => if 0 < v2 then (ck_ m v1 13 (bd_ (fJ2_get e N m v1 (v2 - 1)) (fun x1 m1 => cc_ m1 x1 [7] (ck_ m1 v0 7 (bd_ (fX7_compareTo_2 e N m1 v0 x1) (fun x2 m2 => if x2 < 0 then (fX7_comesInto_b7 e N F m2 v0 v1 (v2 + (-1))) else (fX7_comesInto_b36 e N m2 v0 v1 v2))))))) else (fX7_comesInto_b36 e N m v0 v1 v2)
def fX7_comesInto (e : Nat → Nat) (N : Nat) (m : Mm) (v0 : Option Nat) (v1 : Option Nat) : Rs (Unit) := ck_ m v1 13 (bd_ (fJ2_size e N m v1) (fun x1 m1 => fX7_comesInto_b7 e N N m1 v0 v1 x1))
abbrev cX5_key : ByteArray := prog_2_method_2_code
def yX5_key : MethodName := ⟨RX5, "key", "(I)I"⟩
def dkwX5_key_0 : List UInt8 := [42, 180, 0, 13, 153, 0, 10, 27, 16, 10, 108, 167, 0, 4, 27, 172]
abbrev dktX5_key_0 : List UInt8 := dkwX5_key_0 ++ []
theorem dksX5_key_0 : cX5_key.data.toList.drop 0 = dktX5_key_0 := by decide +kernel
theorem dX5_key_0 : decode cX5_key 0 = .ok (.aload_n 0, 1) := dk_42 (dk_at dksX5_key_0 0 rfl rfl)
theorem dX5_key_1 : decode cX5_key 1 = .ok (.getfield 13, 3) := dk_180 0 13 (dk_at dksX5_key_0 1 rfl rfl)
theorem dX5_key_4 : decode cX5_key 4 = .ok (.ifCond .eq 10, 3) := dk_153 0 10 (dk_at dksX5_key_0 4 rfl rfl)
theorem dX5_key_7 : decode cX5_key 7 = .ok (.iload_n 1, 1) := dk_27 (dk_at dksX5_key_0 7 rfl rfl)
theorem dX5_key_8 : decode cX5_key 8 = .ok (.bipush 10, 2) := dk_16 10 (dk_at dksX5_key_0 8 rfl rfl)
theorem dX5_key_10 : decode cX5_key 10 = .ok (.idiv, 1) := dk_108 (dk_at dksX5_key_0 10 rfl rfl)
theorem dX5_key_11 : decode cX5_key 11 = .ok (.goto 4, 3) := dk_167 0 4 (dk_at dksX5_key_0 11 rfl rfl)
theorem dX5_key_14 : decode cX5_key 14 = .ok (.iload_n 1, 1) := dk_27 (dk_at dksX5_key_0 14 rfl rfl)
theorem dX5_key_15 : decode cX5_key 15 = .ok (.ireturn, 1) := dk_172 (dk_at dksX5_key_0 15 rfl rfl)
def fX5_key_b15 (e : Nat → Nat) (N : Nat) (m : Mm) (s0 : Int32) : Rs (Int32) := rt_ s0 m
def fX5_key (e : Nat → Nat) (N : Nat) (m : Mm) (v0 : Option Nat) (v1 : Int32) : Rs (Int32) := gi_ m v0 5 1 (fun x1 => if x1 = 0 then (fX5_key_b15 e N m v1) else (fX5_key_b15 e N m (v1 / 10)))
theorem wJ4_addEntryToEmptyMap {l : Launch} {g : GG} {E : Me_} (C : Cx_ l g E "java/util/TreeMap" cJ4_addEntryToEmptyMap 3 14) (hret : (eT_ E).sig.returnType = (Option.none : Option Jvm.ClassFile.FieldType)) (h0 : ∀ x ∈ (eC_ E).exceptionTable.toList, False) (hin : (eT_ E).name = "addEntryToEmptyMap") (N : Nat) : ∀ (m : Mm) (v0 : Option Nat) (v1 : Option Nat) (v2 : Option Nat) (k n : Nat), Sm_ l g E 3 en_v (fJ4_addEntryToEmptyMap (gE_ g) N m v0 v1 v2) k n 0 [(0, vr_ v0), (1, vr_ v1), (2, vr_ v2)] [] m := by
  intro m v0 v1 v2 k n
  unfold fJ4_addEntryToEmptyMap
  refine s_aload_n C rfl 0 rfl dJ4_addEntryToEmptyMap_0 1 rfl ?_
  refine s_aload_n C rfl 1 rfl dJ4_addEntryToEmptyMap_1 2 rfl ?_
  refine s_aload_n C rfl 1 rfl dJ4_addEntryToEmptyMap_2 3 rfl ?_
  refine x_ck (fun hb_ hb0_ => ?_)
  refine x_callV (enc := en_i) C 13 2 [vr_ v1, vr_ v1] 15 (ctJ4_compare C.2.2.2.2.2.2.2.2.1 N m v0 v1 v1) hb_ hb0_ rfl rfl q1038 q1039 q1040 q87 q1041 hdJ4_compare (Nat.le_of_ble_eq_true rfl) (Nat.le_of_ble_eq_true rfl) rfl (Nat.le_of_ble_eq_true rfl) dJ4_addEntryToEmptyMap_3 6 rfl rfl hen_i (kk_i (fun x1 m1 k1 n1 => ?_)) (kx_n he_i)
  refine s_pop C rfl dJ4_addEntryToEmptyMap_6 7 rfl ?_
  refine s_aload_n C rfl 0 rfl dJ4_addEntryToEmptyMap_7 8 rfl ?_
  refine x_nw C 15 (RJ37, TJ37, 6) rfl q1885 q1886 q130 16 6 rfl rfl dJ4_addEntryToEmptyMap_8 11 rfl (fun x2 m2 => ?_)
  refine s_dup C rfl dJ4_addEntryToEmptyMap_11 12 rfl ?_
  refine s_aload_n C rfl 1 rfl dJ4_addEntryToEmptyMap_12 13 rfl ?_
  refine s_aload_n C rfl 2 rfl dJ4_addEntryToEmptyMap_13 14 rfl ?_
  refine s_null C dJ4_addEntryToEmptyMap_14 15 rfl ?_
  refine x_callI (enc := en_v) C 10 3 [vr_ v1, vr_ v2, vr_ none] (ctJ37_init C.2.2.2.2.2.2.2.2.1 N m2 (some x2) v1 v2 none) (fun h => by cases h) rfl q1887 q1888 q130 q1889 rfl hdJ37_init (Nat.le_of_ble_eq_true rfl) (Nat.le_of_ble_eq_true rfl) rfl (Nat.le_of_ble_eq_true rfl) dJ4_addEntryToEmptyMap_15 18 rfl rfl hen_v (kk_v (fun m3 k1 n1 => ?_)) (kx_n he_v)
  refine x_pr C 14 (RJ4, TJ4, 9) rfl 3 (Nat.le_of_ble_eq_true rfl) rfl q205 (Or.inl rfl) rfl trivial 15 rfl dJ4_addEntryToEmptyMap_18 21 rfl (fun m4 => ?_)
  refine s_aload_n C rfl 0 rfl dJ4_addEntryToEmptyMap_21 22 rfl ?_
  refine s_iconst C 1 rfl dJ4_addEntryToEmptyMap_22 23 rfl ?_
  refine x_pi C 14 (RJ4, TJ4, 9) rfl 4 (Nat.le_of_ble_eq_true rfl) rfl q206 (Or.inl rfl) rfl trivial 15 rfl dJ4_addEntryToEmptyMap_23 26 rfl (fun m5 => ?_)
  refine s_aload_n C rfl 0 rfl dJ4_addEntryToEmptyMap_26 27 rfl ?_
  refine s_dup C rfl dJ4_addEntryToEmptyMap_27 28 rfl ?_
  refine x_gi C 14 (RJ4, TJ4, 9) rfl 5 (Nat.le_of_ble_eq_true rfl) q207 (Or.inl rfl) rfl 15 rfl dJ4_addEntryToEmptyMap_28 31 rfl (fun x3 => ?_)
  refine s_iconst C 1 rfl dJ4_addEntryToEmptyMap_31 32 rfl ?_
  refine s_iadd C dJ4_addEntryToEmptyMap_32 33 rfl ?_
  refine x_pi C 14 (RJ4, TJ4, 9) rfl 5 (Nat.le_of_ble_eq_true rfl) rfl q207 (Or.inl rfl) rfl trivial 15 rfl dJ4_addEntryToEmptyMap_33 36 rfl (fun m6 => ?_)
  exact x_vret C hret rfl dJ4_addEntryToEmptyMap_36
theorem hdJ4_addEntryToEmptyMap : ((⟨"java/util/TreeMap", "addEntryToEmptyMap", "(Ljava/lang/Object;Ljava/lang/Object;)V"⟩ : MethodName)).cls ≠ "java/lang/invoke/MethodHandle" ∧ ((⟨"java/util/TreeMap", "addEntryToEmptyMap", "(Ljava/lang/Object;Ljava/lang/Object;)V"⟩ : MethodName)).cls ≠ "java/lang/invoke/VarHandle" ∧ (parseMethodDescriptor ((⟨"java/util/TreeMap", "addEntryToEmptyMap", "(Ljava/lang/Object;Ljava/lang/Object;)V"⟩ : MethodName)).desc).map (fun d => d.parameters.length) = some 2 := ⟨by decide +kernel, by decide +kernel, by decide +kernel⟩
theorem ctJ4_addEntryToEmptyMap {l : Launch} {g : GG} (hst : l.stackTraces = false) (N : Nat) (m : Mm) (v0 : Option Nat) (v1 : Option Nat) (v2 : Option Nat) : ∀ v m' k n, fJ4_addEntryToEmptyMap (gE_ g) N m v0 v1 v2 = some (v, m', k, n) → Ct_ l g (⟨"java/util/TreeMap", "addEntryToEmptyMap", "(Ljava/lang/Object;Ljava/lang/Object;)V"⟩ : MethodName) (ws_ (⟨"java/util/TreeMap", "addEntryToEmptyMap", "(Ljava/lang/Object;Ljava/lang/Object;)V"⟩ : MethodName) cJ4_addEntryToEmptyMap 3 (Option.none : Option Jvm.ClassFile.FieldType)) 14 [vr_ v0, vr_ v1, vr_ v2] m (en_v v) m' k n :=
  Ct_of (by decide +kernel) rfl hst (Nat.le_of_ble_eq_true rfl) rfl (fun E C hret h0 hin => wJ4_addEntryToEmptyMap C hret h0 hin N m v0 v1 v2 0 0)
theorem wJ23_requireNonNull {l : Launch} {g : GG} {E : Me_} (C : Cx_ l g E "java/util/Objects" cJ23_requireNonNull 1 10) (hret : (eT_ E).sig.returnType = (Option.some (Jvm.ClassFile.FieldType.object "java/lang/Object"))) (h0 : ∀ x ∈ (eC_ E).exceptionTable.toList, False) (hin : (eT_ E).name = "requireNonNull") (N : Nat) : ∀ (m : Mm) (v0 : Option Nat) (k n : Nat), Sm_ l g E 1 en_r (fJ23_requireNonNull (gE_ g) N m v0) k n 0 [(0, vr_ v0)] [] m := by
  intro m v0 k n
  unfold fJ23_requireNonNull
  refine s_aload_n C rfl 0 rfl dJ23_requireNonNull_0 1 rfl ?_
  refine s_ifnonnull C dJ23_requireNonNull_1 12 rfl 4 rfl (fun c_ => ?_) (fun c_ => ?_)
  · exact Sm_none
  · refine s_aload_n C rfl 0 rfl dJ23_requireNonNull_12 13 rfl ?_
    exact x_aret C hret (Or.inl ⟨_, rfl⟩) rfl dJ23_requireNonNull_13
theorem hdJ23_requireNonNull : ((⟨"java/util/Objects", "requireNonNull", "(Ljava/lang/Object;)Ljava/lang/Object;"⟩ : MethodName)).cls ≠ "java/lang/invoke/MethodHandle" ∧ ((⟨"java/util/Objects", "requireNonNull", "(Ljava/lang/Object;)Ljava/lang/Object;"⟩ : MethodName)).cls ≠ "java/lang/invoke/VarHandle" ∧ (parseMethodDescriptor ((⟨"java/util/Objects", "requireNonNull", "(Ljava/lang/Object;)Ljava/lang/Object;"⟩ : MethodName)).desc).map (fun d => d.parameters.length) = some 1 := ⟨by decide +kernel, by decide +kernel, by decide +kernel⟩
theorem ctJ23_requireNonNull {l : Launch} {g : GG} (hst : l.stackTraces = false) (N : Nat) (m : Mm) (v0 : Option Nat) : ∀ v m' k n, fJ23_requireNonNull (gE_ g) N m v0 = some (v, m', k, n) → Ct_ l g (⟨"java/util/Objects", "requireNonNull", "(Ljava/lang/Object;)Ljava/lang/Object;"⟩ : MethodName) (ws_ (⟨"java/util/Objects", "requireNonNull", "(Ljava/lang/Object;)Ljava/lang/Object;"⟩ : MethodName) cJ23_requireNonNull 1 (Option.some (Jvm.ClassFile.FieldType.object "java/lang/Object"))) 10 [vr_ v0] m (en_r v) m' k n :=
  Ct_of (by decide +kernel) rfl hst (Nat.le_of_ble_eq_true rfl) rfl (fun E C hret h0 hin => wJ23_requireNonNull C hret h0 hin N m v0 0 0)
theorem wJ4_put_2_b193 {l : Launch} {g : GG} {E : Me_} (C : Cx_ l g E "java/util/TreeMap" cJ4_put_2 10 15) (hret : (eT_ E).sig.returnType = (Option.some (Jvm.ClassFile.FieldType.object "java/lang/Object"))) (h0 : ∀ x ∈ (eC_ E).exceptionTable.toList, False) (hin : (eT_ E).name = "put") (N : Nat) : ∀ (m : Mm) (v9 : Option Nat) (k n : Nat), Sm_ l g E 10 en_r (fJ4_put_2_b193 (gE_ g) N m v9) k n 193 [(9, vr_ v9)] [] m := by
  intro m v9 k n
  unfold fJ4_put_2_b193
  refine s_aload C 0 rfl dJ4_put_2_193 195 rfl ?_
  exact x_aret C hret (Or.inl ⟨_, rfl⟩) rfl dJ4_put_2_195
theorem wJ4_put_2_b187 {l : Launch} {g : GG} {E : Me_} (C : Cx_ l g E "java/util/TreeMap" cJ4_put_2 10 15) (hret : (eT_ E).sig.returnType = (Option.some (Jvm.ClassFile.FieldType.object "java/lang/Object"))) (h0 : ∀ x ∈ (eC_ E).exceptionTable.toList, False) (hin : (eT_ E).name = "put") (N : Nat) : ∀ (m : Mm) (v2 : Option Nat) (v4 : Option Nat) (v9 : Option Nat) (k n : Nat), Sm_ l g E 10 en_r (fJ4_put_2_b187 (gE_ g) N m v2 v4 v9) k n 187 [(2, vr_ v2), (4, vr_ v4), (9, vr_ v9)] [] m := by
  intro m v2 v4 v9 k n
  unfold fJ4_put_2_b187
  refine s_aload C 1 rfl dJ4_put_2_187 189 rfl ?_
  refine s_aload_n C rfl 0 rfl dJ4_put_2_189 190 rfl ?_
  refine x_pr C 15 (RJ37, TJ37, 6) rfl 1 (Nat.le_of_ble_eq_true rfl) rfl q1900 (Or.inl rfl) rfl trivial 16 rfl dJ4_put_2_190 193 rfl (fun m1 => ?_)
  refine Sm_sub [2] rfl ?_
  exact wJ4_put_2_b193 C hret h0 hin N _ _ _ _
theorem wJ4_put_2_b216 {l : Launch} {g : GG} {E : Me_} (C : Cx_ l g E "java/util/TreeMap" cJ4_put_2 10 15) (hret : (eT_ E).sig.returnType = (Option.some (Jvm.ClassFile.FieldType.object "java/lang/Object"))) (h0 : ∀ x ∈ (eC_ E).exceptionTable.toList, False) (hin : (eT_ E).name = "put") (N : Nat) : ∀ (m : Mm) (s0 : Option Nat) (s1 : Option Nat) (s2 : Option Nat) (s3 : Option Nat) (s4 : Int32) (k n : Nat), Sm_ l g E 10 en_r (fJ4_put_2_b216 (gE_ g) N m s0 s1 s2 s3 s4) k n 216 [] [vi_ s4, vr_ s3, vr_ s2, vr_ s1, vr_ s0] m := by
  intro m s0 s1 s2 s3 s4 k n
  unfold fJ4_put_2_b216
  refine x_ck (fun hb_ hb0_ => ?_)
  refine x_callV (enc := en_v) C 12 4 [vr_ s1, vr_ s2, vr_ s3, vi_ s4] 15 (ctJ4_addEntry C.2.2.2.2.2.2.2.2.1 N m s0 s1 s2 s3 s4) hb_ hb0_ rfl rfl q1924 q1926 qs17 q87 q1927 hdJ4_addEntry (Nat.le_of_ble_eq_true rfl) (Nat.le_of_ble_eq_true rfl) rfl (Nat.le_of_ble_eq_true rfl) dJ4_put_2_216 219 rfl rfl hen_v (kk_v (fun m1 k1 n1 => ?_)) (kx_n he_v)
  refine s_null C dJ4_put_2_219 220 rfl ?_
  exact x_aret C hret (Or.inl ⟨_, rfl⟩) rfl dJ4_put_2_220
theorem wJ4_put_2_b196 {l : Launch} {g : GG} {E : Me_} (C : Cx_ l g E "java/util/TreeMap" cJ4_put_2 10 15) (hret : (eT_ E).sig.returnType = (Option.some (Jvm.ClassFile.FieldType.object "java/lang/Object"))) (h0 : ∀ x ∈ (eC_ E).exceptionTable.toList, False) (hin : (eT_ E).name = "put") (N : Nat) {k123 : Mm → Option Nat → Option Nat → Option Nat → Int32 → Option Nat → Option Nat → Rs (Option Nat)} (hk123 : ∀ (m : Mm) (v0 : Option Nat) (v1 : Option Nat) (v2 : Option Nat) (v3 : Int32) (v4 : Option Nat) (v8 : Option Nat) (k n : Nat), Sm_ l g E 10 en_r (k123 m v0 v1 v2 v3 v4 v8) k n 123 [(0, vr_ v0), (1, vr_ v1), (2, vr_ v2), (3, vi_ v3), (4, vr_ v4), (8, vr_ v8)] [] m) : ∀ (m : Mm) (v0 : Option Nat) (v1 : Option Nat) (v2 : Option Nat) (v3 : Int32) (v4 : Option Nat) (v5 : Int32) (v6 : Option Nat) (v8 : Option Nat) (k n : Nat), Sm_ l g E 10 en_r (fJ4_put_2_b196 (gE_ g) N k123 m v0 v1 v2 v3 v4 v5 v6 v8) k n 196 [(0, vr_ v0), (1, vr_ v1), (2, vr_ v2), (3, vi_ v3), (4, vr_ v4), (5, vi_ v5), (6, vr_ v6), (8, vr_ v8)] [] m := by
  intro m v0 v1 v2 v3 v4 v5 v6 v8 k n
  unfold fJ4_put_2_b196
  refine s_aload C 4 rfl dJ4_put_2_196 198 rfl ?_
  refine s_ifnonnull C dJ4_put_2_198 123 rfl 201 rfl (fun c_ => ?_) (fun c_ => ?_)
  · refine s_aload_n C rfl 0 rfl dJ4_put_2_201 202 rfl ?_
    refine s_aload_n C rfl 1 rfl dJ4_put_2_202 203 rfl ?_
    refine s_aload_n C rfl 2 rfl dJ4_put_2_203 204 rfl ?_
    refine s_aload C 6 rfl dJ4_put_2_204 206 rfl ?_
    refine s_iload C 5 rfl dJ4_put_2_206 208 rfl ?_
    refine s_if_ge C dJ4_put_2_208 215 rfl 211 rfl (fun c_ => ?_) (fun c_ => ?_)
    · refine s_iconst C 1 rfl dJ4_put_2_211 212 rfl ?_
      refine s_goto C (off := 4) 216 dJ4_put_2_212 rfl ?_
      refine Sm_sub [] rfl ?_
      exact wJ4_put_2_b216 C hret h0 hin N _ _ _ _ _ _ _ _
    · refine s_iconst C 0 rfl dJ4_put_2_215 216 rfl ?_
      refine Sm_sub [] rfl ?_
      exact wJ4_put_2_b216 C hret h0 hin N _ _ _ _ _ _ _ _
  · refine Sm_sub [0, 1, 2, 3, 4, 7] rfl ?_
    exact hk123 _ _ _ _ _ _ _ _ _
theorem wJ4_put_2_b123 {l : Launch} {g : GG} {E : Me_} (C : Cx_ l g E "java/util/TreeMap" cJ4_put_2 10 15) (hret : (eT_ E).sig.returnType = (Option.some (Jvm.ClassFile.FieldType.object "java/lang/Object"))) (h0 : ∀ x ∈ (eC_ E).exceptionTable.toList, False) (hin : (eT_ E).name = "put") (N : Nat) : ∀ (F : Nat) (m : Mm) (v0 : Option Nat) (v1 : Option Nat) (v2 : Option Nat) (v3 : Int32) (v4 : Option Nat) (v8 : Option Nat) (k n : Nat), Sm_ l g E 10 en_r (fJ4_put_2_b123 (gE_ g) N F m v0 v1 v2 v3 v4 v8) k n 123 [(0, vr_ v0), (1, vr_ v1), (2, vr_ v2), (3, vi_ v3), (4, vr_ v4), (8, vr_ v8)] [] m := by
  intro F
  induction F with
  | zero => intros; exact Sm_none
  | succ F ih =>
    intro m v0 v1 v2 v3 v4 v8 k n
    unfold fJ4_put_2_b123
    refine s_aload C 4 rfl dJ4_put_2_123 125 rfl ?_
    refine s_astore C (Nat.le_of_ble_eq_true rfl) [0, 1, 2, 3, 4, 5] rfl rfl dJ4_put_2_125 127 rfl ?_
    refine s_aload C 6 rfl dJ4_put_2_127 129 rfl ?_
    refine s_aload C 5 rfl dJ4_put_2_129 131 rfl ?_
    refine x_gr C 15 (RJ37, TJ37, 6) rfl 0 (Nat.le_of_ble_eq_true rfl) q1897 (Or.inl rfl) rfl 16 rfl dJ4_put_2_131 134 rfl (fun x1 => ?_)
    refine x_ck (fun hb_ hb0_ => ?_)
    refine x_callF (enc := en_i) C 12 1 [vr_ x1] 27 (ctJ21_compareTo C.2.2.2.2.2.2.2.2.1 N m v8 x1) hb_ hb0_ rfl rfl rfl fw_6 q1044 q1120 q1122 q108 q1124 hx7 (Nat.le_of_ble_eq_true rfl) (Nat.le_of_ble_eq_true rfl) rfl (Nat.le_of_ble_eq_true rfl) dJ4_put_2_134 139 rfl rfl hen_i (kk_i (fun x2 m1 k1 n1 => ?_)) (kx_n he_i)
    refine s_istore C (Nat.le_of_ble_eq_true rfl) [0, 1, 2, 3, 4, 5, 6] rfl rfl dJ4_put_2_139 141 rfl ?_
    refine s_iload C 0 rfl dJ4_put_2_141 143 rfl ?_
    refine s_if_ge C dJ4_put_2_143 156 rfl 146 rfl (fun c_ => ?_) (fun c_ => ?_)
    · refine s_aload C 6 rfl dJ4_put_2_146 148 rfl ?_
      refine x_gr C 15 (RJ37, TJ37, 6) rfl 2 (Nat.le_of_ble_eq_true rfl) q1903 (Or.inl rfl) rfl 16 rfl dJ4_put_2_148 151 rfl (fun x3 => ?_)
      refine s_astore C (Nat.le_of_ble_eq_true rfl) [0, 1, 2, 3, 4, 5, 7] rfl rfl dJ4_put_2_151 153 rfl ?_
      refine s_goto C (off := 43) 196 dJ4_put_2_153 rfl ?_
      refine Sm_sub [3, 4, 5, 6, 0, 1, 2, 7] rfl ?_
      exact wJ4_put_2_b196 C hret h0 hin N (fun m v0 v1 v2 v3 v4 v8 k n => ih m v0 v1 v2 v3 v4 v8 k n) _ _ _ _ _ _ _ _ _ _ _
    · refine s_iload C 0 rfl dJ4_put_2_156 158 rfl ?_
      refine s_if_le C dJ4_put_2_158 171 rfl 161 rfl (fun c_ => ?_) (fun c_ => ?_)
      · refine s_aload C 6 rfl dJ4_put_2_161 163 rfl ?_
        refine x_gr C 15 (RJ37, TJ37, 6) rfl 3 (Nat.le_of_ble_eq_true rfl) q1906 (Or.inl rfl) rfl 16 rfl dJ4_put_2_163 166 rfl (fun x4 => ?_)
        refine s_astore C (Nat.le_of_ble_eq_true rfl) [0, 1, 2, 3, 4, 5, 7] rfl rfl dJ4_put_2_166 168 rfl ?_
        refine s_goto C (off := 28) 196 dJ4_put_2_168 rfl ?_
        refine Sm_sub [3, 4, 5, 6, 0, 1, 2, 7] rfl ?_
        exact wJ4_put_2_b196 C hret h0 hin N (fun m v0 v1 v2 v3 v4 v8 k n => ih m v0 v1 v2 v3 v4 v8 k n) _ _ _ _ _ _ _ _ _ _ _
      · refine s_aload C 6 rfl dJ4_put_2_171 173 rfl ?_
        refine x_gr C 15 (RJ37, TJ37, 6) rfl 1 (Nat.le_of_ble_eq_true rfl) q1900 (Or.inl rfl) rfl 16 rfl dJ4_put_2_173 176 rfl (fun x5 => ?_)
        refine s_astore C (Nat.le_of_ble_eq_true rfl) [4, 5, 6] rfl rfl dJ4_put_2_176 178 rfl ?_
        refine s_iload_n C rfl 2 rfl dJ4_put_2_178 179 rfl ?_
        refine s_if_ne C dJ4_put_2_179 187 rfl 182 rfl (fun c_ => ?_) (fun c_ => ?_)
        · refine s_aload C 0 rfl dJ4_put_2_182 184 rfl ?_
          refine s_ifnonnull C dJ4_put_2_184 193 rfl 187 rfl (fun c_ => ?_) (fun c_ => ?_)
          · refine Sm_sub [1, 3, 0] rfl ?_
            exact wJ4_put_2_b187 C hret h0 hin N _ _ _ _ _ _
          · refine Sm_sub [0] rfl ?_
            exact wJ4_put_2_b193 C hret h0 hin N _ _ _ _
        · refine Sm_sub [1, 3, 0] rfl ?_
          exact wJ4_put_2_b187 C hret h0 hin N _ _ _ _ _ _
theorem wJ4_put_2 {l : Launch} {g : GG} {E : Me_} (C : Cx_ l g E "java/util/TreeMap" cJ4_put_2 10 15) (hret : (eT_ E).sig.returnType = (Option.some (Jvm.ClassFile.FieldType.object "java/lang/Object"))) (h0 : ∀ x ∈ (eC_ E).exceptionTable.toList, False) (hin : (eT_ E).name = "put") (N : Nat) : ∀ (m : Mm) (v0 : Option Nat) (v1 : Option Nat) (v2 : Option Nat) (v3 : Int32) (k n : Nat), Sm_ l g E 10 en_r (fJ4_put_2 (gE_ g) N m v0 v1 v2 v3) k n 0 [(0, vr_ v0), (1, vr_ v1), (2, vr_ v2), (3, vi_ v3)] [] m := by
  intro m v0 v1 v2 v3 k n
  unfold fJ4_put_2
  refine s_aload_n C rfl 0 rfl dJ4_put_2_0 1 rfl ?_
  refine x_gr C 14 (RJ4, TJ4, 9) rfl 3 (Nat.le_of_ble_eq_true rfl) q205 (Or.inl rfl) rfl 15 rfl dJ4_put_2_1 4 rfl (fun x1 => ?_)
  refine s_astore C (Nat.le_of_ble_eq_true rfl) [0, 1, 2, 3] rfl rfl dJ4_put_2_4 6 rfl ?_
  refine s_aload C 0 rfl dJ4_put_2_6 8 rfl ?_
  refine s_ifnonnull C dJ4_put_2_8 19 rfl 11 rfl (fun c_ => ?_) (fun c_ => ?_)
  · refine s_aload_n C rfl 1 rfl dJ4_put_2_11 12 rfl ?_
    refine s_aload_n C rfl 2 rfl dJ4_put_2_12 13 rfl ?_
    refine s_aload_n C rfl 3 rfl dJ4_put_2_13 14 rfl ?_
    refine x_ck (fun hb_ hb0_ => ?_)
    refine x_callV (enc := en_v) C 14 2 [vr_ v1, vr_ v2] 15 (ctJ4_addEntryToEmptyMap C.2.2.2.2.2.2.2.2.1 N m v0 v1 v2) hb_ hb0_ rfl rfl q1881 q1883 qs16 q87 q1884 hdJ4_addEntryToEmptyMap (Nat.le_of_ble_eq_true rfl) (Nat.le_of_ble_eq_true rfl) rfl (Nat.le_of_ble_eq_true rfl) dJ4_put_2_14 17 rfl rfl hen_v (kk_v (fun m1 k1 n1 => ?_)) (kx_n he_v)
    refine s_null C dJ4_put_2_17 18 rfl ?_
    exact x_aret C hret (Or.inl ⟨_, rfl⟩) rfl dJ4_put_2_18
  · refine s_aload_n C rfl 1 rfl dJ4_put_2_19 20 rfl ?_
    refine x_gr C 14 (RJ4, TJ4, 9) rfl 2 (Nat.le_of_ble_eq_true rfl) q204 (Or.inl rfl) rfl 15 rfl dJ4_put_2_20 23 rfl (fun x2 => ?_)
    refine s_astore C (Nat.le_of_ble_eq_true rfl) [0, 1, 2, 3, 4] rfl rfl dJ4_put_2_23 25 rfl ?_
    refine s_aload C 0 rfl dJ4_put_2_25 27 rfl ?_
    refine s_ifnull C dJ4_put_2_27 112 rfl 30 rfl (fun c_ => ?_) (fun c_ => ?_)
    · refine s_aload_n C rfl 3 rfl dJ4_put_2_112 113 rfl ?_
      refine x_callS (enc := en_r) C 10 1 [vr_ v1] (ctJ23_requireNonNull C.2.2.2.2.2.2.2.2.1 N m v1) q1650 q1651 q110 q1652 hdJ23_requireNonNull (Nat.le_of_ble_eq_true rfl) (Nat.le_of_ble_eq_true rfl) rfl (Nat.le_of_ble_eq_true rfl) dJ4_put_2_113 116 rfl rfl hen_r (kk_r (fun x3 m2 k1 n1 => ?_)) (kx_n he_r)
      refine s_pop C rfl dJ4_put_2_116 117 rfl ?_
      refine s_aload_n C rfl 3 rfl dJ4_put_2_117 118 rfl ?_
      refine x_cc C "java/lang/Comparable" [27] (fun k hk => by rw [List.mem_singleton.mp hk]; exact ⟨rfl, Or.inl q1119⟩) q1042 dJ4_put_2_118 121 rfl ?_
      refine s_astore C (Nat.le_of_ble_eq_true rfl) [1, 2, 3, 4, 5] rfl rfl dJ4_put_2_121 123 rfl ?_
      refine Sm_sub [2, 3, 4, 5, 1, 0] rfl ?_
      exact wJ4_put_2_b123 C hret h0 hin N N _ _ _ _ _ _ _ _ _
    · refine s_aload C 1 rfl dJ4_put_2_30 32 rfl ?_
      refine s_astore C (Nat.le_of_ble_eq_true rfl) [0, 1, 3] rfl rfl dJ4_put_2_32 34 rfl ?_
      refine s_aload C 1 rfl dJ4_put_2_34 36 rfl ?_
      refine s_aload_n C rfl 3 rfl dJ4_put_2_36 37 rfl ?_
      refine s_aload C 2 rfl dJ4_put_2_37 39 rfl ?_
      refine x_gr C 15 (RJ37, TJ37, 6) rfl 0 (Nat.le_of_ble_eq_true rfl) q1897 (Or.inl rfl) rfl 16 rfl dJ4_put_2_39 42 rfl (fun x4 => ?_)
      exact Sm_none
theorem hdJ4_put_2 : ((⟨"java/util/TreeMap", "put", "(Ljava/lang/Object;Ljava/lang/Object;Z)Ljava/lang/Object;"⟩ : MethodName)).cls ≠ "java/lang/invoke/MethodHandle" ∧ ((⟨"java/util/TreeMap", "put", "(Ljava/lang/Object;Ljava/lang/Object;Z)Ljava/lang/Object;"⟩ : MethodName)).cls ≠ "java/lang/invoke/VarHandle" ∧ (parseMethodDescriptor ((⟨"java/util/TreeMap", "put", "(Ljava/lang/Object;Ljava/lang/Object;Z)Ljava/lang/Object;"⟩ : MethodName)).desc).map (fun d => d.parameters.length) = some 3 := ⟨by decide +kernel, by decide +kernel, by decide +kernel⟩
theorem ctJ4_put_2 {l : Launch} {g : GG} (hst : l.stackTraces = false) (N : Nat) (m : Mm) (v0 : Option Nat) (v1 : Option Nat) (v2 : Option Nat) (v3 : Int32) : ∀ v m' k n, fJ4_put_2 (gE_ g) N m v0 v1 v2 v3 = some (v, m', k, n) → Ct_ l g (⟨"java/util/TreeMap", "put", "(Ljava/lang/Object;Ljava/lang/Object;Z)Ljava/lang/Object;"⟩ : MethodName) (ws_ (⟨"java/util/TreeMap", "put", "(Ljava/lang/Object;Ljava/lang/Object;Z)Ljava/lang/Object;"⟩ : MethodName) cJ4_put_2 10 (Option.some (Jvm.ClassFile.FieldType.object "java/lang/Object"))) 15 [vr_ v0, vr_ v1, vr_ v2, vi_ v3] m (en_r v) m' k n :=
  Ct_of (by decide +kernel) rfl hst (Nat.le_of_ble_eq_true rfl) rfl (fun E C hret h0 hin => wJ4_put_2 C hret h0 hin N m v0 v1 v2 v3 0 0)
theorem wJ4_put {l : Launch} {g : GG} {E : Me_} (C : Cx_ l g E "java/util/TreeMap" cJ4_put 3 16) (hret : (eT_ E).sig.returnType = (Option.some (Jvm.ClassFile.FieldType.object "java/lang/Object"))) (h0 : ∀ x ∈ (eC_ E).exceptionTable.toList, False) (hin : (eT_ E).name = "put") (N : Nat) : ∀ (m : Mm) (v0 : Option Nat) (v1 : Option Nat) (v2 : Option Nat) (k n : Nat), Sm_ l g E 3 en_r (fJ4_put (gE_ g) N m v0 v1 v2) k n 0 [(0, vr_ v0), (1, vr_ v1), (2, vr_ v2)] [] m := by
  intro m v0 v1 v2 k n
  unfold fJ4_put
  refine s_aload_n C rfl 0 rfl dJ4_put_0 1 rfl ?_
  refine s_aload_n C rfl 1 rfl dJ4_put_1 2 rfl ?_
  refine s_aload_n C rfl 2 rfl dJ4_put_2 3 rfl ?_
  refine s_iconst C 1 rfl dJ4_put_3 4 rfl ?_
  refine x_ck (fun hb_ hb0_ => ?_)
  refine x_callV (enc := en_r) C 15 3 [vr_ v1, vr_ v2, vi_ 1] 15 (ctJ4_put_2 C.2.2.2.2.2.2.2.2.1 N m v0 v1 v2 1) hb_ hb0_ rfl rfl q1877 q1879 qs15 q87 q1880 hdJ4_put_2 (Nat.le_of_ble_eq_true rfl) (Nat.le_of_ble_eq_true rfl) rfl (Nat.le_of_ble_eq_true rfl) dJ4_put_4 7 rfl rfl hen_r (kk_r (fun x1 m1 k1 n1 => ?_)) (kx_n he_r)
  exact x_aret C hret (Or.inl ⟨_, rfl⟩) rfl dJ4_put_7
theorem hdJ4_put : ((⟨"java/util/TreeMap", "put", "(Ljava/lang/Object;Ljava/lang/Object;)Ljava/lang/Object;"⟩ : MethodName)).cls ≠ "java/lang/invoke/MethodHandle" ∧ ((⟨"java/util/TreeMap", "put", "(Ljava/lang/Object;Ljava/lang/Object;)Ljava/lang/Object;"⟩ : MethodName)).cls ≠ "java/lang/invoke/VarHandle" ∧ (parseMethodDescriptor ((⟨"java/util/TreeMap", "put", "(Ljava/lang/Object;Ljava/lang/Object;)Ljava/lang/Object;"⟩ : MethodName)).desc).map (fun d => d.parameters.length) = some 2 := ⟨by decide +kernel, by decide +kernel, by decide +kernel⟩
theorem ctJ4_put {l : Launch} {g : GG} (hst : l.stackTraces = false) (N : Nat) (m : Mm) (v0 : Option Nat) (v1 : Option Nat) (v2 : Option Nat) : ∀ v m' k n, fJ4_put (gE_ g) N m v0 v1 v2 = some (v, m', k, n) → Ct_ l g (⟨"java/util/TreeMap", "put", "(Ljava/lang/Object;Ljava/lang/Object;)Ljava/lang/Object;"⟩ : MethodName) (ws_ (⟨"java/util/TreeMap", "put", "(Ljava/lang/Object;Ljava/lang/Object;)Ljava/lang/Object;"⟩ : MethodName) cJ4_put 3 (Option.some (Jvm.ClassFile.FieldType.object "java/lang/Object"))) 16 [vr_ v0, vr_ v1, vr_ v2] m (en_r v) m' k n :=
  Ct_of (by decide +kernel) rfl hst (Nat.le_of_ble_eq_true rfl) rfl (fun E C hret h0 hin => wJ4_put C hret h0 hin N m v0 v1 v2 0 0)
theorem wJ20_init_t27 {l : Launch} {g : GG} {E : Me_} (C : Cx_ l g E "java/lang/Number" cJ20_init 1 10) (hret : (eT_ E).sig.returnType = (Option.none : Option Jvm.ClassFile.FieldType)) (h0 : ∀ x ∈ (eC_ E).exceptionTable.toList, False) (hin : (eT_ E).name = "<init>") (N : Nat) : ∀ (m : Mm) (v0 : Option Nat) (k n : Nat), Sm_ l g E 1 en_v (fJ20_init_t27 (gE_ g) N m v0) k n 0 [(0, vr_ v0)] [] m := by
  intro m v0 k n
  unfold fJ20_init_t27
  refine s_aload_n C rfl 0 rfl dJ20_init_0 1 rfl ?_
  refine x_ok (fun hb_ => ?_)
  refine x_obj C hb_ q1633 q152 q153 (by decide) (Nat.le_of_ble_eq_true rfl) dJ20_init_1 4 rfl ?_
  exact x_vret C hret rfl dJ20_init_4
theorem hdJ20_init_t27 : ((⟨"java/lang/Number", "<init>", "()V"⟩ : MethodName)).cls ≠ "java/lang/invoke/MethodHandle" ∧ ((⟨"java/lang/Number", "<init>", "()V"⟩ : MethodName)).cls ≠ "java/lang/invoke/VarHandle" ∧ (parseMethodDescriptor ((⟨"java/lang/Number", "<init>", "()V"⟩ : MethodName)).desc).map (fun d => d.parameters.length) = some 0 := ⟨by decide +kernel, by decide +kernel, by decide +kernel⟩
theorem ctJ20_init_t27 {l : Launch} {g : GG} (hst : l.stackTraces = false) (N : Nat) (m : Mm) (v0 : Option Nat) : ∀ v m' k n, fJ20_init_t27 (gE_ g) N m v0 = some (v, m', k, n) → Ct_ l g (⟨"java/lang/Number", "<init>", "()V"⟩ : MethodName) (ws_ (⟨"java/lang/Number", "<init>", "()V"⟩ : MethodName) cJ20_init 1 (Option.none : Option Jvm.ClassFile.FieldType)) 10 [vr_ v0] m (en_v v) m' k n :=
  Ct_of (by decide +kernel) rfl hst (Nat.le_of_ble_eq_true rfl) rfl (fun E C hret h0 hin => wJ20_init_t27 C hret h0 hin N m v0 0 0)
theorem wJ21_init {l : Launch} {g : GG} {E : Me_} (C : Cx_ l g E "java/lang/Integer" cJ21_init 2 11) (hret : (eT_ E).sig.returnType = (Option.none : Option Jvm.ClassFile.FieldType)) (h0 : ∀ x ∈ (eC_ E).exceptionTable.toList, False) (hin : (eT_ E).name = "<init>") (N : Nat) : ∀ (m : Mm) (v0 : Option Nat) (v1 : Int32) (k n : Nat), Sm_ l g E 2 en_v (fJ21_init (gE_ g) N m v0 v1) k n 0 [(0, vr_ v0), (1, vi_ v1)] [] m := by
  intro m v0 v1 k n
  unfold fJ21_init
  refine s_aload_n C rfl 0 rfl dJ21_init_0 1 rfl ?_
  refine x_ok (fun hb0_ => ?_)
  refine x_callI (enc := en_v) C 10 0 [] (ctJ20_init_t27 C.2.2.2.2.2.2.2.2.1 N m v0) hb0_ rfl q1630 q1631 q107 q1632 rfl hdJ20_init_t27 (Nat.le_of_ble_eq_true rfl) (Nat.le_of_ble_eq_true rfl) rfl (Nat.le_of_ble_eq_true rfl) dJ21_init_1 4 rfl rfl hen_v (kk_v (fun m1 k1 n1 => ?_)) (kx_n he_v)
  refine s_aload_n C rfl 0 rfl dJ21_init_4 5 rfl ?_
  refine s_iload_n C rfl 1 rfl dJ21_init_5 6 rfl ?_
  refine x_piFb C hin 26 (RJ21, TJ21, 1) rfl 0 (Nat.le_of_ble_eq_true rfl) q1634 rfl rfl trivial 27 rfl dJ21_init_6 9 rfl (fun m2 => ?_)
  exact x_vret C hret rfl dJ21_init_9
theorem hdJ21_init : ((⟨"java/lang/Integer", "<init>", "(I)V"⟩ : MethodName)).cls ≠ "java/lang/invoke/MethodHandle" ∧ ((⟨"java/lang/Integer", "<init>", "(I)V"⟩ : MethodName)).cls ≠ "java/lang/invoke/VarHandle" ∧ (parseMethodDescriptor ((⟨"java/lang/Integer", "<init>", "(I)V"⟩ : MethodName)).desc).map (fun d => d.parameters.length) = some 1 := ⟨by decide +kernel, by decide +kernel, by decide +kernel⟩
theorem ctJ21_init {l : Launch} {g : GG} (hst : l.stackTraces = false) (N : Nat) (m : Mm) (v0 : Option Nat) (v1 : Int32) : ∀ v m' k n, fJ21_init (gE_ g) N m v0 v1 = some (v, m', k, n) → Ct_ l g (⟨"java/lang/Integer", "<init>", "(I)V"⟩ : MethodName) (ws_ (⟨"java/lang/Integer", "<init>", "(I)V"⟩ : MethodName) cJ21_init 2 (Option.none : Option Jvm.ClassFile.FieldType)) 11 [vr_ v0, vi_ v1] m (en_v v) m' k n :=
  Ct_of (by decide +kernel) rfl hst (Nat.le_of_ble_eq_true rfl) rfl (fun E C hret h0 hin => wJ21_init C hret h0 hin N m v0 v1 0 0)
theorem wJ21_valueOf_b23 {l : Launch} {g : GG} {E : Me_} (C : Cx_ l g E "java/lang/Integer" cJ21_valueOf 1 12) (hret : (eT_ E).sig.returnType = (Option.some (Jvm.ClassFile.FieldType.object "java/lang/Integer"))) (h0 : ∀ x ∈ (eC_ E).exceptionTable.toList, False) (hin : (eT_ E).name = "valueOf") (N : Nat) : ∀ (m : Mm) (v0 : Int32) (k n : Nat), Sm_ l g E 1 en_r (fJ21_valueOf_b23 (gE_ g) N m v0) k n 23 [(0, vi_ v0)] [] m := by
  intro m v0 k n
  unfold fJ21_valueOf_b23
  refine x_nw C 26 (RJ21, TJ21, 1) rfl q1125 q1626 q108 27 1 rfl rfl dJ21_valueOf_23 26 rfl (fun x1 m1 => ?_)
  refine s_dup C rfl dJ21_valueOf_26 27 rfl ?_
  refine s_iload_n C rfl 0 rfl dJ21_valueOf_27 28 rfl ?_
  refine x_callI (enc := en_v) C 11 1 [vi_ v0] (ctJ21_init C.2.2.2.2.2.2.2.2.1 N m1 (some x1) v0) (fun h => by cases h) rfl q1627 q1628 q108 q1629 rfl hdJ21_init (Nat.le_of_ble_eq_true rfl) (Nat.le_of_ble_eq_true rfl) rfl (Nat.le_of_ble_eq_true rfl) dJ21_valueOf_28 31 rfl rfl hen_v (kk_v (fun m2 k1 n1 => ?_)) (kx_n he_v)
  exact x_aret C hret (Or.inl ⟨_, rfl⟩) rfl dJ21_valueOf_31
theorem wJ21_valueOf {l : Launch} {g : GG} {E : Me_} (C : Cx_ l g E "java/lang/Integer" cJ21_valueOf 1 12) (hret : (eT_ E).sig.returnType = (Option.some (Jvm.ClassFile.FieldType.object "java/lang/Integer"))) (h0 : ∀ x ∈ (eC_ E).exceptionTable.toList, False) (hin : (eT_ E).name = "valueOf") (N : Nat) : ∀ (m : Mm) (v0 : Int32) (k n : Nat), Sm_ l g E 1 en_r (fJ21_valueOf (gE_ g) N m v0) k n 0 [(0, vi_ v0)] [] m := by
  intro m v0 k n
  unfold fJ21_valueOf
  refine s_iload_n C rfl 0 rfl dJ21_valueOf_0 1 rfl ?_
  refine s_bipush C (-128) rfl dJ21_valueOf_1 3 rfl ?_
  refine s_icmp_lt C dJ21_valueOf_3 23 rfl 6 rfl (fun c_ => ?_) (fun c_ => ?_)
  · exact wJ21_valueOf_b23 C hret h0 hin N _ _ _ _
  · refine s_iload_n C rfl 0 rfl dJ21_valueOf_6 7 rfl ?_
    refine x_gs C 5 (vi_ 127) rfl q1622 rfl dJ21_valueOf_7 10 rfl ?_
    refine s_icmp_gt C dJ21_valueOf_10 23 rfl 13 rfl (fun c_ => ?_) (fun c_ => ?_)
    · exact wJ21_valueOf_b23 C hret h0 hin N _ _ _ _
    · refine x_gs C 6 (vr_ (some (gE_ g 4))) rfl q1624 rfl dJ21_valueOf_13 16 rfl ?_
      refine s_iload_n C rfl 0 rfl dJ21_valueOf_16 17 rfl ?_
      refine s_sipush C 128 rfl dJ21_valueOf_17 20 rfl ?_
      refine s_iadd C dJ21_valueOf_20 21 rfl ?_
      refine x_ar C 7 (.object "java/lang/Integer") rfl rfl rfl 207 rfl dJ21_valueOf_21 22 rfl (fun x1 => ?_)
      exact x_aret C hret (Or.inl ⟨_, rfl⟩) rfl dJ21_valueOf_22
theorem hdJ21_valueOf : ((⟨"java/lang/Integer", "valueOf", "(I)Ljava/lang/Integer;"⟩ : MethodName)).cls ≠ "java/lang/invoke/MethodHandle" ∧ ((⟨"java/lang/Integer", "valueOf", "(I)Ljava/lang/Integer;"⟩ : MethodName)).cls ≠ "java/lang/invoke/VarHandle" ∧ (parseMethodDescriptor ((⟨"java/lang/Integer", "valueOf", "(I)Ljava/lang/Integer;"⟩ : MethodName)).desc).map (fun d => d.parameters.length) = some 1 := ⟨by decide +kernel, by decide +kernel, by decide +kernel⟩
theorem ctJ21_valueOf {l : Launch} {g : GG} (hst : l.stackTraces = false) (N : Nat) (m : Mm) (v0 : Int32) : ∀ v m' k n, fJ21_valueOf (gE_ g) N m v0 = some (v, m', k, n) → Ct_ l g (⟨"java/lang/Integer", "valueOf", "(I)Ljava/lang/Integer;"⟩ : MethodName) (ws_ (⟨"java/lang/Integer", "valueOf", "(I)Ljava/lang/Integer;"⟩ : MethodName) cJ21_valueOf 1 (Option.some (Jvm.ClassFile.FieldType.object "java/lang/Integer"))) 12 [vi_ v0] m (en_r v) m' k n :=
  Ct_of (by decide +kernel) rfl hst (Nat.le_of_ble_eq_true rfl) rfl (fun E C hret h0 hin => wJ21_valueOf C hret h0 hin N m v0 0 0)
theorem wJ30_hasNext_t18_b12 {l : Launch} {g : GG} {E : Me_} (C : Cx_ l g E "java/util/TreeMap$PrivateEntryIterator" cJ30_hasNext 1 10) (hret : (eT_ E).sig.returnType = (Option.some Jvm.ClassFile.FieldType.boolean)) (h0 : ∀ x ∈ (eC_ E).exceptionTable.toList, False) (hin : (eT_ E).name = "hasNext") (N : Nat) : ∀ (m : Mm) (s0 : Int32) (k n : Nat), Sm_ l g E 1 en_i (fJ30_hasNext_t18_b12 (gE_ g) N m s0) k n 12 [] [vi_ s0] m := by
  intro m s0 k n
  unfold fJ30_hasNext_t18_b12
  exact x_zret C hret rfl dJ30_hasNext_12
theorem wJ30_hasNext_t18 {l : Launch} {g : GG} {E : Me_} (C : Cx_ l g E "java/util/TreeMap$PrivateEntryIterator" cJ30_hasNext 1 10) (hret : (eT_ E).sig.returnType = (Option.some Jvm.ClassFile.FieldType.boolean)) (h0 : ∀ x ∈ (eC_ E).exceptionTable.toList, False) (hin : (eT_ E).name = "hasNext") (N : Nat) : ∀ (m : Mm) (v0 : Option Nat) (k n : Nat), Sm_ l g E 1 en_i (fJ30_hasNext_t18 (gE_ g) N m v0) k n 0 [(0, vr_ v0)] [] m := by
  intro m v0 k n
  unfold fJ30_hasNext_t18
  refine s_aload_n C rfl 0 rfl dJ30_hasNext_0 1 rfl ?_
  refine x_gr C 17 (RJ32, TJ32, 4) rfl 0 (Nat.le_of_ble_eq_true rfl) q1385 (Or.inl rfl) rfl 18 rfl dJ30_hasNext_1 4 rfl (fun x1 => ?_)
  refine s_ifnull C dJ30_hasNext_4 11 rfl 7 rfl (fun c_ => ?_) (fun c_ => ?_)
  · refine s_iconst C 0 rfl dJ30_hasNext_11 12 rfl ?_
    refine Sm_sub [] rfl ?_
    exact wJ30_hasNext_t18_b12 C hret h0 hin N _ _ _ _
  · refine s_iconst C 1 rfl dJ30_hasNext_7 8 rfl ?_
    refine s_goto C (off := 4) 12 dJ30_hasNext_8 rfl ?_
    refine Sm_sub [] rfl ?_
    exact wJ30_hasNext_t18_b12 C hret h0 hin N _ _ _ _
theorem hdJ30_hasNext_t18 : ((⟨"java/util/TreeMap$PrivateEntryIterator", "hasNext", "()Z"⟩ : MethodName)).cls ≠ "java/lang/invoke/MethodHandle" ∧ ((⟨"java/util/TreeMap$PrivateEntryIterator", "hasNext", "()Z"⟩ : MethodName)).cls ≠ "java/lang/invoke/VarHandle" ∧ (parseMethodDescriptor ((⟨"java/util/TreeMap$PrivateEntryIterator", "hasNext", "()Z"⟩ : MethodName)).desc).map (fun d => d.parameters.length) = some 0 := ⟨by decide +kernel, by decide +kernel, by decide +kernel⟩
theorem ctJ30_hasNext_t18 {l : Launch} {g : GG} (hst : l.stackTraces = false) (N : Nat) (m : Mm) (v0 : Option Nat) : ∀ v m' k n, fJ30_hasNext_t18 (gE_ g) N m v0 = some (v, m', k, n) → Ct_ l g (⟨"java/util/TreeMap$PrivateEntryIterator", "hasNext", "()Z"⟩ : MethodName) (ws_ (⟨"java/util/TreeMap$PrivateEntryIterator", "hasNext", "()Z"⟩ : MethodName) cJ30_hasNext 1 (Option.some Jvm.ClassFile.FieldType.boolean)) 10 [vr_ v0] m (en_i v) m' k n :=
  Ct_of (by decide +kernel) rfl hst (Nat.le_of_ble_eq_true rfl) rfl (fun E C hret h0 hin => wJ30_hasNext_t18 C hret h0 hin N m v0 0 0)
theorem wJ4_successor_b18 {l : Launch} {g : GG} {E : Me_} (C : Cx_ l g E "java/util/TreeMap" cJ4_successor 3 10) (hret : (eT_ E).sig.returnType = (Option.some (Jvm.ClassFile.FieldType.object "java/util/TreeMap$Entry"))) (h0 : ∀ x ∈ (eC_ E).exceptionTable.toList, False) (hin : (eT_ E).name = "successor") (N : Nat) : ∀ (F : Nat) (m : Mm) (v1 : Option Nat) (k n : Nat), Sm_ l g E 3 en_r (fJ4_successor_b18 (gE_ g) N F m v1) k n 18 [(1, vr_ v1)] [] m := by
  intro F
  induction F with
  | zero => intros; exact Sm_none
  | succ F ih =>
    intro m v1 k n
    unfold fJ4_successor_b18
    refine s_aload_n C rfl 0 rfl dJ4_successor_18 19 rfl ?_
    refine x_gr C 15 (RJ37, TJ37, 6) rfl 2 (Nat.le_of_ble_eq_true rfl) q1903 (Or.inl rfl) rfl 16 rfl dJ4_successor_19 22 rfl (fun x1 => ?_)
    refine s_ifnull C dJ4_successor_22 33 rfl 25 rfl (fun c_ => ?_) (fun c_ => ?_)
    · refine s_aload_n C rfl 0 rfl dJ4_successor_33 34 rfl ?_
      exact x_aret C hret (Or.inl ⟨_, rfl⟩) rfl dJ4_successor_34
    · refine s_aload_n C rfl 0 rfl dJ4_successor_25 26 rfl ?_
      refine x_gr C 15 (RJ37, TJ37, 6) rfl 2 (Nat.le_of_ble_eq_true rfl) q1903 (Or.inl rfl) rfl 16 rfl dJ4_successor_26 29 rfl (fun x2 => ?_)
      refine s_astore_n C rfl (Nat.le_of_ble_eq_true rfl) [] rfl rfl dJ4_successor_29 30 rfl ?_
      refine s_goto C (off := -12) 18 dJ4_successor_30 rfl ?_
      exact ih _ _ _ _
theorem wJ4_successor_b64 {l : Launch} {g : GG} {E : Me_} (C : Cx_ l g E "java/util/TreeMap" cJ4_successor 3 10) (hret : (eT_ E).sig.returnType = (Option.some (Jvm.ClassFile.FieldType.object "java/util/TreeMap$Entry"))) (h0 : ∀ x ∈ (eC_ E).exceptionTable.toList, False) (hin : (eT_ E).name = "successor") (N : Nat) : ∀ (m : Mm) (v1 : Option Nat) (k n : Nat), Sm_ l g E 3 en_r (fJ4_successor_b64 (gE_ g) N m v1) k n 64 [(1, vr_ v1)] [] m := by
  intro m v1 k n
  unfold fJ4_successor_b64
  refine s_aload_n C rfl 0 rfl dJ4_successor_64 65 rfl ?_
  exact x_aret C hret (Or.inl ⟨_, rfl⟩) rfl dJ4_successor_65
theorem wJ4_successor_b42 {l : Launch} {g : GG} {E : Me_} (C : Cx_ l g E "java/util/TreeMap" cJ4_successor 3 10) (hret : (eT_ E).sig.returnType = (Option.some (Jvm.ClassFile.FieldType.object "java/util/TreeMap$Entry"))) (h0 : ∀ x ∈ (eC_ E).exceptionTable.toList, False) (hin : (eT_ E).name = "successor") (N : Nat) : ∀ (F : Nat) (m : Mm) (v1 : Option Nat) (v2 : Option Nat) (k n : Nat), Sm_ l g E 3 en_r (fJ4_successor_b42 (gE_ g) N F m v1 v2) k n 42 [(1, vr_ v1), (2, vr_ v2)] [] m := by
  intro F
  induction F with
  | zero => intros; exact Sm_none
  | succ F ih =>
    intro m v1 v2 k n
    unfold fJ4_successor_b42
    refine s_aload_n C rfl 0 rfl dJ4_successor_42 43 rfl ?_
    refine s_ifnull C dJ4_successor_43 64 rfl 46 rfl (fun c_ => ?_) (fun c_ => ?_)
    · refine Sm_sub [0] rfl ?_
      exact wJ4_successor_b64 C hret h0 hin N _ _ _ _
    · refine s_aload_n C rfl 1 rfl dJ4_successor_46 47 rfl ?_
      refine s_aload_n C rfl 0 rfl dJ4_successor_47 48 rfl ?_
      refine x_gr C 15 (RJ37, TJ37, 6) rfl 3 (Nat.le_of_ble_eq_true rfl) q1906 (Or.inl rfl) rfl 16 rfl dJ4_successor_48 51 rfl (fun x1 => ?_)
      refine s_acmp_ne C dJ4_successor_51 64 rfl 54 rfl (fun c_ => ?_) (fun c_ => ?_)
      · refine s_aload_n C rfl 0 rfl dJ4_successor_54 55 rfl ?_
        refine s_astore_n C rfl (Nat.le_of_ble_eq_true rfl) [0] rfl rfl dJ4_successor_55 56 rfl ?_
        refine s_aload_n C rfl 1 rfl dJ4_successor_56 57 rfl ?_
        refine x_gr C 15 (RJ37, TJ37, 6) rfl 4 (Nat.le_of_ble_eq_true rfl) q1908 (Or.inl rfl) rfl 16 rfl dJ4_successor_57 60 rfl (fun x2 => ?_)
        refine s_astore_n C rfl (Nat.le_of_ble_eq_true rfl) [0] rfl rfl dJ4_successor_60 61 rfl ?_
        refine s_goto C (off := -19) 42 dJ4_successor_61 rfl ?_
        exact ih _ _ _ _ _
      · refine Sm_sub [0] rfl ?_
        exact wJ4_successor_b64 C hret h0 hin N _ _ _ _
theorem wJ4_successor {l : Launch} {g : GG} {E : Me_} (C : Cx_ l g E "java/util/TreeMap" cJ4_successor 3 10) (hret : (eT_ E).sig.returnType = (Option.some (Jvm.ClassFile.FieldType.object "java/util/TreeMap$Entry"))) (h0 : ∀ x ∈ (eC_ E).exceptionTable.toList, False) (hin : (eT_ E).name = "successor") (N : Nat) : ∀ (m : Mm) (v0 : Option Nat) (k n : Nat), Sm_ l g E 3 en_r (fJ4_successor (gE_ g) N m v0) k n 0 [(0, vr_ v0)] [] m := by
  intro m v0 k n
  unfold fJ4_successor
  refine s_aload_n C rfl 0 rfl dJ4_successor_0 1 rfl ?_
  refine s_ifnonnull C dJ4_successor_1 6 rfl 4 rfl (fun c_ => ?_) (fun c_ => ?_)
  · refine s_null C dJ4_successor_4 5 rfl ?_
    exact x_aret C hret (Or.inl ⟨_, rfl⟩) rfl dJ4_successor_5
  · refine s_aload_n C rfl 0 rfl dJ4_successor_6 7 rfl ?_
    refine x_gr C 15 (RJ37, TJ37, 6) rfl 3 (Nat.le_of_ble_eq_true rfl) q1906 (Or.inl rfl) rfl 16 rfl dJ4_successor_7 10 rfl (fun x1 => ?_)
    refine s_ifnull C dJ4_successor_10 35 rfl 13 rfl (fun c_ => ?_) (fun c_ => ?_)
    · refine s_aload_n C rfl 0 rfl dJ4_successor_35 36 rfl ?_
      refine x_gr C 15 (RJ37, TJ37, 6) rfl 4 (Nat.le_of_ble_eq_true rfl) q1908 (Or.inl rfl) rfl 16 rfl dJ4_successor_36 39 rfl (fun x2 => ?_)
      refine s_astore_n C rfl (Nat.le_of_ble_eq_true rfl) [0] rfl rfl dJ4_successor_39 40 rfl ?_
      refine s_aload_n C rfl 1 rfl dJ4_successor_40 41 rfl ?_
      refine s_astore_n C rfl (Nat.le_of_ble_eq_true rfl) [0] rfl rfl dJ4_successor_41 42 rfl ?_
      refine Sm_sub [1, 0] rfl ?_
      exact wJ4_successor_b42 C hret h0 hin N N _ _ _ _ _
    · refine s_aload_n C rfl 0 rfl dJ4_successor_13 14 rfl ?_
      refine x_gr C 15 (RJ37, TJ37, 6) rfl 3 (Nat.le_of_ble_eq_true rfl) q1906 (Or.inl rfl) rfl 16 rfl dJ4_successor_14 17 rfl (fun x3 => ?_)
      refine s_astore_n C rfl (Nat.le_of_ble_eq_true rfl) [] rfl rfl dJ4_successor_17 18 rfl ?_
      exact wJ4_successor_b18 C hret h0 hin N N _ _ _ _
theorem hdJ4_successor : ((⟨"java/util/TreeMap", "successor", "(Ljava/util/TreeMap$Entry;)Ljava/util/TreeMap$Entry;"⟩ : MethodName)).cls ≠ "java/lang/invoke/MethodHandle" ∧ ((⟨"java/util/TreeMap", "successor", "(Ljava/util/TreeMap$Entry;)Ljava/util/TreeMap$Entry;"⟩ : MethodName)).cls ≠ "java/lang/invoke/VarHandle" ∧ (parseMethodDescriptor ((⟨"java/util/TreeMap", "successor", "(Ljava/util/TreeMap$Entry;)Ljava/util/TreeMap$Entry;"⟩ : MethodName)).desc).map (fun d => d.parameters.length) = some 1 := ⟨by decide +kernel, by decide +kernel, by decide +kernel⟩
theorem ctJ4_successor {l : Launch} {g : GG} (hst : l.stackTraces = false) (N : Nat) (m : Mm) (v0 : Option Nat) : ∀ v m' k n, fJ4_successor (gE_ g) N m v0 = some (v, m', k, n) → Ct_ l g (⟨"java/util/TreeMap", "successor", "(Ljava/util/TreeMap$Entry;)Ljava/util/TreeMap$Entry;"⟩ : MethodName) (ws_ (⟨"java/util/TreeMap", "successor", "(Ljava/util/TreeMap$Entry;)Ljava/util/TreeMap$Entry;"⟩ : MethodName) cJ4_successor 3 (Option.some (Jvm.ClassFile.FieldType.object "java/util/TreeMap$Entry"))) 10 [vr_ v0] m (en_r v) m' k n :=
  Ct_of (by decide +kernel) rfl hst (Nat.le_of_ble_eq_true rfl) rfl (fun E C hret h0 hin => wJ4_successor C hret h0 hin N m v0 0 0)
theorem wJ30_nextEntry_t18 {l : Launch} {g : GG} {E : Me_} (C : Cx_ l g E "java/util/TreeMap$PrivateEntryIterator" cJ30_nextEntry 2 11) (hret : (eT_ E).sig.returnType = (Option.some (Jvm.ClassFile.FieldType.object "java/util/TreeMap$Entry"))) (h0 : ∀ x ∈ (eC_ E).exceptionTable.toList, False) (hin : (eT_ E).name = "nextEntry") (N : Nat) : ∀ (m : Mm) (v0 : Option Nat) (k n : Nat), Sm_ l g E 2 en_r (fJ30_nextEntry_t18 (gE_ g) N m v0) k n 0 [(0, vr_ v0)] [] m := by
  intro m v0 k n
  unfold fJ30_nextEntry_t18
  refine s_aload_n C rfl 0 rfl dJ30_nextEntry_0 1 rfl ?_
  refine x_gr C 17 (RJ32, TJ32, 4) rfl 0 (Nat.le_of_ble_eq_true rfl) q1385 (Or.inl rfl) rfl 18 rfl dJ30_nextEntry_1 4 rfl (fun x1 => ?_)
  refine s_astore_n C rfl (Nat.le_of_ble_eq_true rfl) [0] rfl rfl dJ30_nextEntry_4 5 rfl ?_
  refine s_aload_n C rfl 0 rfl dJ30_nextEntry_5 6 rfl ?_
  refine s_ifnonnull C dJ30_nextEntry_6 17 rfl 9 rfl (fun c_ => ?_) (fun c_ => ?_)
  · exact Sm_none
  · refine s_aload_n C rfl 1 rfl dJ30_nextEntry_17 18 rfl ?_
    refine x_gr C 17 (RJ32, TJ32, 4) rfl 3 (Nat.le_of_ble_eq_true rfl) q1388 (Or.inl rfl) rfl 18 rfl dJ30_nextEntry_18 21 rfl (fun x2 => ?_)
    refine x_giN C 14 (RJ4, TJ4, 9) rfl 5 (Nat.le_of_ble_eq_true rfl) q208 rfl rfl 15 rfl dJ30_nextEntry_21 24 rfl (fun x3 => ?_)
    refine s_aload_n C rfl 1 rfl dJ30_nextEntry_24 25 rfl ?_
    refine x_gi C 17 (RJ32, TJ32, 4) rfl 2 (Nat.le_of_ble_eq_true rfl) q1387 (Or.inl rfl) rfl 18 rfl dJ30_nextEntry_25 28 rfl (fun x4 => ?_)
    refine s_icmp_eq C dJ30_nextEntry_28 39 rfl 31 rfl (fun c_ => ?_) (fun c_ => ?_)
    · refine s_aload_n C rfl 1 rfl dJ30_nextEntry_39 40 rfl ?_
      refine s_aload_n C rfl 0 rfl dJ30_nextEntry_40 41 rfl ?_
      refine x_callS (enc := en_r) C 10 1 [vr_ x1] (ctJ4_successor C.2.2.2.2.2.2.2.2.1 N m x1) q1519 q1520 q87 q1521 hdJ4_successor (Nat.le_of_ble_eq_true rfl) (Nat.le_of_ble_eq_true rfl) rfl (Nat.le_of_ble_eq_true rfl) dJ30_nextEntry_41 44 rfl rfl hen_r (kk_r (fun x5 m1 k1 n1 => ?_)) (kx_n he_r)
      refine x_pr C 17 (RJ32, TJ32, 4) rfl 0 (Nat.le_of_ble_eq_true rfl) rfl q1385 (Or.inl rfl) rfl trivial 18 rfl dJ30_nextEntry_44 47 rfl (fun m2 => ?_)
      refine s_aload_n C rfl 1 rfl dJ30_nextEntry_47 48 rfl ?_
      refine s_aload_n C rfl 0 rfl dJ30_nextEntry_48 49 rfl ?_
      refine x_pr C 17 (RJ32, TJ32, 4) rfl 1 (Nat.le_of_ble_eq_true rfl) rfl q1386 (Or.inl rfl) rfl trivial 18 rfl dJ30_nextEntry_49 52 rfl (fun m3 => ?_)
      refine s_aload_n C rfl 0 rfl dJ30_nextEntry_52 53 rfl ?_
      exact x_aret C hret (Or.inl ⟨_, rfl⟩) rfl dJ30_nextEntry_53
    · exact Sm_none
theorem hdJ30_nextEntry_t18 : ((⟨"java/util/TreeMap$PrivateEntryIterator", "nextEntry", "()Ljava/util/TreeMap$Entry;"⟩ : MethodName)).cls ≠ "java/lang/invoke/MethodHandle" ∧ ((⟨"java/util/TreeMap$PrivateEntryIterator", "nextEntry", "()Ljava/util/TreeMap$Entry;"⟩ : MethodName)).cls ≠ "java/lang/invoke/VarHandle" ∧ (parseMethodDescriptor ((⟨"java/util/TreeMap$PrivateEntryIterator", "nextEntry", "()Ljava/util/TreeMap$Entry;"⟩ : MethodName)).desc).map (fun d => d.parameters.length) = some 0 := ⟨by decide +kernel, by decide +kernel, by decide +kernel⟩
theorem ctJ30_nextEntry_t18 {l : Launch} {g : GG} (hst : l.stackTraces = false) (N : Nat) (m : Mm) (v0 : Option Nat) : ∀ v m' k n, fJ30_nextEntry_t18 (gE_ g) N m v0 = some (v, m', k, n) → Ct_ l g (⟨"java/util/TreeMap$PrivateEntryIterator", "nextEntry", "()Ljava/util/TreeMap$Entry;"⟩ : MethodName) (ws_ (⟨"java/util/TreeMap$PrivateEntryIterator", "nextEntry", "()Ljava/util/TreeMap$Entry;"⟩ : MethodName) cJ30_nextEntry 2 (Option.some (Jvm.ClassFile.FieldType.object "java/util/TreeMap$Entry"))) 11 [vr_ v0] m (en_r v) m' k n :=
  Ct_of (by decide +kernel) rfl hst (Nat.le_of_ble_eq_true rfl) rfl (fun E C hret h0 hin => wJ30_nextEntry_t18 C hret h0 hin N m v0 0 0)
theorem wJ32_next {l : Launch} {g : GG} {E : Me_} (C : Cx_ l g E "java/util/TreeMap$KeyIterator" cJ32_next 1 12) (hret : (eT_ E).sig.returnType = (Option.some (Jvm.ClassFile.FieldType.object "java/lang/Object"))) (h0 : ∀ x ∈ (eC_ E).exceptionTable.toList, False) (hin : (eT_ E).name = "next") (N : Nat) : ∀ (m : Mm) (v0 : Option Nat) (k n : Nat), Sm_ l g E 1 en_r (fJ32_next (gE_ g) N m v0) k n 0 [(0, vr_ v0)] [] m := by
  intro m v0 k n
  unfold fJ32_next
  refine s_aload_n C rfl 0 rfl dJ32_next_0 1 rfl ?_
  refine x_ck (fun hb_ hb0_ => ?_)
  refine x_callU (enc := en_r) (owner := "java/util/TreeMap$PrivateEntryIterator") C 11 0 [] 18 (ctJ30_nextEntry_t18 C.2.2.2.2.2.2.2.2.1 N m v0) hb_ hb0_ rfl rfl q1527 q1528 q1529 q1517 q119 q1518 rfl ⟨by decide +kernel, by decide +kernel, by decide +kernel⟩ (Nat.le_of_ble_eq_true rfl) (Nat.le_of_ble_eq_true rfl) rfl (Nat.le_of_ble_eq_true rfl) dJ32_next_1 4 rfl rfl hen_r (kk_r (fun x1 m1 k1 n1 => ?_)) (kx_n he_r)
  refine x_gr C 15 (RJ37, TJ37, 6) rfl 0 (Nat.le_of_ble_eq_true rfl) q1893 (Or.inl rfl) rfl 16 rfl dJ32_next_4 7 rfl (fun x2 => ?_)
  exact x_aret C hret (Or.inl ⟨_, rfl⟩) rfl dJ32_next_7
theorem hdJ32_next : ((⟨"java/util/TreeMap$KeyIterator", "next", "()Ljava/lang/Object;"⟩ : MethodName)).cls ≠ "java/lang/invoke/MethodHandle" ∧ ((⟨"java/util/TreeMap$KeyIterator", "next", "()Ljava/lang/Object;"⟩ : MethodName)).cls ≠ "java/lang/invoke/VarHandle" ∧ (parseMethodDescriptor ((⟨"java/util/TreeMap$KeyIterator", "next", "()Ljava/lang/Object;"⟩ : MethodName)).desc).map (fun d => d.parameters.length) = some 0 := ⟨by decide +kernel, by decide +kernel, by decide +kernel⟩
theorem ctJ32_next {l : Launch} {g : GG} (hst : l.stackTraces = false) (N : Nat) (m : Mm) (v0 : Option Nat) : ∀ v m' k n, fJ32_next (gE_ g) N m v0 = some (v, m', k, n) → Ct_ l g (⟨"java/util/TreeMap$KeyIterator", "next", "()Ljava/lang/Object;"⟩ : MethodName) (ws_ (⟨"java/util/TreeMap$KeyIterator", "next", "()Ljava/lang/Object;"⟩ : MethodName) cJ32_next 1 (Option.some (Jvm.ClassFile.FieldType.object "java/lang/Object"))) 12 [vr_ v0] m (en_r v) m' k n :=
  Ct_of (by decide +kernel) rfl hst (Nat.le_of_ble_eq_true rfl) rfl (fun E C hret h0 hin => wJ32_next C hret h0 hin N m v0 0 0)
theorem wJ21_intValue {l : Launch} {g : GG} {E : Me_} (C : Cx_ l g E "java/lang/Integer" cJ21_intValue 1 10) (hret : (eT_ E).sig.returnType = (Option.some Jvm.ClassFile.FieldType.int)) (h0 : ∀ x ∈ (eC_ E).exceptionTable.toList, False) (hin : (eT_ E).name = "intValue") (N : Nat) : ∀ (m : Mm) (v0 : Option Nat) (k n : Nat), Sm_ l g E 1 en_i (fJ21_intValue (gE_ g) N m v0) k n 0 [(0, vr_ v0)] [] m := by
  intro m v0 k n
  unfold fJ21_intValue
  refine s_aload_n C rfl 0 rfl dJ21_intValue_0 1 rfl ?_
  refine x_gi C 26 (RJ21, TJ21, 1) rfl 0 (Nat.le_of_ble_eq_true rfl) q1634 (Or.inl rfl) rfl 27 rfl dJ21_intValue_1 4 rfl (fun x1 => ?_)
  exact x_iret C hret rfl dJ21_intValue_4
theorem hdJ21_intValue : ((⟨"java/lang/Integer", "intValue", "()I"⟩ : MethodName)).cls ≠ "java/lang/invoke/MethodHandle" ∧ ((⟨"java/lang/Integer", "intValue", "()I"⟩ : MethodName)).cls ≠ "java/lang/invoke/VarHandle" ∧ (parseMethodDescriptor ((⟨"java/lang/Integer", "intValue", "()I"⟩ : MethodName)).desc).map (fun d => d.parameters.length) = some 0 := ⟨by decide +kernel, by decide +kernel, by decide +kernel⟩
theorem ctJ21_intValue {l : Launch} {g : GG} (hst : l.stackTraces = false) (N : Nat) (m : Mm) (v0 : Option Nat) : ∀ v m' k n, fJ21_intValue (gE_ g) N m v0 = some (v, m', k, n) → Ct_ l g (⟨"java/lang/Integer", "intValue", "()I"⟩ : MethodName) (ws_ (⟨"java/lang/Integer", "intValue", "()I"⟩ : MethodName) cJ21_intValue 1 (Option.some Jvm.ClassFile.FieldType.int)) 10 [vr_ v0] m (en_i v) m' k n :=
  Ct_of (by decide +kernel) rfl hst (Nat.le_of_ble_eq_true rfl) rfl (fun E C hret h0 hin => wJ21_intValue C hret h0 hin N m v0 0 0)
theorem wJ4_getEntry_b72 {l : Launch} {g : GG} {E : Me_} (C : Cx_ l g E "java/util/TreeMap" cJ4_getEntry 5 13) (hret : (eT_ E).sig.returnType = (Option.some (Jvm.ClassFile.FieldType.object "java/util/TreeMap$Entry"))) (h0 : ∀ x ∈ (eC_ E).exceptionTable.toList, False) (hin : (eT_ E).name = "getEntry") (N : Nat) {k28 : Mm → Option Nat → Option Nat → Rs (Option Nat)} (hk28 : ∀ (m : Mm) (v2 : Option Nat) (v3 : Option Nat) (k n : Nat), Sm_ l g E 5 en_r (k28 m v2 v3) k n 28 [(2, vr_ v2), (3, vr_ v3)] [] m) : ∀ (m : Mm) (v2 : Option Nat) (v3 : Option Nat) (k n : Nat), Sm_ l g E 5 en_r (fJ4_getEntry_b72 (gE_ g) N k28 m v2 v3) k n 72 [(2, vr_ v2), (3, vr_ v3)] [] m := by
  intro m v2 v3 k n
  unfold fJ4_getEntry_b72
  refine s_goto C (off := -44) 28 dJ4_getEntry_72 rfl ?_
  exact hk28 _ _ _ _ _
theorem wJ4_getEntry_b28 {l : Launch} {g : GG} {E : Me_} (C : Cx_ l g E "java/util/TreeMap" cJ4_getEntry 5 13) (hret : (eT_ E).sig.returnType = (Option.some (Jvm.ClassFile.FieldType.object "java/util/TreeMap$Entry"))) (h0 : ∀ x ∈ (eC_ E).exceptionTable.toList, False) (hin : (eT_ E).name = "getEntry") (N : Nat) : ∀ (F : Nat) (m : Mm) (v2 : Option Nat) (v3 : Option Nat) (k n : Nat), Sm_ l g E 5 en_r (fJ4_getEntry_b28 (gE_ g) N F m v2 v3) k n 28 [(2, vr_ v2), (3, vr_ v3)] [] m := by
  intro F
  induction F with
  | zero => intros; exact Sm_none
  | succ F ih =>
    intro m v2 v3 k n
    unfold fJ4_getEntry_b28
    refine s_aload_n C rfl 1 rfl dJ4_getEntry_28 29 rfl ?_
    refine s_ifnull C dJ4_getEntry_29 75 rfl 32 rfl (fun c_ => ?_) (fun c_ => ?_)
    · refine s_null C dJ4_getEntry_75 76 rfl ?_
      exact x_aret C hret (Or.inl ⟨_, rfl⟩) rfl dJ4_getEntry_76
    · refine s_aload_n C rfl 0 rfl dJ4_getEntry_32 33 rfl ?_
      refine s_aload_n C rfl 1 rfl dJ4_getEntry_33 34 rfl ?_
      refine x_gr C 15 (RJ37, TJ37, 6) rfl 0 (Nat.le_of_ble_eq_true rfl) q1897 (Or.inl rfl) rfl 16 rfl dJ4_getEntry_34 37 rfl (fun x1 => ?_)
      refine x_ck (fun hb_ hb0_ => ?_)
      refine x_callF (enc := en_i) C 12 1 [vr_ x1] 27 (ctJ21_compareTo C.2.2.2.2.2.2.2.2.1 N m v2 x1) hb_ hb0_ rfl rfl rfl fw_6 q1044 q1120 q1122 q108 q1124 hx7 (Nat.le_of_ble_eq_true rfl) (Nat.le_of_ble_eq_true rfl) rfl (Nat.le_of_ble_eq_true rfl) dJ4_getEntry_37 42 rfl rfl hen_i (kk_i (fun x2 m1 k1 n1 => ?_)) (kx_n he_i)
      refine s_istore C (Nat.le_of_ble_eq_true rfl) [0, 1] rfl rfl dJ4_getEntry_42 44 rfl ?_
      refine s_iload C 0 rfl dJ4_getEntry_44 46 rfl ?_
      refine s_if_ge C dJ4_getEntry_46 57 rfl 49 rfl (fun c_ => ?_) (fun c_ => ?_)
      · refine s_aload_n C rfl 2 rfl dJ4_getEntry_49 50 rfl ?_
        refine x_gr C 15 (RJ37, TJ37, 6) rfl 2 (Nat.le_of_ble_eq_true rfl) q1903 (Or.inl rfl) rfl 16 rfl dJ4_getEntry_50 53 rfl (fun x3 => ?_)
        refine s_astore_n C rfl (Nat.le_of_ble_eq_true rfl) [1] rfl rfl dJ4_getEntry_53 54 rfl ?_
        refine s_goto C (off := 18) 72 dJ4_getEntry_54 rfl ?_
        refine Sm_sub [1, 0] rfl ?_
        exact wJ4_getEntry_b72 C hret h0 hin N (fun m v2 v3 k n => ih m v2 v3 k n) _ _ _ _ _
      · refine s_iload C 0 rfl dJ4_getEntry_57 59 rfl ?_
        refine s_if_le C dJ4_getEntry_59 70 rfl 62 rfl (fun c_ => ?_) (fun c_ => ?_)
        · refine s_aload_n C rfl 2 rfl dJ4_getEntry_62 63 rfl ?_
          refine x_gr C 15 (RJ37, TJ37, 6) rfl 3 (Nat.le_of_ble_eq_true rfl) q1906 (Or.inl rfl) rfl 16 rfl dJ4_getEntry_63 66 rfl (fun x4 => ?_)
          refine s_astore_n C rfl (Nat.le_of_ble_eq_true rfl) [1] rfl rfl dJ4_getEntry_66 67 rfl ?_
          refine s_goto C (off := 5) 72 dJ4_getEntry_67 rfl ?_
          refine Sm_sub [1, 0] rfl ?_
          exact wJ4_getEntry_b72 C hret h0 hin N (fun m v2 v3 k n => ih m v2 v3 k n) _ _ _ _ _
        · refine s_aload_n C rfl 2 rfl dJ4_getEntry_70 71 rfl ?_
          exact x_aret C hret (Or.inl ⟨_, rfl⟩) rfl dJ4_getEntry_71
theorem wJ4_getEntry {l : Launch} {g : GG} {E : Me_} (C : Cx_ l g E "java/util/TreeMap" cJ4_getEntry 5 13) (hret : (eT_ E).sig.returnType = (Option.some (Jvm.ClassFile.FieldType.object "java/util/TreeMap$Entry"))) (h0 : ∀ x ∈ (eC_ E).exceptionTable.toList, False) (hin : (eT_ E).name = "getEntry") (N : Nat) : ∀ (m : Mm) (v0 : Option Nat) (v1 : Option Nat) (k n : Nat), Sm_ l g E 5 en_r (fJ4_getEntry (gE_ g) N m v0 v1) k n 0 [(0, vr_ v0), (1, vr_ v1)] [] m := by
  intro m v0 v1 k n
  unfold fJ4_getEntry
  refine s_aload_n C rfl 0 rfl dJ4_getEntry_0 1 rfl ?_
  refine x_gr C 14 (RJ4, TJ4, 9) rfl 2 (Nat.le_of_ble_eq_true rfl) q204 (Or.inl rfl) rfl 15 rfl dJ4_getEntry_1 4 rfl (fun x1 => ?_)
  refine s_ifnull C dJ4_getEntry_4 13 rfl 7 rfl (fun c_ => ?_) (fun c_ => ?_)
  · refine s_aload_n C rfl 1 rfl dJ4_getEntry_13 14 rfl ?_
    refine x_callS (enc := en_r) C 10 1 [vr_ v1] (ctJ23_requireNonNull C.2.2.2.2.2.2.2.2.1 N m v1) q1650 q1651 q110 q1652 hdJ23_requireNonNull (Nat.le_of_ble_eq_true rfl) (Nat.le_of_ble_eq_true rfl) rfl (Nat.le_of_ble_eq_true rfl) dJ4_getEntry_14 17 rfl rfl hen_r (kk_r (fun x2 m1 k1 n1 => ?_)) (kx_n he_r)
    refine s_pop C rfl dJ4_getEntry_17 18 rfl ?_
    refine s_aload_n C rfl 1 rfl dJ4_getEntry_18 19 rfl ?_
    refine x_cc C "java/lang/Comparable" [27] (fun k hk => by rw [List.mem_singleton.mp hk]; exact ⟨rfl, Or.inl q1119⟩) q1042 dJ4_getEntry_19 22 rfl ?_
    refine s_astore_n C rfl (Nat.le_of_ble_eq_true rfl) [0] rfl rfl dJ4_getEntry_22 23 rfl ?_
    refine s_aload_n C rfl 1 rfl dJ4_getEntry_23 24 rfl ?_
    refine x_gr C 14 (RJ4, TJ4, 9) rfl 3 (Nat.le_of_ble_eq_true rfl) q205 (Or.inl rfl) rfl 15 rfl dJ4_getEntry_24 27 rfl (fun x3 => ?_)
    refine s_astore_n C rfl (Nat.le_of_ble_eq_true rfl) [0] rfl rfl dJ4_getEntry_27 28 rfl ?_
    refine Sm_sub [1, 0] rfl ?_
    exact wJ4_getEntry_b28 C hret h0 hin N N _ _ _ _ _
  · refine s_aload_n C rfl 0 rfl dJ4_getEntry_7 8 rfl ?_
    refine s_aload_n C rfl 1 rfl dJ4_getEntry_8 9 rfl ?_
    exact Sm_none
theorem hdJ4_getEntry : ((⟨"java/util/TreeMap", "getEntry", "(Ljava/lang/Object;)Ljava/util/TreeMap$Entry;"⟩ : MethodName)).cls ≠ "java/lang/invoke/MethodHandle" ∧ ((⟨"java/util/TreeMap", "getEntry", "(Ljava/lang/Object;)Ljava/util/TreeMap$Entry;"⟩ : MethodName)).cls ≠ "java/lang/invoke/VarHandle" ∧ (parseMethodDescriptor ((⟨"java/util/TreeMap", "getEntry", "(Ljava/lang/Object;)Ljava/util/TreeMap$Entry;"⟩ : MethodName)).desc).map (fun d => d.parameters.length) = some 1 := ⟨by decide +kernel, by decide +kernel, by decide +kernel⟩
theorem ctJ4_getEntry {l : Launch} {g : GG} (hst : l.stackTraces = false) (N : Nat) (m : Mm) (v0 : Option Nat) (v1 : Option Nat) : ∀ v m' k n, fJ4_getEntry (gE_ g) N m v0 v1 = some (v, m', k, n) → Ct_ l g (⟨"java/util/TreeMap", "getEntry", "(Ljava/lang/Object;)Ljava/util/TreeMap$Entry;"⟩ : MethodName) (ws_ (⟨"java/util/TreeMap", "getEntry", "(Ljava/lang/Object;)Ljava/util/TreeMap$Entry;"⟩ : MethodName) cJ4_getEntry 5 (Option.some (Jvm.ClassFile.FieldType.object "java/util/TreeMap$Entry"))) 13 [vr_ v0, vr_ v1] m (en_r v) m' k n :=
  Ct_of (by decide +kernel) rfl hst (Nat.le_of_ble_eq_true rfl) rfl (fun E C hret h0 hin => wJ4_getEntry C hret h0 hin N m v0 v1 0 0)
theorem wJ4_get_b18 {l : Launch} {g : GG} {E : Me_} (C : Cx_ l g E "java/util/TreeMap" cJ4_get 3 14) (hret : (eT_ E).sig.returnType = (Option.some (Jvm.ClassFile.FieldType.object "java/lang/Object"))) (h0 : ∀ x ∈ (eC_ E).exceptionTable.toList, False) (hin : (eT_ E).name = "get") (N : Nat) : ∀ (m : Mm) (s0 : Option Nat) (k n : Nat), Sm_ l g E 3 en_r (fJ4_get_b18 (gE_ g) N m s0) k n 18 [] [vr_ s0] m := by
  intro m s0 k n
  unfold fJ4_get_b18
  exact x_aret C hret (Or.inl ⟨_, rfl⟩) rfl dJ4_get_18
theorem wJ4_get {l : Launch} {g : GG} {E : Me_} (C : Cx_ l g E "java/util/TreeMap" cJ4_get 3 14) (hret : (eT_ E).sig.returnType = (Option.some (Jvm.ClassFile.FieldType.object "java/lang/Object"))) (h0 : ∀ x ∈ (eC_ E).exceptionTable.toList, False) (hin : (eT_ E).name = "get") (N : Nat) : ∀ (m : Mm) (v0 : Option Nat) (v1 : Option Nat) (k n : Nat), Sm_ l g E 3 en_r (fJ4_get (gE_ g) N m v0 v1) k n 0 [(0, vr_ v0), (1, vr_ v1)] [] m := by
  intro m v0 v1 k n
  unfold fJ4_get
  refine s_aload_n C rfl 0 rfl dJ4_get_0 1 rfl ?_
  refine s_aload_n C rfl 1 rfl dJ4_get_1 2 rfl ?_
  refine x_ck (fun hb_ hb0_ => ?_)
  refine x_callV (enc := en_r) C 13 1 [vr_ v1] 15 (ctJ4_getEntry C.2.2.2.2.2.2.2.2.1 N m v0 v1) hb_ hb0_ rfl rfl q1642 q1643 q1644 q87 q1645 hdJ4_getEntry (Nat.le_of_ble_eq_true rfl) (Nat.le_of_ble_eq_true rfl) rfl (Nat.le_of_ble_eq_true rfl) dJ4_get_2 5 rfl rfl hen_r (kk_r (fun x1 m1 k1 n1 => ?_)) (kx_n he_r)
  refine s_astore_n C rfl (Nat.le_of_ble_eq_true rfl) [] rfl rfl dJ4_get_5 6 rfl ?_
  refine s_aload_n C rfl 0 rfl dJ4_get_6 7 rfl ?_
  refine s_ifnonnull C dJ4_get_7 14 rfl 10 rfl (fun c_ => ?_) (fun c_ => ?_)
  · refine s_null C dJ4_get_10 11 rfl ?_
    refine s_goto C (off := 7) 18 dJ4_get_11 rfl ?_
    refine Sm_sub [] rfl ?_
    exact wJ4_get_b18 C hret h0 hin N _ _ _ _
  · refine s_aload_n C rfl 0 rfl dJ4_get_14 15 rfl ?_
    refine x_gr C 15 (RJ37, TJ37, 6) rfl 1 (Nat.le_of_ble_eq_true rfl) q1900 (Or.inl rfl) rfl 16 rfl dJ4_get_15 18 rfl (fun x2 => ?_)
    refine Sm_sub [] rfl ?_
    exact wJ4_get_b18 C hret h0 hin N _ _ _ _
theorem hdJ4_get : ((⟨"java/util/TreeMap", "get", "(Ljava/lang/Object;)Ljava/lang/Object;"⟩ : MethodName)).cls ≠ "java/lang/invoke/MethodHandle" ∧ ((⟨"java/util/TreeMap", "get", "(Ljava/lang/Object;)Ljava/lang/Object;"⟩ : MethodName)).cls ≠ "java/lang/invoke/VarHandle" ∧ (parseMethodDescriptor ((⟨"java/util/TreeMap", "get", "(Ljava/lang/Object;)Ljava/lang/Object;"⟩ : MethodName)).desc).map (fun d => d.parameters.length) = some 1 := ⟨by decide +kernel, by decide +kernel, by decide +kernel⟩
theorem ctJ4_get {l : Launch} {g : GG} (hst : l.stackTraces = false) (N : Nat) (m : Mm) (v0 : Option Nat) (v1 : Option Nat) : ∀ v m' k n, fJ4_get (gE_ g) N m v0 v1 = some (v, m', k, n) → Ct_ l g (⟨"java/util/TreeMap", "get", "(Ljava/lang/Object;)Ljava/lang/Object;"⟩ : MethodName) (ws_ (⟨"java/util/TreeMap", "get", "(Ljava/lang/Object;)Ljava/lang/Object;"⟩ : MethodName) cJ4_get 3 (Option.some (Jvm.ClassFile.FieldType.object "java/lang/Object"))) 14 [vr_ v0, vr_ v1] m (en_r v) m' k n :=
  Ct_of (by decide +kernel) rfl hst (Nat.le_of_ble_eq_true rfl) rfl (fun E C hret h0 hin => wJ4_get C hret h0 hin N m v0 v1 0 0)
theorem wJ28_longValue {l : Launch} {g : GG} {E : Me_} (C : Cx_ l g E "java/lang/Long" cJ28_longValue 1 10) (hret : (eT_ E).sig.returnType = (Option.some Jvm.ClassFile.FieldType.long)) (h0 : ∀ x ∈ (eC_ E).exceptionTable.toList, False) (hin : (eT_ E).name = "longValue") (N : Nat) : ∀ (m : Mm) (v0 : Option Nat) (k n : Nat), Sm_ l g E 1 en_j (fJ28_longValue (gE_ g) N m v0) k n 0 [(0, vr_ v0)] [] m := by
  intro m v0 k n
  unfold fJ28_longValue
  refine s_aload_n C rfl 0 rfl dJ28_longValue_0 1 rfl ?_
  refine x_gj C 27 (RJ28, TJ28, 1) rfl 0 (Nat.le_of_ble_eq_true rfl) q1869 (Or.inl rfl) rfl 28 rfl dJ28_longValue_1 4 rfl (fun x1 => ?_)
  exact x_lret C hret rfl dJ28_longValue_4
theorem hdJ28_longValue : ((⟨"java/lang/Long", "longValue", "()J"⟩ : MethodName)).cls ≠ "java/lang/invoke/MethodHandle" ∧ ((⟨"java/lang/Long", "longValue", "()J"⟩ : MethodName)).cls ≠ "java/lang/invoke/VarHandle" ∧ (parseMethodDescriptor ((⟨"java/lang/Long", "longValue", "()J"⟩ : MethodName)).desc).map (fun d => d.parameters.length) = some 0 := ⟨by decide +kernel, by decide +kernel, by decide +kernel⟩
theorem ctJ28_longValue {l : Launch} {g : GG} (hst : l.stackTraces = false) (N : Nat) (m : Mm) (v0 : Option Nat) : ∀ v m' k n, fJ28_longValue (gE_ g) N m v0 = some (v, m', k, n) → Ct_ l g (⟨"java/lang/Long", "longValue", "()J"⟩ : MethodName) (ws_ (⟨"java/lang/Long", "longValue", "()J"⟩ : MethodName) cJ28_longValue 1 (Option.some Jvm.ClassFile.FieldType.long)) 10 [vr_ v0] m (en_j v) m' k n :=
  Ct_of (by decide +kernel) rfl hst (Nat.le_of_ble_eq_true rfl) rfl (fun E C hret h0 hin => wJ28_longValue C hret h0 hin N m v0 0 0)
theorem wX3_isLive_b26 {l : Launch} {g : GG} {E : Me_} (C : Cx_ l g E "MasterTree$Entry" cX3_isLive 1 10) (hret : (eT_ E).sig.returnType = (Option.some Jvm.ClassFile.FieldType.boolean)) (h0 : ∀ x ∈ (eC_ E).exceptionTable.toList, False) (hin : (eT_ E).name = "isLive") (N : Nat) : ∀ (m : Mm) (s0 : Int32) (k n : Nat), Sm_ l g E 1 en_i (fX3_isLive_b26 (gE_ g) N m s0) k n 26 [] [vi_ s0] m := by
  intro m s0 k n
  unfold fX3_isLive_b26
  exact x_zret C hret rfl dX3_isLive_26
theorem wX3_isLive_b21 {l : Launch} {g : GG} {E : Me_} (C : Cx_ l g E "MasterTree$Entry" cX3_isLive 1 10) (hret : (eT_ E).sig.returnType = (Option.some Jvm.ClassFile.FieldType.boolean)) (h0 : ∀ x ∈ (eC_ E).exceptionTable.toList, False) (hin : (eT_ E).name = "isLive") (N : Nat) : ∀ (m : Mm) (k n : Nat), Sm_ l g E 1 en_i (fX3_isLive_b21 (gE_ g) N m) k n 21 [] [] m := by
  intro m k n
  unfold fX3_isLive_b21
  refine s_iconst C 1 rfl dX3_isLive_21 22 rfl ?_
  refine s_goto C (off := 4) 26 dX3_isLive_22 rfl ?_
  exact wX3_isLive_b26 C hret h0 hin N _ _ _ _
theorem wX3_isLive_b25 {l : Launch} {g : GG} {E : Me_} (C : Cx_ l g E "MasterTree$Entry" cX3_isLive 1 10) (hret : (eT_ E).sig.returnType = (Option.some Jvm.ClassFile.FieldType.boolean)) (h0 : ∀ x ∈ (eC_ E).exceptionTable.toList, False) (hin : (eT_ E).name = "isLive") (N : Nat) : ∀ (m : Mm) (k n : Nat), Sm_ l g E 1 en_i (fX3_isLive_b25 (gE_ g) N m) k n 25 [] [] m := by
  intro m k n
  unfold fX3_isLive_b25
  refine s_iconst C 0 rfl dX3_isLive_25 26 rfl ?_
  exact wX3_isLive_b26 C hret h0 hin N _ _ _ _
theorem wX3_isLive {l : Launch} {g : GG} {E : Me_} (C : Cx_ l g E "MasterTree$Entry" cX3_isLive 1 10) (hret : (eT_ E).sig.returnType = (Option.some Jvm.ClassFile.FieldType.boolean)) (h0 : ∀ x ∈ (eC_ E).exceptionTable.toList, False) (hin : (eT_ E).name = "isLive") (N : Nat) : ∀ (m : Mm) (v0 : Option Nat) (k n : Nat), Sm_ l g E 1 en_i (fX3_isLive (gE_ g) N m v0) k n 0 [(0, vr_ v0)] [] m := by
  intro m v0 k n
  unfold fX3_isLive
  refine s_aload_n C rfl 0 rfl dX3_isLive_0 1 rfl ?_
  refine x_gi C 2 (RX3, TX3, 9) rfl 0 (Nat.le_of_ble_eq_true rfl) q245 (Or.inl rfl) rfl 3 rfl dX3_isLive_1 4 rfl (fun x1 => ?_)
  refine s_if_eq C dX3_isLive_4 21 rfl 7 rfl (fun c_ => ?_) (fun c_ => ?_)
  · refine Sm_sub [] rfl ?_
    exact wX3_isLive_b21 C hret h0 hin N _ _ _
  · refine s_aload_n C rfl 0 rfl dX3_isLive_7 8 rfl ?_
    refine x_gr C 2 (RX3, TX3, 9) rfl 3 (Nat.le_of_ble_eq_true rfl) q251 (Or.inl rfl) rfl 3 rfl dX3_isLive_8 11 rfl (fun x2 => ?_)
    refine s_ifnull C dX3_isLive_11 25 rfl 14 rfl (fun c_ => ?_) (fun c_ => ?_)
    · refine Sm_sub [] rfl ?_
      exact wX3_isLive_b25 C hret h0 hin N _ _ _
    · refine s_aload_n C rfl 0 rfl dX3_isLive_14 15 rfl ?_
      refine x_gi C 2 (RX3, TX3, 9) rfl 4 (Nat.le_of_ble_eq_true rfl) q256 (Or.inl rfl) rfl 3 rfl dX3_isLive_15 18 rfl (fun x3 => ?_)
      refine s_if_ne C dX3_isLive_18 25 rfl 21 rfl (fun c_ => ?_) (fun c_ => ?_)
      · refine Sm_sub [] rfl ?_
        exact wX3_isLive_b21 C hret h0 hin N _ _ _
      · refine Sm_sub [] rfl ?_
        exact wX3_isLive_b25 C hret h0 hin N _ _ _
theorem hdX3_isLive : ((⟨"MasterTree$Entry", "isLive", "()Z"⟩ : MethodName)).cls ≠ "java/lang/invoke/MethodHandle" ∧ ((⟨"MasterTree$Entry", "isLive", "()Z"⟩ : MethodName)).cls ≠ "java/lang/invoke/VarHandle" ∧ (parseMethodDescriptor ((⟨"MasterTree$Entry", "isLive", "()Z"⟩ : MethodName)).desc).map (fun d => d.parameters.length) = some 0 := ⟨by decide +kernel, by decide +kernel, by decide +kernel⟩
theorem ctX3_isLive {l : Launch} {g : GG} (hst : l.stackTraces = false) (N : Nat) (m : Mm) (v0 : Option Nat) : ∀ v m' k n, fX3_isLive (gE_ g) N m v0 = some (v, m', k, n) → Ct_ l g (⟨"MasterTree$Entry", "isLive", "()Z"⟩ : MethodName) (ws_ (⟨"MasterTree$Entry", "isLive", "()Z"⟩ : MethodName) cX3_isLive 1 (Option.some Jvm.ClassFile.FieldType.boolean)) 10 [vr_ v0] m (en_i v) m' k n :=
  Ct_of (by decide +kernel) rfl hst (Nat.le_of_ble_eq_true rfl) rfl (fun E C hret h0 hin => wX3_isLive C hret h0 hin N m v0 0 0)
theorem wJ0_init_t17 {l : Launch} {g : GG} {E : Me_} (C : Cx_ l g E "java/util/AbstractCollection" cJ0_init 1 10) (hret : (eT_ E).sig.returnType = (Option.none : Option Jvm.ClassFile.FieldType)) (h0 : ∀ x ∈ (eC_ E).exceptionTable.toList, False) (hin : (eT_ E).name = "<init>") (N : Nat) : ∀ (m : Mm) (v0 : Option Nat) (k n : Nat), Sm_ l g E 1 en_v (fJ0_init_t17 (gE_ g) N m v0) k n 0 [(0, vr_ v0)] [] m := by
  intro m v0 k n
  unfold fJ0_init_t17
  refine s_aload_n C rfl 0 rfl dJ0_init_0 1 rfl ?_
  refine x_ok (fun hb_ => ?_)
  refine x_obj C hb_ q165 q152 q153 (by decide) (Nat.le_of_ble_eq_true rfl) dJ0_init_1 4 rfl ?_
  exact x_vret C hret rfl dJ0_init_4
theorem hdJ0_init_t17 : ((⟨"java/util/AbstractCollection", "<init>", "()V"⟩ : MethodName)).cls ≠ "java/lang/invoke/MethodHandle" ∧ ((⟨"java/util/AbstractCollection", "<init>", "()V"⟩ : MethodName)).cls ≠ "java/lang/invoke/VarHandle" ∧ (parseMethodDescriptor ((⟨"java/util/AbstractCollection", "<init>", "()V"⟩ : MethodName)).desc).map (fun d => d.parameters.length) = some 0 := ⟨by decide +kernel, by decide +kernel, by decide +kernel⟩
theorem ctJ0_init_t17 {l : Launch} {g : GG} (hst : l.stackTraces = false) (N : Nat) (m : Mm) (v0 : Option Nat) : ∀ v m' k n, fJ0_init_t17 (gE_ g) N m v0 = some (v, m', k, n) → Ct_ l g (⟨"java/util/AbstractCollection", "<init>", "()V"⟩ : MethodName) (ws_ (⟨"java/util/AbstractCollection", "<init>", "()V"⟩ : MethodName) cJ0_init 1 (Option.none : Option Jvm.ClassFile.FieldType)) 10 [vr_ v0] m (en_v v) m' k n :=
  Ct_of (by decide +kernel) rfl hst (Nat.le_of_ble_eq_true rfl) rfl (fun E C hret h0 hin => wJ0_init_t17 C hret h0 hin N m v0 0 0)
theorem wJ24_init_t17 {l : Launch} {g : GG} {E : Me_} (C : Cx_ l g E "java/util/AbstractSet" cJ24_init 1 11) (hret : (eT_ E).sig.returnType = (Option.none : Option Jvm.ClassFile.FieldType)) (h0 : ∀ x ∈ (eC_ E).exceptionTable.toList, False) (hin : (eT_ E).name = "<init>") (N : Nat) : ∀ (m : Mm) (v0 : Option Nat) (k n : Nat), Sm_ l g E 1 en_v (fJ24_init_t17 (gE_ g) N m v0) k n 0 [(0, vr_ v0)] [] m := by
  intro m v0 k n
  unfold fJ24_init_t17
  refine s_aload_n C rfl 0 rfl dJ24_init_0 1 rfl ?_
  refine x_ok (fun hb0_ => ?_)
  refine x_callI (enc := en_v) C 10 0 [] (ctJ0_init_t17 C.2.2.2.2.2.2.2.2.1 N m v0) hb0_ rfl q1007 q163 q82 q164 rfl hdJ0_init_t17 (Nat.le_of_ble_eq_true rfl) (Nat.le_of_ble_eq_true rfl) rfl (Nat.le_of_ble_eq_true rfl) dJ24_init_1 4 rfl rfl hen_v (kk_v (fun m1 k1 n1 => ?_)) (kx_n he_v)
  exact x_vret C hret rfl dJ24_init_4
theorem hdJ24_init_t17 : ((⟨"java/util/AbstractSet", "<init>", "()V"⟩ : MethodName)).cls ≠ "java/lang/invoke/MethodHandle" ∧ ((⟨"java/util/AbstractSet", "<init>", "()V"⟩ : MethodName)).cls ≠ "java/lang/invoke/VarHandle" ∧ (parseMethodDescriptor ((⟨"java/util/AbstractSet", "<init>", "()V"⟩ : MethodName)).desc).map (fun d => d.parameters.length) = some 0 := ⟨by decide +kernel, by decide +kernel, by decide +kernel⟩
theorem ctJ24_init_t17 {l : Launch} {g : GG} (hst : l.stackTraces = false) (N : Nat) (m : Mm) (v0 : Option Nat) : ∀ v m' k n, fJ24_init_t17 (gE_ g) N m v0 = some (v, m', k, n) → Ct_ l g (⟨"java/util/AbstractSet", "<init>", "()V"⟩ : MethodName) (ws_ (⟨"java/util/AbstractSet", "<init>", "()V"⟩ : MethodName) cJ24_init 1 (Option.none : Option Jvm.ClassFile.FieldType)) 11 [vr_ v0] m (en_v v) m' k n :=
  Ct_of (by decide +kernel) rfl hst (Nat.le_of_ble_eq_true rfl) rfl (fun E C hret h0 hin => wJ24_init_t17 C hret h0 hin N m v0 0 0)
theorem wJ36_init {l : Launch} {g : GG} {E : Me_} (C : Cx_ l g E "java/util/TreeMap$KeySet" cJ36_init 2 12) (hret : (eT_ E).sig.returnType = (Option.none : Option Jvm.ClassFile.FieldType)) (h0 : ∀ x ∈ (eC_ E).exceptionTable.toList, False) (hin : (eT_ E).name = "<init>") (N : Nat) : ∀ (m : Mm) (v0 : Option Nat) (v1 : Option Nat) (k n : Nat), Sm_ l g E 2 en_v (fJ36_init (gE_ g) N m v0 v1) k n 0 [(0, vr_ v0), (1, vr_ v1)] [] m := by
  intro m v0 v1 k n
  unfold fJ36_init
  refine s_aload_n C rfl 0 rfl dJ36_init_0 1 rfl ?_
  refine x_ok (fun hb0_ => ?_)
  refine x_callI (enc := en_v) C 11 0 [] (ctJ24_init_t17 C.2.2.2.2.2.2.2.2.1 N m v0) hb0_ rfl q1841 q1005 q112 q1006 rfl hdJ24_init_t17 (Nat.le_of_ble_eq_true rfl) (Nat.le_of_ble_eq_true rfl) rfl (Nat.le_of_ble_eq_true rfl) dJ36_init_1 4 rfl rfl hen_v (kk_v (fun m1 k1 n1 => ?_)) (kx_n he_v)
  refine s_aload_n C rfl 0 rfl dJ36_init_4 5 rfl ?_
  refine s_aload_n C rfl 1 rfl dJ36_init_5 6 rfl ?_
  refine x_prF C hin 16 (RJ36, TJ36, 1) rfl 0 (Nat.le_of_ble_eq_true rfl) rfl q1842 rfl rfl trivial 17 rfl dJ36_init_6 9 rfl (fun m2 => ?_)
  exact x_vret C hret rfl dJ36_init_9
theorem hdJ36_init : ((⟨"java/util/TreeMap$KeySet", "<init>", "(Ljava/util/NavigableMap;)V"⟩ : MethodName)).cls ≠ "java/lang/invoke/MethodHandle" ∧ ((⟨"java/util/TreeMap$KeySet", "<init>", "(Ljava/util/NavigableMap;)V"⟩ : MethodName)).cls ≠ "java/lang/invoke/VarHandle" ∧ (parseMethodDescriptor ((⟨"java/util/TreeMap$KeySet", "<init>", "(Ljava/util/NavigableMap;)V"⟩ : MethodName)).desc).map (fun d => d.parameters.length) = some 1 := ⟨by decide +kernel, by decide +kernel, by decide +kernel⟩
theorem ctJ36_init {l : Launch} {g : GG} (hst : l.stackTraces = false) (N : Nat) (m : Mm) (v0 : Option Nat) (v1 : Option Nat) : ∀ v m' k n, fJ36_init (gE_ g) N m v0 v1 = some (v, m', k, n) → Ct_ l g (⟨"java/util/TreeMap$KeySet", "<init>", "(Ljava/util/NavigableMap;)V"⟩ : MethodName) (ws_ (⟨"java/util/TreeMap$KeySet", "<init>", "(Ljava/util/NavigableMap;)V"⟩ : MethodName) cJ36_init 2 (Option.none : Option Jvm.ClassFile.FieldType)) 12 [vr_ v0, vr_ v1] m (en_v v) m' k n :=
  Ct_of (by decide +kernel) rfl hst (Nat.le_of_ble_eq_true rfl) rfl (fun E C hret h0 hin => wJ36_init C hret h0 hin N m v0 v1 0 0)
theorem wJ4_navigableKeySet_b26 {l : Launch} {g : GG} {E : Me_} (C : Cx_ l g E "java/util/TreeMap" cJ4_navigableKeySet 2 13) (hret : (eT_ E).sig.returnType = (Option.some (Jvm.ClassFile.FieldType.object "java/util/NavigableSet"))) (h0 : ∀ x ∈ (eC_ E).exceptionTable.toList, False) (hin : (eT_ E).name = "navigableKeySet") (N : Nat) : ∀ (m : Mm) (s0 : Option Nat) (k n : Nat), Sm_ l g E 2 en_r (fJ4_navigableKeySet_b26 (gE_ g) N m s0) k n 26 [] [vr_ s0] m := by
  intro m s0 k n
  unfold fJ4_navigableKeySet_b26
  exact x_aret C hret (Or.inl ⟨_, rfl⟩) rfl dJ4_navigableKeySet_26
theorem wJ4_navigableKeySet {l : Launch} {g : GG} {E : Me_} (C : Cx_ l g E "java/util/TreeMap" cJ4_navigableKeySet 2 13) (hret : (eT_ E).sig.returnType = (Option.some (Jvm.ClassFile.FieldType.object "java/util/NavigableSet"))) (h0 : ∀ x ∈ (eC_ E).exceptionTable.toList, False) (hin : (eT_ E).name = "navigableKeySet") (N : Nat) : ∀ (m : Mm) (v0 : Option Nat) (k n : Nat), Sm_ l g E 2 en_r (fJ4_navigableKeySet (gE_ g) N m v0) k n 0 [(0, vr_ v0)] [] m := by
  intro m v0 k n
  unfold fJ4_navigableKeySet
  refine s_aload_n C rfl 0 rfl dJ4_navigableKeySet_0 1 rfl ?_
  refine x_gr C 14 (RJ4, TJ4, 9) rfl 7 (Nat.le_of_ble_eq_true rfl) q212 (Or.inl rfl) rfl 15 rfl dJ4_navigableKeySet_1 4 rfl (fun x1 => ?_)
  refine s_astore_n C rfl (Nat.le_of_ble_eq_true rfl) [0] rfl rfl dJ4_navigableKeySet_4 5 rfl ?_
  refine s_aload_n C rfl 0 rfl dJ4_navigableKeySet_5 6 rfl ?_
  refine s_ifnull C dJ4_navigableKeySet_6 13 rfl 9 rfl (fun c_ => ?_) (fun c_ => ?_)
  · refine s_aload_n C rfl 1 rfl dJ4_navigableKeySet_13 14 rfl ?_
    refine x_nw C 16 (RJ36, TJ36, 1) rfl q1836 q1837 q128 17 1 rfl rfl dJ4_navigableKeySet_14 17 rfl (fun x2 m1 => ?_)
    refine s_dup C rfl dJ4_navigableKeySet_17 18 rfl ?_
    refine s_aload_n C rfl 1 rfl dJ4_navigableKeySet_18 19 rfl ?_
    refine x_callI (enc := en_v) C 12 1 [vr_ v0] (ctJ36_init C.2.2.2.2.2.2.2.2.1 N m1 (some x2) v0) (fun h => by cases h) rfl q1838 q1839 q128 q1840 rfl hdJ36_init (Nat.le_of_ble_eq_true rfl) (Nat.le_of_ble_eq_true rfl) rfl (Nat.le_of_ble_eq_true rfl) dJ4_navigableKeySet_19 22 rfl rfl hen_v (kk_v (fun m2 k1 n1 => ?_)) (kx_n he_v)
    refine s_dup_x1 C rfl rfl dJ4_navigableKeySet_22 23 rfl ?_
    refine x_pr C 14 (RJ4, TJ4, 9) rfl 7 (Nat.le_of_ble_eq_true rfl) rfl q212 (Or.inl rfl) rfl trivial 15 rfl dJ4_navigableKeySet_23 26 rfl (fun m3 => ?_)
    refine Sm_sub [] rfl ?_
    exact wJ4_navigableKeySet_b26 C hret h0 hin N _ _ _ _
  · refine s_aload_n C rfl 0 rfl dJ4_navigableKeySet_9 10 rfl ?_
    refine s_goto C (off := 16) 26 dJ4_navigableKeySet_10 rfl ?_
    refine Sm_sub [] rfl ?_
    exact wJ4_navigableKeySet_b26 C hret h0 hin N _ _ _ _
theorem hdJ4_navigableKeySet : ((⟨"java/util/TreeMap", "navigableKeySet", "()Ljava/util/NavigableSet;"⟩ : MethodName)).cls ≠ "java/lang/invoke/MethodHandle" ∧ ((⟨"java/util/TreeMap", "navigableKeySet", "()Ljava/util/NavigableSet;"⟩ : MethodName)).cls ≠ "java/lang/invoke/VarHandle" ∧ (parseMethodDescriptor ((⟨"java/util/TreeMap", "navigableKeySet", "()Ljava/util/NavigableSet;"⟩ : MethodName)).desc).map (fun d => d.parameters.length) = some 0 := ⟨by decide +kernel, by decide +kernel, by decide +kernel⟩
theorem ctJ4_navigableKeySet {l : Launch} {g : GG} (hst : l.stackTraces = false) (N : Nat) (m : Mm) (v0 : Option Nat) : ∀ v m' k n, fJ4_navigableKeySet (gE_ g) N m v0 = some (v, m', k, n) → Ct_ l g (⟨"java/util/TreeMap", "navigableKeySet", "()Ljava/util/NavigableSet;"⟩ : MethodName) (ws_ (⟨"java/util/TreeMap", "navigableKeySet", "()Ljava/util/NavigableSet;"⟩ : MethodName) cJ4_navigableKeySet 2 (Option.some (Jvm.ClassFile.FieldType.object "java/util/NavigableSet"))) 13 [vr_ v0] m (en_r v) m' k n :=
  Ct_of (by decide +kernel) rfl hst (Nat.le_of_ble_eq_true rfl) rfl (fun E C hret h0 hin => wJ4_navigableKeySet C hret h0 hin N m v0 0 0)
theorem wJ4_keySet {l : Launch} {g : GG} {E : Me_} (C : Cx_ l g E "java/util/TreeMap" cJ4_keySet 1 14) (hret : (eT_ E).sig.returnType = (Option.some (Jvm.ClassFile.FieldType.object "java/util/Set"))) (h0 : ∀ x ∈ (eC_ E).exceptionTable.toList, False) (hin : (eT_ E).name = "keySet") (N : Nat) : ∀ (m : Mm) (v0 : Option Nat) (k n : Nat), Sm_ l g E 1 en_r (fJ4_keySet (gE_ g) N m v0) k n 0 [(0, vr_ v0)] [] m := by
  intro m v0 k n
  unfold fJ4_keySet
  refine s_aload_n C rfl 0 rfl dJ4_keySet_0 1 rfl ?_
  refine x_ck (fun hb_ hb0_ => ?_)
  refine x_callV (enc := en_r) C 13 0 [] 15 (ctJ4_navigableKeySet C.2.2.2.2.2.2.2.2.1 N m v0) hb_ hb0_ rfl rfl q1832 q1833 q1834 q87 q1835 hdJ4_navigableKeySet (Nat.le_of_ble_eq_true rfl) (Nat.le_of_ble_eq_true rfl) rfl (Nat.le_of_ble_eq_true rfl) dJ4_keySet_1 4 rfl rfl hen_r (kk_r (fun x1 m1 k1 n1 => ?_)) (kx_n he_r)
  exact x_aret C hret (Or.inl ⟨_, rfl⟩) rfl dJ4_keySet_4
theorem hdJ4_keySet : ((⟨"java/util/TreeMap", "keySet", "()Ljava/util/Set;"⟩ : MethodName)).cls ≠ "java/lang/invoke/MethodHandle" ∧ ((⟨"java/util/TreeMap", "keySet", "()Ljava/util/Set;"⟩ : MethodName)).cls ≠ "java/lang/invoke/VarHandle" ∧ (parseMethodDescriptor ((⟨"java/util/TreeMap", "keySet", "()Ljava/util/Set;"⟩ : MethodName)).desc).map (fun d => d.parameters.length) = some 0 := ⟨by decide +kernel, by decide +kernel, by decide +kernel⟩
theorem ctJ4_keySet {l : Launch} {g : GG} (hst : l.stackTraces = false) (N : Nat) (m : Mm) (v0 : Option Nat) : ∀ v m' k n, fJ4_keySet (gE_ g) N m v0 = some (v, m', k, n) → Ct_ l g (⟨"java/util/TreeMap", "keySet", "()Ljava/util/Set;"⟩ : MethodName) (ws_ (⟨"java/util/TreeMap", "keySet", "()Ljava/util/Set;"⟩ : MethodName) cJ4_keySet 1 (Option.some (Jvm.ClassFile.FieldType.object "java/util/Set"))) 14 [vr_ v0] m (en_r v) m' k n :=
  Ct_of (by decide +kernel) rfl hst (Nat.le_of_ble_eq_true rfl) rfl (fun E C hret h0 hin => wJ4_keySet C hret h0 hin N m v0 0 0)
theorem wJ38_tooHigh_t21_b35 {l : Launch} {g : GG} {E : Me_} (C : Cx_ l g E "java/util/TreeMap$NavigableSubMap" cJ38_tooHigh 3 14) (hret : (eT_ E).sig.returnType = (Option.some Jvm.ClassFile.FieldType.boolean)) (h0 : ∀ x ∈ (eC_ E).exceptionTable.toList, False) (hin : (eT_ E).name = "tooHigh") (N : Nat) : ∀ (m : Mm) (k n : Nat), Sm_ l g E 3 en_i (fJ38_tooHigh_t21_b35 (gE_ g) N m) k n 35 [] [] m := by
  intro m k n
  unfold fJ38_tooHigh_t21_b35
  refine s_iconst C 1 rfl dJ38_tooHigh_35 36 rfl ?_
  exact x_zret0 C hret (by decide) rfl dJ38_tooHigh_36
theorem wJ38_tooHigh_t21_b37 {l : Launch} {g : GG} {E : Me_} (C : Cx_ l g E "java/util/TreeMap$NavigableSubMap" cJ38_tooHigh 3 14) (hret : (eT_ E).sig.returnType = (Option.some Jvm.ClassFile.FieldType.boolean)) (h0 : ∀ x ∈ (eC_ E).exceptionTable.toList, False) (hin : (eT_ E).name = "tooHigh") (N : Nat) : ∀ (m : Mm) (k n : Nat), Sm_ l g E 3 en_i (fJ38_tooHigh_t21_b37 (gE_ g) N m) k n 37 [] [] m := by
  intro m k n
  unfold fJ38_tooHigh_t21_b37
  refine s_iconst C 0 rfl dJ38_tooHigh_37 38 rfl ?_
  exact x_zret0 C hret (by decide) rfl dJ38_tooHigh_38
theorem wJ38_tooHigh_t21 {l : Launch} {g : GG} {E : Me_} (C : Cx_ l g E "java/util/TreeMap$NavigableSubMap" cJ38_tooHigh 3 14) (hret : (eT_ E).sig.returnType = (Option.some Jvm.ClassFile.FieldType.boolean)) (h0 : ∀ x ∈ (eC_ E).exceptionTable.toList, False) (hin : (eT_ E).name = "tooHigh") (N : Nat) : ∀ (m : Mm) (v0 : Option Nat) (v1 : Option Nat) (k n : Nat), Sm_ l g E 3 en_i (fJ38_tooHigh_t21 (gE_ g) N m v0 v1) k n 0 [(0, vr_ v0), (1, vr_ v1)] [] m := by
  intro m v0 v1 k n
  unfold fJ38_tooHigh_t21
  refine s_aload_n C rfl 0 rfl dJ38_tooHigh_0 1 rfl ?_
  refine x_gi C 20 (RJ39, TJ39, 12) rfl 4 (Nat.le_of_ble_eq_true rfl) q2018 (Or.inl rfl) rfl 21 rfl dJ38_tooHigh_1 4 rfl (fun x1 => ?_)
  refine s_if_ne C dJ38_tooHigh_4 37 rfl 7 rfl (fun c_ => ?_) (fun c_ => ?_)
  · refine s_aload_n C rfl 0 rfl dJ38_tooHigh_7 8 rfl ?_
    refine x_gr C 20 (RJ39, TJ39, 12) rfl 0 (Nat.le_of_ble_eq_true rfl) q2012 (Or.inl rfl) rfl 21 rfl dJ38_tooHigh_8 11 rfl (fun x2 => ?_)
    refine s_aload_n C rfl 1 rfl dJ38_tooHigh_11 12 rfl ?_
    refine s_aload_n C rfl 0 rfl dJ38_tooHigh_12 13 rfl ?_
    refine x_gr C 20 (RJ39, TJ39, 12) rfl 2 (Nat.le_of_ble_eq_true rfl) q2015 (Or.inl rfl) rfl 21 rfl dJ38_tooHigh_13 16 rfl (fun x3 => ?_)
    refine x_ck (fun hb_ hb0_ => ?_)
    refine x_callV (enc := en_i) C 13 2 [vr_ v1, vr_ x3] 15 (ctJ4_compare C.2.2.2.2.2.2.2.2.1 N m x2 v1 x3) hb_ hb0_ rfl rfl q1337 q1039 q1040 q87 q1041 hdJ4_compare (Nat.le_of_ble_eq_true rfl) (Nat.le_of_ble_eq_true rfl) rfl (Nat.le_of_ble_eq_true rfl) dJ38_tooHigh_16 19 rfl rfl hen_i (kk_i (fun x4 m1 k1 n1 => ?_)) (kx_n he_i)
    refine s_istore_n C rfl (Nat.le_of_ble_eq_true rfl) [0] rfl rfl dJ38_tooHigh_19 20 rfl ?_
    refine s_iload_n C rfl 0 rfl dJ38_tooHigh_20 21 rfl ?_
    refine s_if_gt C dJ38_tooHigh_21 35 rfl 24 rfl (fun c_ => ?_) (fun c_ => ?_)
    · refine Sm_sub [] rfl ?_
      exact wJ38_tooHigh_t21_b35 C hret h0 hin N _ _ _
    · refine s_iload_n C rfl 0 rfl dJ38_tooHigh_24 25 rfl ?_
      refine s_if_ne C dJ38_tooHigh_25 37 rfl 28 rfl (fun c_ => ?_) (fun c_ => ?_)
      · refine s_aload_n C rfl 1 rfl dJ38_tooHigh_28 29 rfl ?_
        refine x_gi C 20 (RJ39, TJ39, 12) rfl 6 (Nat.le_of_ble_eq_true rfl) q2021 (Or.inl rfl) rfl 21 rfl dJ38_tooHigh_29 32 rfl (fun x5 => ?_)
        refine s_if_ne C dJ38_tooHigh_32 37 rfl 35 rfl (fun c_ => ?_) (fun c_ => ?_)
        · refine Sm_sub [] rfl ?_
          exact wJ38_tooHigh_t21_b35 C hret h0 hin N _ _ _
        · refine Sm_sub [] rfl ?_
          exact wJ38_tooHigh_t21_b37 C hret h0 hin N _ _ _
      · refine Sm_sub [] rfl ?_
        exact wJ38_tooHigh_t21_b37 C hret h0 hin N _ _ _
  · refine Sm_sub [] rfl ?_
    exact wJ38_tooHigh_t21_b37 C hret h0 hin N _ _ _
theorem hdJ38_tooHigh_t21 : ((⟨"java/util/TreeMap$NavigableSubMap", "tooHigh", "(Ljava/lang/Object;)Z"⟩ : MethodName)).cls ≠ "java/lang/invoke/MethodHandle" ∧ ((⟨"java/util/TreeMap$NavigableSubMap", "tooHigh", "(Ljava/lang/Object;)Z"⟩ : MethodName)).cls ≠ "java/lang/invoke/VarHandle" ∧ (parseMethodDescriptor ((⟨"java/util/TreeMap$NavigableSubMap", "tooHigh", "(Ljava/lang/Object;)Z"⟩ : MethodName)).desc).map (fun d => d.parameters.length) = some 1 := ⟨by decide +kernel, by decide +kernel, by decide +kernel⟩
theorem ctJ38_tooHigh_t21 {l : Launch} {g : GG} (hst : l.stackTraces = false) (N : Nat) (m : Mm) (v0 : Option Nat) (v1 : Option Nat) : ∀ v m' k n, fJ38_tooHigh_t21 (gE_ g) N m v0 v1 = some (v, m', k, n) → Ct_ l g (⟨"java/util/TreeMap$NavigableSubMap", "tooHigh", "(Ljava/lang/Object;)Z"⟩ : MethodName) (ws_ (⟨"java/util/TreeMap$NavigableSubMap", "tooHigh", "(Ljava/lang/Object;)Z"⟩ : MethodName) cJ38_tooHigh 3 (Option.some Jvm.ClassFile.FieldType.boolean)) 14 [vr_ v0, vr_ v1] m (en_i v) m' k n :=
  Ct_of (by decide +kernel) rfl hst (Nat.le_of_ble_eq_true rfl) rfl (fun E C hret h0 hin => wJ38_tooHigh_t21 C hret h0 hin N m v0 v1 0 0)
theorem wJ4_getHigherEntry_b93 {l : Launch} {g : GG} {E : Me_} (C : Cx_ l g E "java/util/TreeMap" cJ4_getHigherEntry 6 14) (hret : (eT_ E).sig.returnType = (Option.some (Jvm.ClassFile.FieldType.object "java/util/TreeMap$Entry"))) (h0 : ∀ x ∈ (eC_ E).exceptionTable.toList, False) (hin : (eT_ E).name = "getHigherEntry") (N : Nat) : ∀ (m : Mm) (v4 : Option Nat) (k n : Nat), Sm_ l g E 6 en_r (fJ4_getHigherEntry_b93 (gE_ g) N m v4) k n 93 [(4, vr_ v4)] [] m := by
  intro m v4 k n
  unfold fJ4_getHigherEntry_b93
  refine s_aload C 0 rfl dJ4_getHigherEntry_93 95 rfl ?_
  exact x_aret C hret (Or.inl ⟨_, rfl⟩) rfl dJ4_getHigherEntry_95
theorem wJ4_getHigherEntry_b64 {l : Launch} {g : GG} {E : Me_} (C : Cx_ l g E "java/util/TreeMap" cJ4_getHigherEntry 6 14) (hret : (eT_ E).sig.returnType = (Option.some (Jvm.ClassFile.FieldType.object "java/util/TreeMap$Entry"))) (h0 : ∀ x ∈ (eC_ E).exceptionTable.toList, False) (hin : (eT_ E).name = "getHigherEntry") (N : Nat) : ∀ (F : Nat) (m : Mm) (v4 : Option Nat) (v5 : Option Nat) (k n : Nat), Sm_ l g E 6 en_r (fJ4_getHigherEntry_b64 (gE_ g) N F m v4 v5) k n 64 [(4, vr_ v4), (5, vr_ v5)] [] m := by
  intro F
  induction F with
  | zero => intros; exact Sm_none
  | succ F ih =>
    intro m v4 v5 k n
    unfold fJ4_getHigherEntry_b64
    refine s_aload C 0 rfl dJ4_getHigherEntry_64 66 rfl ?_
    refine s_ifnull C dJ4_getHigherEntry_66 93 rfl 69 rfl (fun c_ => ?_) (fun c_ => ?_)
    · refine Sm_sub [0] rfl ?_
      exact wJ4_getHigherEntry_b93 C hret h0 hin N _ _ _ _
    · refine s_aload C 1 rfl dJ4_getHigherEntry_69 71 rfl ?_
      refine s_aload C 0 rfl dJ4_getHigherEntry_71 73 rfl ?_
      refine x_gr C 15 (RJ37, TJ37, 6) rfl 3 (Nat.le_of_ble_eq_true rfl) q1906 (Or.inl rfl) rfl 16 rfl dJ4_getHigherEntry_73 76 rfl (fun x1 => ?_)
      refine s_acmp_ne C dJ4_getHigherEntry_76 93 rfl 79 rfl (fun c_ => ?_) (fun c_ => ?_)
      · refine s_aload C 0 rfl dJ4_getHigherEntry_79 81 rfl ?_
        refine s_astore C (Nat.le_of_ble_eq_true rfl) [0] rfl rfl dJ4_getHigherEntry_81 83 rfl ?_
        refine s_aload C 1 rfl dJ4_getHigherEntry_83 85 rfl ?_
        refine x_gr C 15 (RJ37, TJ37, 6) rfl 4 (Nat.le_of_ble_eq_true rfl) q1908 (Or.inl rfl) rfl 16 rfl dJ4_getHigherEntry_85 88 rfl (fun x2 => ?_)
        refine s_astore C (Nat.le_of_ble_eq_true rfl) [0] rfl rfl dJ4_getHigherEntry_88 90 rfl ?_
        refine s_goto C (off := -26) 64 dJ4_getHigherEntry_90 rfl ?_
        exact ih _ _ _ _ _
      · refine Sm_sub [0] rfl ?_
        exact wJ4_getHigherEntry_b93 C hret h0 hin N _ _ _ _
theorem wJ4_getHigherEntry_b96 {l : Launch} {g : GG} {E : Me_} (C : Cx_ l g E "java/util/TreeMap" cJ4_getHigherEntry 6 14) (hret : (eT_ E).sig.returnType = (Option.some (Jvm.ClassFile.FieldType.object "java/util/TreeMap$Entry"))) (h0 : ∀ x ∈ (eC_ E).exceptionTable.toList, False) (hin : (eT_ E).name = "getHigherEntry") (N : Nat) {k5 : Mm → Option Nat → Option Nat → Option Nat → Rs (Option Nat)} (hk5 : ∀ (m : Mm) (v0 : Option Nat) (v1 : Option Nat) (v2 : Option Nat) (k n : Nat), Sm_ l g E 6 en_r (k5 m v0 v1 v2) k n 5 [(0, vr_ v0), (1, vr_ v1), (2, vr_ v2)] [] m) : ∀ (m : Mm) (v0 : Option Nat) (v1 : Option Nat) (v2 : Option Nat) (k n : Nat), Sm_ l g E 6 en_r (fJ4_getHigherEntry_b96 (gE_ g) N k5 m v0 v1 v2) k n 96 [(0, vr_ v0), (1, vr_ v1), (2, vr_ v2)] [] m := by
  intro m v0 v1 v2 k n
  unfold fJ4_getHigherEntry_b96
  refine s_goto C (off := -91) 5 dJ4_getHigherEntry_96 rfl ?_
  exact hk5 _ _ _ _ _ _
theorem wJ4_getHigherEntry_b5 {l : Launch} {g : GG} {E : Me_} (C : Cx_ l g E "java/util/TreeMap" cJ4_getHigherEntry 6 14) (hret : (eT_ E).sig.returnType = (Option.some (Jvm.ClassFile.FieldType.object "java/util/TreeMap$Entry"))) (h0 : ∀ x ∈ (eC_ E).exceptionTable.toList, False) (hin : (eT_ E).name = "getHigherEntry") (N : Nat) : ∀ (F : Nat) (m : Mm) (v0 : Option Nat) (v1 : Option Nat) (v2 : Option Nat) (k n : Nat), Sm_ l g E 6 en_r (fJ4_getHigherEntry_b5 (gE_ g) N F m v0 v1 v2) k n 5 [(0, vr_ v0), (1, vr_ v1), (2, vr_ v2)] [] m := by
  intro F
  induction F with
  | zero => intros; exact Sm_none
  | succ F ih =>
    intro m v0 v1 v2 k n
    unfold fJ4_getHigherEntry_b5
    refine s_aload_n C rfl 2 rfl dJ4_getHigherEntry_5 6 rfl ?_
    refine s_ifnull C dJ4_getHigherEntry_6 99 rfl 9 rfl (fun c_ => ?_) (fun c_ => ?_)
    · refine s_null C dJ4_getHigherEntry_99 100 rfl ?_
      exact x_aret C hret (Or.inl ⟨_, rfl⟩) rfl dJ4_getHigherEntry_100
    · refine s_aload_n C rfl 0 rfl dJ4_getHigherEntry_9 10 rfl ?_
      refine s_aload_n C rfl 1 rfl dJ4_getHigherEntry_10 11 rfl ?_
      refine s_aload_n C rfl 2 rfl dJ4_getHigherEntry_11 12 rfl ?_
      refine x_gr C 15 (RJ37, TJ37, 6) rfl 0 (Nat.le_of_ble_eq_true rfl) q1897 (Or.inl rfl) rfl 16 rfl dJ4_getHigherEntry_12 15 rfl (fun x1 => ?_)
      refine x_ck (fun hb_ hb0_ => ?_)
      refine x_callV (enc := en_i) C 13 2 [vr_ v1, vr_ x1] 15 (ctJ4_compare C.2.2.2.2.2.2.2.2.1 N m v0 v1 x1) hb_ hb0_ rfl rfl q1038 q1039 q1040 q87 q1041 hdJ4_compare (Nat.le_of_ble_eq_true rfl) (Nat.le_of_ble_eq_true rfl) rfl (Nat.le_of_ble_eq_true rfl) dJ4_getHigherEntry_15 18 rfl rfl hen_i (kk_i (fun x2 m1 k1 n1 => ?_)) (kx_n he_i)
      refine s_istore_n C rfl (Nat.le_of_ble_eq_true rfl) [0, 1, 2] rfl rfl dJ4_getHigherEntry_18 19 rfl ?_
      refine s_iload_n C rfl 0 rfl dJ4_getHigherEntry_19 20 rfl ?_
      refine s_if_ge C dJ4_getHigherEntry_20 40 rfl 23 rfl (fun c_ => ?_) (fun c_ => ?_)
      · refine s_aload_n C rfl 3 rfl dJ4_getHigherEntry_23 24 rfl ?_
        refine x_gr C 15 (RJ37, TJ37, 6) rfl 2 (Nat.le_of_ble_eq_true rfl) q1903 (Or.inl rfl) rfl 16 rfl dJ4_getHigherEntry_24 27 rfl (fun x3 => ?_)
        refine s_ifnull C dJ4_getHigherEntry_27 38 rfl 30 rfl (fun c_ => ?_) (fun c_ => ?_)
        · refine s_aload_n C rfl 3 rfl dJ4_getHigherEntry_38 39 rfl ?_
          exact x_aret C hret (Or.inl ⟨_, rfl⟩) rfl dJ4_getHigherEntry_39
        · refine s_aload_n C rfl 3 rfl dJ4_getHigherEntry_30 31 rfl ?_
          refine x_gr C 15 (RJ37, TJ37, 6) rfl 2 (Nat.le_of_ble_eq_true rfl) q1903 (Or.inl rfl) rfl 16 rfl dJ4_getHigherEntry_31 34 rfl (fun x4 => ?_)
          refine s_astore_n C rfl (Nat.le_of_ble_eq_true rfl) [1, 2] rfl rfl dJ4_getHigherEntry_34 35 rfl ?_
          refine s_goto C (off := 61) 96 dJ4_getHigherEntry_35 rfl ?_
          refine Sm_sub [1, 2, 0] rfl ?_
          exact wJ4_getHigherEntry_b96 C hret h0 hin N (fun m v0 v1 v2 k n => ih m v0 v1 v2 k n) _ _ _ _ _ _
      · refine s_aload_n C rfl 3 rfl dJ4_getHigherEntry_40 41 rfl ?_
        refine x_gr C 15 (RJ37, TJ37, 6) rfl 3 (Nat.le_of_ble_eq_true rfl) q1906 (Or.inl rfl) rfl 16 rfl dJ4_getHigherEntry_41 44 rfl (fun x5 => ?_)
        refine s_ifnull C dJ4_getHigherEntry_44 55 rfl 47 rfl (fun c_ => ?_) (fun c_ => ?_)
        · refine s_aload_n C rfl 3 rfl dJ4_getHigherEntry_55 56 rfl ?_
          refine x_gr C 15 (RJ37, TJ37, 6) rfl 4 (Nat.le_of_ble_eq_true rfl) q1908 (Or.inl rfl) rfl 16 rfl dJ4_getHigherEntry_56 59 rfl (fun x6 => ?_)
          refine s_astore C (Nat.le_of_ble_eq_true rfl) [3] rfl rfl dJ4_getHigherEntry_59 61 rfl ?_
          refine s_aload_n C rfl 1 rfl dJ4_getHigherEntry_61 62 rfl ?_
          refine s_astore C (Nat.le_of_ble_eq_true rfl) [0] rfl rfl dJ4_getHigherEntry_62 64 rfl ?_
          refine Sm_sub [1, 0] rfl ?_
          exact wJ4_getHigherEntry_b64 C hret h0 hin N N _ _ _ _ _
        · refine s_aload_n C rfl 3 rfl dJ4_getHigherEntry_47 48 rfl ?_
          refine x_gr C 15 (RJ37, TJ37, 6) rfl 3 (Nat.le_of_ble_eq_true rfl) q1906 (Or.inl rfl) rfl 16 rfl dJ4_getHigherEntry_48 51 rfl (fun x7 => ?_)
          refine s_astore_n C rfl (Nat.le_of_ble_eq_true rfl) [1, 2] rfl rfl dJ4_getHigherEntry_51 52 rfl ?_
          refine s_goto C (off := 44) 96 dJ4_getHigherEntry_52 rfl ?_
          refine Sm_sub [1, 2, 0] rfl ?_
          exact wJ4_getHigherEntry_b96 C hret h0 hin N (fun m v0 v1 v2 k n => ih m v0 v1 v2 k n) _ _ _ _ _ _
theorem wJ4_getHigherEntry {l : Launch} {g : GG} {E : Me_} (C : Cx_ l g E "java/util/TreeMap" cJ4_getHigherEntry 6 14) (hret : (eT_ E).sig.returnType = (Option.some (Jvm.ClassFile.FieldType.object "java/util/TreeMap$Entry"))) (h0 : ∀ x ∈ (eC_ E).exceptionTable.toList, False) (hin : (eT_ E).name = "getHigherEntry") (N : Nat) : ∀ (m : Mm) (v0 : Option Nat) (v1 : Option Nat) (k n : Nat), Sm_ l g E 6 en_r (fJ4_getHigherEntry (gE_ g) N m v0 v1) k n 0 [(0, vr_ v0), (1, vr_ v1)] [] m := by
  intro m v0 v1 k n
  unfold fJ4_getHigherEntry
  refine s_aload_n C rfl 0 rfl dJ4_getHigherEntry_0 1 rfl ?_
  refine x_gr C 14 (RJ4, TJ4, 9) rfl 3 (Nat.le_of_ble_eq_true rfl) q205 (Or.inl rfl) rfl 15 rfl dJ4_getHigherEntry_1 4 rfl (fun x1 => ?_)
  refine s_astore_n C rfl (Nat.le_of_ble_eq_true rfl) [0, 1] rfl rfl dJ4_getHigherEntry_4 5 rfl ?_
  refine Sm_sub [1, 2, 0] rfl ?_
  exact wJ4_getHigherEntry_b5 C hret h0 hin N N _ _ _ _ _ _
theorem hdJ4_getHigherEntry : ((⟨"java/util/TreeMap", "getHigherEntry", "(Ljava/lang/Object;)Ljava/util/TreeMap$Entry;"⟩ : MethodName)).cls ≠ "java/lang/invoke/MethodHandle" ∧ ((⟨"java/util/TreeMap", "getHigherEntry", "(Ljava/lang/Object;)Ljava/util/TreeMap$Entry;"⟩ : MethodName)).cls ≠ "java/lang/invoke/VarHandle" ∧ (parseMethodDescriptor ((⟨"java/util/TreeMap", "getHigherEntry", "(Ljava/lang/Object;)Ljava/util/TreeMap$Entry;"⟩ : MethodName)).desc).map (fun d => d.parameters.length) = some 1 := ⟨by decide +kernel, by decide +kernel, by decide +kernel⟩
theorem ctJ4_getHigherEntry {l : Launch} {g : GG} (hst : l.stackTraces = false) (N : Nat) (m : Mm) (v0 : Option Nat) (v1 : Option Nat) : ∀ v m' k n, fJ4_getHigherEntry (gE_ g) N m v0 v1 = some (v, m', k, n) → Ct_ l g (⟨"java/util/TreeMap", "getHigherEntry", "(Ljava/lang/Object;)Ljava/util/TreeMap$Entry;"⟩ : MethodName) (ws_ (⟨"java/util/TreeMap", "getHigherEntry", "(Ljava/lang/Object;)Ljava/util/TreeMap$Entry;"⟩ : MethodName) cJ4_getHigherEntry 6 (Option.some (Jvm.ClassFile.FieldType.object "java/util/TreeMap$Entry"))) 14 [vr_ v0, vr_ v1] m (en_r v) m' k n :=
  Ct_of (by decide +kernel) rfl hst (Nat.le_of_ble_eq_true rfl) rfl (fun E C hret h0 hin => wJ4_getHigherEntry C hret h0 hin N m v0 v1 0 0)
theorem wJ4_getCeilingEntry_b97 {l : Launch} {g : GG} {E : Me_} (C : Cx_ l g E "java/util/TreeMap" cJ4_getCeilingEntry 6 14) (hret : (eT_ E).sig.returnType = (Option.some (Jvm.ClassFile.FieldType.object "java/util/TreeMap$Entry"))) (h0 : ∀ x ∈ (eC_ E).exceptionTable.toList, False) (hin : (eT_ E).name = "getCeilingEntry") (N : Nat) : ∀ (m : Mm) (v4 : Option Nat) (k n : Nat), Sm_ l g E 6 en_r (fJ4_getCeilingEntry_b97 (gE_ g) N m v4) k n 97 [(4, vr_ v4)] [] m := by
  intro m v4 k n
  unfold fJ4_getCeilingEntry_b97
  refine s_aload C 0 rfl dJ4_getCeilingEntry_97 99 rfl ?_
  exact x_aret C hret (Or.inl ⟨_, rfl⟩) rfl dJ4_getCeilingEntry_99
theorem wJ4_getCeilingEntry_b68 {l : Launch} {g : GG} {E : Me_} (C : Cx_ l g E "java/util/TreeMap" cJ4_getCeilingEntry 6 14) (hret : (eT_ E).sig.returnType = (Option.some (Jvm.ClassFile.FieldType.object "java/util/TreeMap$Entry"))) (h0 : ∀ x ∈ (eC_ E).exceptionTable.toList, False) (hin : (eT_ E).name = "getCeilingEntry") (N : Nat) : ∀ (F : Nat) (m : Mm) (v4 : Option Nat) (v5 : Option Nat) (k n : Nat), Sm_ l g E 6 en_r (fJ4_getCeilingEntry_b68 (gE_ g) N F m v4 v5) k n 68 [(4, vr_ v4), (5, vr_ v5)] [] m := by
  intro F
  induction F with
  | zero => intros; exact Sm_none
  | succ F ih =>
    intro m v4 v5 k n
    unfold fJ4_getCeilingEntry_b68
    refine s_aload C 0 rfl dJ4_getCeilingEntry_68 70 rfl ?_
    refine s_ifnull C dJ4_getCeilingEntry_70 97 rfl 73 rfl (fun c_ => ?_) (fun c_ => ?_)
    · refine Sm_sub [0] rfl ?_
      exact wJ4_getCeilingEntry_b97 C hret h0 hin N _ _ _ _
    · refine s_aload C 1 rfl dJ4_getCeilingEntry_73 75 rfl ?_
      refine s_aload C 0 rfl dJ4_getCeilingEntry_75 77 rfl ?_
      refine x_gr C 15 (RJ37, TJ37, 6) rfl 3 (Nat.le_of_ble_eq_true rfl) q1906 (Or.inl rfl) rfl 16 rfl dJ4_getCeilingEntry_77 80 rfl (fun x1 => ?_)
      refine s_acmp_ne C dJ4_getCeilingEntry_80 97 rfl 83 rfl (fun c_ => ?_) (fun c_ => ?_)
      · refine s_aload C 0 rfl dJ4_getCeilingEntry_83 85 rfl ?_
        refine s_astore C (Nat.le_of_ble_eq_true rfl) [0] rfl rfl dJ4_getCeilingEntry_85 87 rfl ?_
        refine s_aload C 1 rfl dJ4_getCeilingEntry_87 89 rfl ?_
        refine x_gr C 15 (RJ37, TJ37, 6) rfl 4 (Nat.le_of_ble_eq_true rfl) q1908 (Or.inl rfl) rfl 16 rfl dJ4_getCeilingEntry_89 92 rfl (fun x2 => ?_)
        refine s_astore C (Nat.le_of_ble_eq_true rfl) [0] rfl rfl dJ4_getCeilingEntry_92 94 rfl ?_
        refine s_goto C (off := -26) 68 dJ4_getCeilingEntry_94 rfl ?_
        exact ih _ _ _ _ _
      · refine Sm_sub [0] rfl ?_
        exact wJ4_getCeilingEntry_b97 C hret h0 hin N _ _ _ _
theorem wJ4_getCeilingEntry_b102 {l : Launch} {g : GG} {E : Me_} (C : Cx_ l g E "java/util/TreeMap" cJ4_getCeilingEntry 6 14) (hret : (eT_ E).sig.returnType = (Option.some (Jvm.ClassFile.FieldType.object "java/util/TreeMap$Entry"))) (h0 : ∀ x ∈ (eC_ E).exceptionTable.toList, False) (hin : (eT_ E).name = "getCeilingEntry") (N : Nat) {k5 : Mm → Option Nat → Option Nat → Option Nat → Rs (Option Nat)} (hk5 : ∀ (m : Mm) (v0 : Option Nat) (v1 : Option Nat) (v2 : Option Nat) (k n : Nat), Sm_ l g E 6 en_r (k5 m v0 v1 v2) k n 5 [(0, vr_ v0), (1, vr_ v1), (2, vr_ v2)] [] m) : ∀ (m : Mm) (v0 : Option Nat) (v1 : Option Nat) (v2 : Option Nat) (k n : Nat), Sm_ l g E 6 en_r (fJ4_getCeilingEntry_b102 (gE_ g) N k5 m v0 v1 v2) k n 102 [(0, vr_ v0), (1, vr_ v1), (2, vr_ v2)] [] m := by
  intro m v0 v1 v2 k n
  unfold fJ4_getCeilingEntry_b102
  refine s_goto C (off := -97) 5 dJ4_getCeilingEntry_102 rfl ?_
  exact hk5 _ _ _ _ _ _
theorem wJ4_getCeilingEntry_b5 {l : Launch} {g : GG} {E : Me_} (C : Cx_ l g E "java/util/TreeMap" cJ4_getCeilingEntry 6 14) (hret : (eT_ E).sig.returnType = (Option.some (Jvm.ClassFile.FieldType.object "java/util/TreeMap$Entry"))) (h0 : ∀ x ∈ (eC_ E).exceptionTable.toList, False) (hin : (eT_ E).name = "getCeilingEntry") (N : Nat) : ∀ (F : Nat) (m : Mm) (v0 : Option Nat) (v1 : Option Nat) (v2 : Option Nat) (k n : Nat), Sm_ l g E 6 en_r (fJ4_getCeilingEntry_b5 (gE_ g) N F m v0 v1 v2) k n 5 [(0, vr_ v0), (1, vr_ v1), (2, vr_ v2)] [] m := by
  intro F
  induction F with
  | zero => intros; exact Sm_none
  | succ F ih =>
    intro m v0 v1 v2 k n
    unfold fJ4_getCeilingEntry_b5
    refine s_aload_n C rfl 2 rfl dJ4_getCeilingEntry_5 6 rfl ?_
    refine s_ifnull C dJ4_getCeilingEntry_6 105 rfl 9 rfl (fun c_ => ?_) (fun c_ => ?_)
    · refine s_null C dJ4_getCeilingEntry_105 106 rfl ?_
      exact x_aret C hret (Or.inl ⟨_, rfl⟩) rfl dJ4_getCeilingEntry_106
    · refine s_aload_n C rfl 0 rfl dJ4_getCeilingEntry_9 10 rfl ?_
      refine s_aload_n C rfl 1 rfl dJ4_getCeilingEntry_10 11 rfl ?_
      refine s_aload_n C rfl 2 rfl dJ4_getCeilingEntry_11 12 rfl ?_
      refine x_gr C 15 (RJ37, TJ37, 6) rfl 0 (Nat.le_of_ble_eq_true rfl) q1897 (Or.inl rfl) rfl 16 rfl dJ4_getCeilingEntry_12 15 rfl (fun x1 => ?_)
      refine x_ck (fun hb_ hb0_ => ?_)
      refine x_callV (enc := en_i) C 13 2 [vr_ v1, vr_ x1] 15 (ctJ4_compare C.2.2.2.2.2.2.2.2.1 N m v0 v1 x1) hb_ hb0_ rfl rfl q1038 q1039 q1040 q87 q1041 hdJ4_compare (Nat.le_of_ble_eq_true rfl) (Nat.le_of_ble_eq_true rfl) rfl (Nat.le_of_ble_eq_true rfl) dJ4_getCeilingEntry_15 18 rfl rfl hen_i (kk_i (fun x2 m1 k1 n1 => ?_)) (kx_n he_i)
      refine s_istore_n C rfl (Nat.le_of_ble_eq_true rfl) [0, 1, 2] rfl rfl dJ4_getCeilingEntry_18 19 rfl ?_
      refine s_iload_n C rfl 0 rfl dJ4_getCeilingEntry_19 20 rfl ?_
      refine s_if_ge C dJ4_getCeilingEntry_20 40 rfl 23 rfl (fun c_ => ?_) (fun c_ => ?_)
      · refine s_aload_n C rfl 3 rfl dJ4_getCeilingEntry_23 24 rfl ?_
        refine x_gr C 15 (RJ37, TJ37, 6) rfl 2 (Nat.le_of_ble_eq_true rfl) q1903 (Or.inl rfl) rfl 16 rfl dJ4_getCeilingEntry_24 27 rfl (fun x3 => ?_)
        refine s_ifnull C dJ4_getCeilingEntry_27 38 rfl 30 rfl (fun c_ => ?_) (fun c_ => ?_)
        · refine s_aload_n C rfl 3 rfl dJ4_getCeilingEntry_38 39 rfl ?_
          exact x_aret C hret (Or.inl ⟨_, rfl⟩) rfl dJ4_getCeilingEntry_39
        · refine s_aload_n C rfl 3 rfl dJ4_getCeilingEntry_30 31 rfl ?_
          refine x_gr C 15 (RJ37, TJ37, 6) rfl 2 (Nat.le_of_ble_eq_true rfl) q1903 (Or.inl rfl) rfl 16 rfl dJ4_getCeilingEntry_31 34 rfl (fun x4 => ?_)
          refine s_astore_n C rfl (Nat.le_of_ble_eq_true rfl) [1, 2] rfl rfl dJ4_getCeilingEntry_34 35 rfl ?_
          refine s_goto C (off := 67) 102 dJ4_getCeilingEntry_35 rfl ?_
          refine Sm_sub [1, 2, 0] rfl ?_
          exact wJ4_getCeilingEntry_b102 C hret h0 hin N (fun m v0 v1 v2 k n => ih m v0 v1 v2 k n) _ _ _ _ _ _
      · refine s_iload_n C rfl 0 rfl dJ4_getCeilingEntry_40 41 rfl ?_
        refine s_if_le C dJ4_getCeilingEntry_41 100 rfl 44 rfl (fun c_ => ?_) (fun c_ => ?_)
        · refine s_aload_n C rfl 3 rfl dJ4_getCeilingEntry_44 45 rfl ?_
          refine x_gr C 15 (RJ37, TJ37, 6) rfl 3 (Nat.le_of_ble_eq_true rfl) q1906 (Or.inl rfl) rfl 16 rfl dJ4_getCeilingEntry_45 48 rfl (fun x5 => ?_)
          refine s_ifnull C dJ4_getCeilingEntry_48 59 rfl 51 rfl (fun c_ => ?_) (fun c_ => ?_)
          · refine s_aload_n C rfl 3 rfl dJ4_getCeilingEntry_59 60 rfl ?_
            refine x_gr C 15 (RJ37, TJ37, 6) rfl 4 (Nat.le_of_ble_eq_true rfl) q1908 (Or.inl rfl) rfl 16 rfl dJ4_getCeilingEntry_60 63 rfl (fun x6 => ?_)
            refine s_astore C (Nat.le_of_ble_eq_true rfl) [3] rfl rfl dJ4_getCeilingEntry_63 65 rfl ?_
            refine s_aload_n C rfl 1 rfl dJ4_getCeilingEntry_65 66 rfl ?_
            refine s_astore C (Nat.le_of_ble_eq_true rfl) [0] rfl rfl dJ4_getCeilingEntry_66 68 rfl ?_
            refine Sm_sub [1, 0] rfl ?_
            exact wJ4_getCeilingEntry_b68 C hret h0 hin N N _ _ _ _ _
          · refine s_aload_n C rfl 3 rfl dJ4_getCeilingEntry_51 52 rfl ?_
            refine x_gr C 15 (RJ37, TJ37, 6) rfl 3 (Nat.le_of_ble_eq_true rfl) q1906 (Or.inl rfl) rfl 16 rfl dJ4_getCeilingEntry_52 55 rfl (fun x7 => ?_)
            refine s_astore_n C rfl (Nat.le_of_ble_eq_true rfl) [1, 2] rfl rfl dJ4_getCeilingEntry_55 56 rfl ?_
            refine s_goto C (off := 46) 102 dJ4_getCeilingEntry_56 rfl ?_
            refine Sm_sub [1, 2, 0] rfl ?_
            exact wJ4_getCeilingEntry_b102 C hret h0 hin N (fun m v0 v1 v2 k n => ih m v0 v1 v2 k n) _ _ _ _ _ _
        · refine s_aload_n C rfl 3 rfl dJ4_getCeilingEntry_100 101 rfl ?_
          exact x_aret C hret (Or.inl ⟨_, rfl⟩) rfl dJ4_getCeilingEntry_101
theorem wJ4_getCeilingEntry {l : Launch} {g : GG} {E : Me_} (C : Cx_ l g E "java/util/TreeMap" cJ4_getCeilingEntry 6 14) (hret : (eT_ E).sig.returnType = (Option.some (Jvm.ClassFile.FieldType.object "java/util/TreeMap$Entry"))) (h0 : ∀ x ∈ (eC_ E).exceptionTable.toList, False) (hin : (eT_ E).name = "getCeilingEntry") (N : Nat) : ∀ (m : Mm) (v0 : Option Nat) (v1 : Option Nat) (k n : Nat), Sm_ l g E 6 en_r (fJ4_getCeilingEntry (gE_ g) N m v0 v1) k n 0 [(0, vr_ v0), (1, vr_ v1)] [] m := by
  intro m v0 v1 k n
  unfold fJ4_getCeilingEntry
  refine s_aload_n C rfl 0 rfl dJ4_getCeilingEntry_0 1 rfl ?_
  refine x_gr C 14 (RJ4, TJ4, 9) rfl 3 (Nat.le_of_ble_eq_true rfl) q205 (Or.inl rfl) rfl 15 rfl dJ4_getCeilingEntry_1 4 rfl (fun x1 => ?_)
  refine s_astore_n C rfl (Nat.le_of_ble_eq_true rfl) [0, 1] rfl rfl dJ4_getCeilingEntry_4 5 rfl ?_
  refine Sm_sub [1, 2, 0] rfl ?_
  exact wJ4_getCeilingEntry_b5 C hret h0 hin N N _ _ _ _ _ _
theorem hdJ4_getCeilingEntry : ((⟨"java/util/TreeMap", "getCeilingEntry", "(Ljava/lang/Object;)Ljava/util/TreeMap$Entry;"⟩ : MethodName)).cls ≠ "java/lang/invoke/MethodHandle" ∧ ((⟨"java/util/TreeMap", "getCeilingEntry", "(Ljava/lang/Object;)Ljava/util/TreeMap$Entry;"⟩ : MethodName)).cls ≠ "java/lang/invoke/VarHandle" ∧ (parseMethodDescriptor ((⟨"java/util/TreeMap", "getCeilingEntry", "(Ljava/lang/Object;)Ljava/util/TreeMap$Entry;"⟩ : MethodName)).desc).map (fun d => d.parameters.length) = some 1 := ⟨by decide +kernel, by decide +kernel, by decide +kernel⟩
theorem ctJ4_getCeilingEntry {l : Launch} {g : GG} (hst : l.stackTraces = false) (N : Nat) (m : Mm) (v0 : Option Nat) (v1 : Option Nat) : ∀ v m' k n, fJ4_getCeilingEntry (gE_ g) N m v0 v1 = some (v, m', k, n) → Ct_ l g (⟨"java/util/TreeMap", "getCeilingEntry", "(Ljava/lang/Object;)Ljava/util/TreeMap$Entry;"⟩ : MethodName) (ws_ (⟨"java/util/TreeMap", "getCeilingEntry", "(Ljava/lang/Object;)Ljava/util/TreeMap$Entry;"⟩ : MethodName) cJ4_getCeilingEntry 6 (Option.some (Jvm.ClassFile.FieldType.object "java/util/TreeMap$Entry"))) 14 [vr_ v0, vr_ v1] m (en_r v) m' k n :=
  Ct_of (by decide +kernel) rfl hst (Nat.le_of_ble_eq_true rfl) rfl (fun E C hret h0 hin => wJ4_getCeilingEntry C hret h0 hin N m v0 v1 0 0)
theorem wJ4_getFirstEntry_b24 {l : Launch} {g : GG} {E : Me_} (C : Cx_ l g E "java/util/TreeMap" cJ4_getFirstEntry 2 10) (hret : (eT_ E).sig.returnType = (Option.some (Jvm.ClassFile.FieldType.object "java/util/TreeMap$Entry"))) (h0 : ∀ x ∈ (eC_ E).exceptionTable.toList, False) (hin : (eT_ E).name = "getFirstEntry") (N : Nat) : ∀ (m : Mm) (v1 : Option Nat) (k n : Nat), Sm_ l g E 2 en_r (fJ4_getFirstEntry_b24 (gE_ g) N m v1) k n 24 [(1, vr_ v1)] [] m := by
  intro m v1 k n
  unfold fJ4_getFirstEntry_b24
  refine s_aload_n C rfl 0 rfl dJ4_getFirstEntry_24 25 rfl ?_
  exact x_aret C hret (Or.inl ⟨_, rfl⟩) rfl dJ4_getFirstEntry_25
theorem wJ4_getFirstEntry_b9 {l : Launch} {g : GG} {E : Me_} (C : Cx_ l g E "java/util/TreeMap" cJ4_getFirstEntry 2 10) (hret : (eT_ E).sig.returnType = (Option.some (Jvm.ClassFile.FieldType.object "java/util/TreeMap$Entry"))) (h0 : ∀ x ∈ (eC_ E).exceptionTable.toList, False) (hin : (eT_ E).name = "getFirstEntry") (N : Nat) : ∀ (F : Nat) (m : Mm) (v1 : Option Nat) (k n : Nat), Sm_ l g E 2 en_r (fJ4_getFirstEntry_b9 (gE_ g) N F m v1) k n 9 [(1, vr_ v1)] [] m := by
  intro F
  induction F with
  | zero => intros; exact Sm_none
  | succ F ih =>
    intro m v1 k n
    unfold fJ4_getFirstEntry_b9
    refine s_aload_n C rfl 0 rfl dJ4_getFirstEntry_9 10 rfl ?_
    refine x_gr C 15 (RJ37, TJ37, 6) rfl 2 (Nat.le_of_ble_eq_true rfl) q1903 (Or.inl rfl) rfl 16 rfl dJ4_getFirstEntry_10 13 rfl (fun x1 => ?_)
    refine s_ifnull C dJ4_getFirstEntry_13 24 rfl 16 rfl (fun c_ => ?_) (fun c_ => ?_)
    · exact wJ4_getFirstEntry_b24 C hret h0 hin N _ _ _ _
    · refine s_aload_n C rfl 0 rfl dJ4_getFirstEntry_16 17 rfl ?_
      refine x_gr C 15 (RJ37, TJ37, 6) rfl 2 (Nat.le_of_ble_eq_true rfl) q1903 (Or.inl rfl) rfl 16 rfl dJ4_getFirstEntry_17 20 rfl (fun x2 => ?_)
      refine s_astore_n C rfl (Nat.le_of_ble_eq_true rfl) [] rfl rfl dJ4_getFirstEntry_20 21 rfl ?_
      refine s_goto C (off := -12) 9 dJ4_getFirstEntry_21 rfl ?_
      exact ih _ _ _ _
theorem wJ4_getFirstEntry {l : Launch} {g : GG} {E : Me_} (C : Cx_ l g E "java/util/TreeMap" cJ4_getFirstEntry 2 10) (hret : (eT_ E).sig.returnType = (Option.some (Jvm.ClassFile.FieldType.object "java/util/TreeMap$Entry"))) (h0 : ∀ x ∈ (eC_ E).exceptionTable.toList, False) (hin : (eT_ E).name = "getFirstEntry") (N : Nat) : ∀ (m : Mm) (v0 : Option Nat) (k n : Nat), Sm_ l g E 2 en_r (fJ4_getFirstEntry (gE_ g) N m v0) k n 0 [(0, vr_ v0)] [] m := by
  intro m v0 k n
  unfold fJ4_getFirstEntry
  refine s_aload_n C rfl 0 rfl dJ4_getFirstEntry_0 1 rfl ?_
  refine x_gr C 14 (RJ4, TJ4, 9) rfl 3 (Nat.le_of_ble_eq_true rfl) q205 (Or.inl rfl) rfl 15 rfl dJ4_getFirstEntry_1 4 rfl (fun x1 => ?_)
  refine s_astore_n C rfl (Nat.le_of_ble_eq_true rfl) [] rfl rfl dJ4_getFirstEntry_4 5 rfl ?_
  refine s_aload_n C rfl 0 rfl dJ4_getFirstEntry_5 6 rfl ?_
  refine s_ifnull C dJ4_getFirstEntry_6 24 rfl 9 rfl (fun c_ => ?_) (fun c_ => ?_)
  · exact wJ4_getFirstEntry_b24 C hret h0 hin N _ _ _ _
  · exact wJ4_getFirstEntry_b9 C hret h0 hin N N _ _ _ _
theorem hdJ4_getFirstEntry : ((⟨"java/util/TreeMap", "getFirstEntry", "()Ljava/util/TreeMap$Entry;"⟩ : MethodName)).cls ≠ "java/lang/invoke/MethodHandle" ∧ ((⟨"java/util/TreeMap", "getFirstEntry", "()Ljava/util/TreeMap$Entry;"⟩ : MethodName)).cls ≠ "java/lang/invoke/VarHandle" ∧ (parseMethodDescriptor ((⟨"java/util/TreeMap", "getFirstEntry", "()Ljava/util/TreeMap$Entry;"⟩ : MethodName)).desc).map (fun d => d.parameters.length) = some 0 := ⟨by decide +kernel, by decide +kernel, by decide +kernel⟩
theorem ctJ4_getFirstEntry {l : Launch} {g : GG} (hst : l.stackTraces = false) (N : Nat) (m : Mm) (v0 : Option Nat) : ∀ v m' k n, fJ4_getFirstEntry (gE_ g) N m v0 = some (v, m', k, n) → Ct_ l g (⟨"java/util/TreeMap", "getFirstEntry", "()Ljava/util/TreeMap$Entry;"⟩ : MethodName) (ws_ (⟨"java/util/TreeMap", "getFirstEntry", "()Ljava/util/TreeMap$Entry;"⟩ : MethodName) cJ4_getFirstEntry 2 (Option.some (Jvm.ClassFile.FieldType.object "java/util/TreeMap$Entry"))) 10 [vr_ v0] m (en_r v) m' k n :=
  Ct_of (by decide +kernel) rfl hst (Nat.le_of_ble_eq_true rfl) rfl (fun E C hret h0 hin => wJ4_getFirstEntry C hret h0 hin N m v0 0 0)
theorem wJ38_absLowest_t21_b70 {l : Launch} {g : GG} {E : Me_} (C : Cx_ l g E "java/util/TreeMap$NavigableSubMap" cJ38_absLowest 2 15) (hret : (eT_ E).sig.returnType = (Option.some (Jvm.ClassFile.FieldType.object "java/util/TreeMap$Entry"))) (h0 : ∀ x ∈ (eC_ E).exceptionTable.toList, False) (hin : (eT_ E).name = "absLowest") (N : Nat) : ∀ (m : Mm) (s0 : Option Nat) (k n : Nat), Sm_ l g E 2 en_r (fJ38_absLowest_t21_b70 (gE_ g) N m s0) k n 70 [] [vr_ s0] m := by
  intro m s0 k n
  unfold fJ38_absLowest_t21_b70
  exact x_aret C hret (Or.inl ⟨_, rfl⟩) rfl dJ38_absLowest_70
theorem wJ38_absLowest_t21_b65 {l : Launch} {g : GG} {E : Me_} (C : Cx_ l g E "java/util/TreeMap$NavigableSubMap" cJ38_absLowest 2 15) (hret : (eT_ E).sig.returnType = (Option.some (Jvm.ClassFile.FieldType.object "java/util/TreeMap$Entry"))) (h0 : ∀ x ∈ (eC_ E).exceptionTable.toList, False) (hin : (eT_ E).name = "absLowest") (N : Nat) : ∀ (m : Mm) (k n : Nat), Sm_ l g E 2 en_r (fJ38_absLowest_t21_b65 (gE_ g) N m) k n 65 [] [] m := by
  intro m k n
  unfold fJ38_absLowest_t21_b65
  refine s_null C dJ38_absLowest_65 66 rfl ?_
  refine s_goto C (off := 4) 70 dJ38_absLowest_66 rfl ?_
  exact wJ38_absLowest_t21_b70 C hret h0 hin N _ _ _ _
theorem wJ38_absLowest_t21_b49 {l : Launch} {g : GG} {E : Me_} (C : Cx_ l g E "java/util/TreeMap$NavigableSubMap" cJ38_absLowest 2 15) (hret : (eT_ E).sig.returnType = (Option.some (Jvm.ClassFile.FieldType.object "java/util/TreeMap$Entry"))) (h0 : ∀ x ∈ (eC_ E).exceptionTable.toList, False) (hin : (eT_ E).name = "absLowest") (N : Nat) : ∀ (m : Mm) (v0 : Option Nat) (s0 : Option Nat) (k n : Nat), Sm_ l g E 2 en_r (fJ38_absLowest_t21_b49 (gE_ g) N m v0 s0) k n 49 [(0, vr_ v0)] [vr_ s0] m := by
  intro m v0 s0 k n
  unfold fJ38_absLowest_t21_b49
  refine s_astore_n C rfl (Nat.le_of_ble_eq_true rfl) [0] rfl rfl dJ38_absLowest_49 50 rfl ?_
  refine s_aload_n C rfl 0 rfl dJ38_absLowest_50 51 rfl ?_
  refine s_ifnull C dJ38_absLowest_51 65 rfl 54 rfl (fun c_ => ?_) (fun c_ => ?_)
  · refine Sm_sub [] rfl ?_
    exact wJ38_absLowest_t21_b65 C hret h0 hin N _ _ _
  · refine s_aload_n C rfl 1 rfl dJ38_absLowest_54 55 rfl ?_
    refine s_aload_n C rfl 0 rfl dJ38_absLowest_55 56 rfl ?_
    refine x_gr C 15 (RJ37, TJ37, 6) rfl 0 (Nat.le_of_ble_eq_true rfl) q1896 (Or.inl rfl) rfl 16 rfl dJ38_absLowest_56 59 rfl (fun x1 => ?_)
    refine x_ck (fun hb_ hb0_ => ?_)
    refine x_callU (enc := en_i) (owner := "java/util/TreeMap$NavigableSubMap") C 14 1 [vr_ x1] 21 (ctJ38_tooHigh_t21 C.2.2.2.2.2.2.2.2.1 N m v0 x1) hb_ hb0_ rfl rfl q1332 q1334 q1335 q1333 q131 q1336 rfl ⟨by decide +kernel, by decide +kernel, by decide +kernel⟩ (Nat.le_of_ble_eq_true rfl) (Nat.le_of_ble_eq_true rfl) rfl (Nat.le_of_ble_eq_true rfl) dJ38_absLowest_59 62 rfl rfl hen_i (kk_i (fun x2 m1 k1 n1 => ?_)) (kx_n he_i)
    refine s_if_eq C dJ38_absLowest_62 69 rfl 65 rfl (fun c_ => ?_) (fun c_ => ?_)
    · refine s_aload_n C rfl 0 rfl dJ38_absLowest_69 70 rfl ?_
      refine Sm_sub [] rfl ?_
      exact wJ38_absLowest_t21_b70 C hret h0 hin N _ _ _ _
    · refine Sm_sub [] rfl ?_
      exact wJ38_absLowest_t21_b65 C hret h0 hin N _ _ _
theorem wJ38_absLowest_t21 {l : Launch} {g : GG} {E : Me_} (C : Cx_ l g E "java/util/TreeMap$NavigableSubMap" cJ38_absLowest 2 15) (hret : (eT_ E).sig.returnType = (Option.some (Jvm.ClassFile.FieldType.object "java/util/TreeMap$Entry"))) (h0 : ∀ x ∈ (eC_ E).exceptionTable.toList, False) (hin : (eT_ E).name = "absLowest") (N : Nat) : ∀ (m : Mm) (v0 : Option Nat) (k n : Nat), Sm_ l g E 2 en_r (fJ38_absLowest_t21 (gE_ g) N m v0) k n 0 [(0, vr_ v0)] [] m := by
  intro m v0 k n
  unfold fJ38_absLowest_t21
  refine s_aload_n C rfl 0 rfl dJ38_absLowest_0 1 rfl ?_
  refine x_gi C 20 (RJ39, TJ39, 12) rfl 3 (Nat.le_of_ble_eq_true rfl) q2016 (Or.inl rfl) rfl 21 rfl dJ38_absLowest_1 4 rfl (fun x1 => ?_)
  refine s_if_eq C dJ38_absLowest_4 17 rfl 7 rfl (fun c_ => ?_) (fun c_ => ?_)
  · refine s_aload_n C rfl 0 rfl dJ38_absLowest_17 18 rfl ?_
    refine x_gi C 20 (RJ39, TJ39, 12) rfl 5 (Nat.le_of_ble_eq_true rfl) q2020 (Or.inl rfl) rfl 21 rfl dJ38_absLowest_18 21 rfl (fun x2 => ?_)
    refine s_if_eq C dJ38_absLowest_21 38 rfl 24 rfl (fun c_ => ?_) (fun c_ => ?_)
    · refine s_aload_n C rfl 0 rfl dJ38_absLowest_38 39 rfl ?_
      refine x_gr C 20 (RJ39, TJ39, 12) rfl 0 (Nat.le_of_ble_eq_true rfl) q2012 (Or.inl rfl) rfl 21 rfl dJ38_absLowest_39 42 rfl (fun x3 => ?_)
      refine s_aload_n C rfl 0 rfl dJ38_absLowest_42 43 rfl ?_
      refine x_gr C 20 (RJ39, TJ39, 12) rfl 1 (Nat.le_of_ble_eq_true rfl) q2014 (Or.inl rfl) rfl 21 rfl dJ38_absLowest_43 46 rfl (fun x4 => ?_)
      refine x_ck (fun hb_ hb0_ => ?_)
      refine x_callV (enc := en_r) C 14 1 [vr_ x4] 15 (ctJ4_getHigherEntry C.2.2.2.2.2.2.2.2.1 N m x3 x4) hb_ hb0_ rfl rfl q1328 q1329 q1330 q87 q1331 hdJ4_getHigherEntry (Nat.le_of_ble_eq_true rfl) (Nat.le_of_ble_eq_true rfl) rfl (Nat.le_of_ble_eq_true rfl) dJ38_absLowest_46 49 rfl rfl hen_r (kk_r (fun x5 m1 k1 n1 => ?_)) (kx_n he_r)
      exact wJ38_absLowest_t21_b49 C hret h0 hin N _ _ _ _ _
    · refine s_aload_n C rfl 0 rfl dJ38_absLowest_24 25 rfl ?_
      refine x_gr C 20 (RJ39, TJ39, 12) rfl 0 (Nat.le_of_ble_eq_true rfl) q2012 (Or.inl rfl) rfl 21 rfl dJ38_absLowest_25 28 rfl (fun x6 => ?_)
      refine s_aload_n C rfl 0 rfl dJ38_absLowest_28 29 rfl ?_
      refine x_gr C 20 (RJ39, TJ39, 12) rfl 1 (Nat.le_of_ble_eq_true rfl) q2014 (Or.inl rfl) rfl 21 rfl dJ38_absLowest_29 32 rfl (fun x7 => ?_)
      refine x_ck (fun hb_ hb0_ => ?_)
      refine x_callV (enc := en_r) C 14 1 [vr_ x7] 15 (ctJ4_getCeilingEntry C.2.2.2.2.2.2.2.2.1 N m x6 x7) hb_ hb0_ rfl rfl q1034 q1035 q1036 q87 q1037 hdJ4_getCeilingEntry (Nat.le_of_ble_eq_true rfl) (Nat.le_of_ble_eq_true rfl) rfl (Nat.le_of_ble_eq_true rfl) dJ38_absLowest_32 35 rfl rfl hen_r (kk_r (fun x8 m2 k1 n1 => ?_)) (kx_n he_r)
      refine s_goto C (off := 14) 49 dJ38_absLowest_35 rfl ?_
      exact wJ38_absLowest_t21_b49 C hret h0 hin N _ _ _ _ _
  · refine s_aload_n C rfl 0 rfl dJ38_absLowest_7 8 rfl ?_
    refine x_gr C 20 (RJ39, TJ39, 12) rfl 0 (Nat.le_of_ble_eq_true rfl) q2012 (Or.inl rfl) rfl 21 rfl dJ38_absLowest_8 11 rfl (fun x9 => ?_)
    refine x_ck (fun hb_ hb0_ => ?_)
    refine x_callV (enc := en_r) C 10 0 [] 15 (ctJ4_getFirstEntry C.2.2.2.2.2.2.2.2.1 N m x9) hb_ hb0_ rfl rfl q1030 q1031 q1032 q87 q1033 hdJ4_getFirstEntry (Nat.le_of_ble_eq_true rfl) (Nat.le_of_ble_eq_true rfl) rfl (Nat.le_of_ble_eq_true rfl) dJ38_absLowest_11 14 rfl rfl hen_r (kk_r (fun x10 m3 k1 n1 => ?_)) (kx_n he_r)
    refine s_goto C (off := 35) 49 dJ38_absLowest_14 rfl ?_
    exact wJ38_absLowest_t21_b49 C hret h0 hin N _ _ _ _ _
theorem hdJ38_absLowest_t21 : ((⟨"java/util/TreeMap$NavigableSubMap", "absLowest", "()Ljava/util/TreeMap$Entry;"⟩ : MethodName)).cls ≠ "java/lang/invoke/MethodHandle" ∧ ((⟨"java/util/TreeMap$NavigableSubMap", "absLowest", "()Ljava/util/TreeMap$Entry;"⟩ : MethodName)).cls ≠ "java/lang/invoke/VarHandle" ∧ (parseMethodDescriptor ((⟨"java/util/TreeMap$NavigableSubMap", "absLowest", "()Ljava/util/TreeMap$Entry;"⟩ : MethodName)).desc).map (fun d => d.parameters.length) = some 0 := ⟨by decide +kernel, by decide +kernel, by decide +kernel⟩
theorem ctJ38_absLowest_t21 {l : Launch} {g : GG} (hst : l.stackTraces = false) (N : Nat) (m : Mm) (v0 : Option Nat) : ∀ v m' k n, fJ38_absLowest_t21 (gE_ g) N m v0 = some (v, m', k, n) → Ct_ l g (⟨"java/util/TreeMap$NavigableSubMap", "absLowest", "()Ljava/util/TreeMap$Entry;"⟩ : MethodName) (ws_ (⟨"java/util/TreeMap$NavigableSubMap", "absLowest", "()Ljava/util/TreeMap$Entry;"⟩ : MethodName) cJ38_absLowest 2 (Option.some (Jvm.ClassFile.FieldType.object "java/util/TreeMap$Entry"))) 15 [vr_ v0] m (en_r v) m' k n :=
  Ct_of (by decide +kernel) rfl hst (Nat.le_of_ble_eq_true rfl) rfl (fun E C hret h0 hin => wJ38_absLowest_t21 C hret h0 hin N m v0 0 0)
theorem wJ38_absHighFence_t21_b43 {l : Launch} {g : GG} {E : Me_} (C : Cx_ l g E "java/util/TreeMap$NavigableSubMap" cJ38_absHighFence 1 15) (hret : (eT_ E).sig.returnType = (Option.some (Jvm.ClassFile.FieldType.object "java/util/TreeMap$Entry"))) (h0 : ∀ x ∈ (eC_ E).exceptionTable.toList, False) (hin : (eT_ E).name = "absHighFence") (N : Nat) : ∀ (m : Mm) (s0 : Option Nat) (k n : Nat), Sm_ l g E 1 en_r (fJ38_absHighFence_t21_b43 (gE_ g) N m s0) k n 43 [] [vr_ s0] m := by
  intro m s0 k n
  unfold fJ38_absHighFence_t21_b43
  exact x_aret C hret (Or.inl ⟨_, rfl⟩) rfl dJ38_absHighFence_43
theorem wJ38_absHighFence_t21 {l : Launch} {g : GG} {E : Me_} (C : Cx_ l g E "java/util/TreeMap$NavigableSubMap" cJ38_absHighFence 1 15) (hret : (eT_ E).sig.returnType = (Option.some (Jvm.ClassFile.FieldType.object "java/util/TreeMap$Entry"))) (h0 : ∀ x ∈ (eC_ E).exceptionTable.toList, False) (hin : (eT_ E).name = "absHighFence") (N : Nat) : ∀ (m : Mm) (v0 : Option Nat) (k n : Nat), Sm_ l g E 1 en_r (fJ38_absHighFence_t21 (gE_ g) N m v0) k n 0 [(0, vr_ v0)] [] m := by
  intro m v0 k n
  unfold fJ38_absHighFence_t21
  refine s_aload_n C rfl 0 rfl dJ38_absHighFence_0 1 rfl ?_
  refine x_gi C 20 (RJ39, TJ39, 12) rfl 4 (Nat.le_of_ble_eq_true rfl) q2018 (Or.inl rfl) rfl 21 rfl dJ38_absHighFence_1 4 rfl (fun x1 => ?_)
  refine s_if_eq C dJ38_absHighFence_4 11 rfl 7 rfl (fun c_ => ?_) (fun c_ => ?_)
  · refine s_aload_n C rfl 0 rfl dJ38_absHighFence_11 12 rfl ?_
    refine x_gi C 20 (RJ39, TJ39, 12) rfl 6 (Nat.le_of_ble_eq_true rfl) q2021 (Or.inl rfl) rfl 21 rfl dJ38_absHighFence_12 15 rfl (fun x2 => ?_)
    refine s_if_eq C dJ38_absHighFence_15 32 rfl 18 rfl (fun c_ => ?_) (fun c_ => ?_)
    · refine s_aload_n C rfl 0 rfl dJ38_absHighFence_32 33 rfl ?_
      refine x_gr C 20 (RJ39, TJ39, 12) rfl 0 (Nat.le_of_ble_eq_true rfl) q2012 (Or.inl rfl) rfl 21 rfl dJ38_absHighFence_33 36 rfl (fun x3 => ?_)
      refine s_aload_n C rfl 0 rfl dJ38_absHighFence_36 37 rfl ?_
      refine x_gr C 20 (RJ39, TJ39, 12) rfl 2 (Nat.le_of_ble_eq_true rfl) q2015 (Or.inl rfl) rfl 21 rfl dJ38_absHighFence_37 40 rfl (fun x4 => ?_)
      refine x_ck (fun hb_ hb0_ => ?_)
      refine x_callV (enc := en_r) C 14 1 [vr_ x4] 15 (ctJ4_getCeilingEntry C.2.2.2.2.2.2.2.2.1 N m x3 x4) hb_ hb0_ rfl rfl q1034 q1035 q1036 q87 q1037 hdJ4_getCeilingEntry (Nat.le_of_ble_eq_true rfl) (Nat.le_of_ble_eq_true rfl) rfl (Nat.le_of_ble_eq_true rfl) dJ38_absHighFence_40 43 rfl rfl hen_r (kk_r (fun x5 m1 k1 n1 => ?_)) (kx_n he_r)
      refine Sm_sub [] rfl ?_
      exact wJ38_absHighFence_t21_b43 C hret h0 hin N _ _ _ _
    · refine s_aload_n C rfl 0 rfl dJ38_absHighFence_18 19 rfl ?_
      refine x_gr C 20 (RJ39, TJ39, 12) rfl 0 (Nat.le_of_ble_eq_true rfl) q2012 (Or.inl rfl) rfl 21 rfl dJ38_absHighFence_19 22 rfl (fun x6 => ?_)
      refine s_aload_n C rfl 0 rfl dJ38_absHighFence_22 23 rfl ?_
      refine x_gr C 20 (RJ39, TJ39, 12) rfl 2 (Nat.le_of_ble_eq_true rfl) q2015 (Or.inl rfl) rfl 21 rfl dJ38_absHighFence_23 26 rfl (fun x7 => ?_)
      refine x_ck (fun hb_ hb0_ => ?_)
      refine x_callV (enc := en_r) C 14 1 [vr_ x7] 15 (ctJ4_getHigherEntry C.2.2.2.2.2.2.2.2.1 N m x6 x7) hb_ hb0_ rfl rfl q1328 q1329 q1330 q87 q1331 hdJ4_getHigherEntry (Nat.le_of_ble_eq_true rfl) (Nat.le_of_ble_eq_true rfl) rfl (Nat.le_of_ble_eq_true rfl) dJ38_absHighFence_26 29 rfl rfl hen_r (kk_r (fun x8 m2 k1 n1 => ?_)) (kx_n he_r)
      refine s_goto C (off := 14) 43 dJ38_absHighFence_29 rfl ?_
      refine Sm_sub [] rfl ?_
      exact wJ38_absHighFence_t21_b43 C hret h0 hin N _ _ _ _
  · refine s_null C dJ38_absHighFence_7 8 rfl ?_
    refine s_goto C (off := 35) 43 dJ38_absHighFence_8 rfl ?_
    refine Sm_sub [] rfl ?_
    exact wJ38_absHighFence_t21_b43 C hret h0 hin N _ _ _ _
theorem hdJ38_absHighFence_t21 : ((⟨"java/util/TreeMap$NavigableSubMap", "absHighFence", "()Ljava/util/TreeMap$Entry;"⟩ : MethodName)).cls ≠ "java/lang/invoke/MethodHandle" ∧ ((⟨"java/util/TreeMap$NavigableSubMap", "absHighFence", "()Ljava/util/TreeMap$Entry;"⟩ : MethodName)).cls ≠ "java/lang/invoke/VarHandle" ∧ (parseMethodDescriptor ((⟨"java/util/TreeMap$NavigableSubMap", "absHighFence", "()Ljava/util/TreeMap$Entry;"⟩ : MethodName)).desc).map (fun d => d.parameters.length) = some 0 := ⟨by decide +kernel, by decide +kernel, by decide +kernel⟩
theorem ctJ38_absHighFence_t21 {l : Launch} {g : GG} (hst : l.stackTraces = false) (N : Nat) (m : Mm) (v0 : Option Nat) : ∀ v m' k n, fJ38_absHighFence_t21 (gE_ g) N m v0 = some (v, m', k, n) → Ct_ l g (⟨"java/util/TreeMap$NavigableSubMap", "absHighFence", "()Ljava/util/TreeMap$Entry;"⟩ : MethodName) (ws_ (⟨"java/util/TreeMap$NavigableSubMap", "absHighFence", "()Ljava/util/TreeMap$Entry;"⟩ : MethodName) cJ38_absHighFence 1 (Option.some (Jvm.ClassFile.FieldType.object "java/util/TreeMap$Entry"))) 15 [vr_ v0] m (en_r v) m' k n :=
  Ct_of (by decide +kernel) rfl hst (Nat.le_of_ble_eq_true rfl) rfl (fun E C hret h0 hin => wJ38_absHighFence_t21 C hret h0 hin N m v0 0 0)
theorem wJ26_init_t24_b45 {l : Launch} {g : GG} {E : Me_} (C : Cx_ l g E "java/util/TreeMap$NavigableSubMap$SubMapIterator" cJ26_init 4 10) (hret : (eT_ E).sig.returnType = (Option.none : Option Jvm.ClassFile.FieldType)) (h0 : ∀ x ∈ (eC_ E).exceptionTable.toList, False) (hin : (eT_ E).name = "<init>") (N : Nat) : ∀ (m : Mm) (s0 : Option Nat) (s1 : Option Nat) (k n : Nat), Sm_ l g E 4 en_v (fJ26_init_t24_b45 (gE_ g) N m s0 s1) k n 45 [] [vr_ s1, vr_ s0] m := by
  intro m s0 s1 k n
  unfold fJ26_init_t24_b45
  refine x_prF C hin 23 (RJ33, TJ33, 6) rfl 2 (Nat.le_of_ble_eq_true rfl) rfl q1355 rfl rfl trivial 24 rfl dJ26_init_45 48 rfl (fun m1 => ?_)
  exact x_vret C hret rfl dJ26_init_48
theorem wJ26_init_t24 {l : Launch} {g : GG} {E : Me_} (C : Cx_ l g E "java/util/TreeMap$NavigableSubMap$SubMapIterator" cJ26_init 4 10) (hret : (eT_ E).sig.returnType = (Option.none : Option Jvm.ClassFile.FieldType)) (h0 : ∀ x ∈ (eC_ E).exceptionTable.toList, False) (hin : (eT_ E).name = "<init>") (N : Nat) : ∀ (m : Mm) (v0 : Option Nat) (v1 : Option Nat) (v2 : Option Nat) (v3 : Option Nat) (k n : Nat), Sm_ l g E 4 en_v (fJ26_init_t24 (gE_ g) N m v0 v1 v2 v3) k n 0 [(0, vr_ v0), (1, vr_ v1), (2, vr_ v2), (3, vr_ v3)] [] m := by
  intro m v0 v1 v2 v3 k n
  unfold fJ26_init_t24
  refine s_aload_n C rfl 0 rfl dJ26_init_0 1 rfl ?_
  refine s_aload_n C rfl 1 rfl dJ26_init_1 2 rfl ?_
  refine x_prF C hin 23 (RJ33, TJ33, 6) rfl 4 (Nat.le_of_ble_eq_true rfl) rfl q1357 rfl rfl trivial 24 rfl dJ26_init_2 5 rfl (fun m1 => ?_)
  refine s_aload_n C rfl 0 rfl dJ26_init_5 6 rfl ?_
  refine x_ok (fun hb_ => ?_)
  refine x_obj C hb_ q1350 q152 q153 (by decide) (Nat.le_of_ble_eq_true rfl) dJ26_init_6 9 rfl ?_
  refine s_aload_n C rfl 0 rfl dJ26_init_9 10 rfl ?_
  refine s_aload_n C rfl 1 rfl dJ26_init_10 11 rfl ?_
  refine x_gr C 20 (RJ39, TJ39, 12) rfl 0 (Nat.le_of_ble_eq_true rfl) q2011 (Or.inl rfl) rfl 21 rfl dJ26_init_11 14 rfl (fun x1 => ?_)
  refine x_giN C 14 (RJ4, TJ4, 9) rfl 5 (Nat.le_of_ble_eq_true rfl) q209 rfl rfl 15 rfl dJ26_init_14 17 rfl (fun x2 => ?_)
  refine x_pi C 23 (RJ33, TJ33, 6) rfl 3 (Nat.le_of_ble_eq_true rfl) rfl q1356 (Or.inl rfl) rfl trivial 24 rfl dJ26_init_17 20 rfl (fun m2 => ?_)
  refine s_aload_n C rfl 0 rfl dJ26_init_20 21 rfl ?_
  refine s_null C dJ26_init_21 22 rfl ?_
  refine x_pr C 23 (RJ33, TJ33, 6) rfl 0 (Nat.le_of_ble_eq_true rfl) rfl q1353 (Or.inl rfl) rfl trivial 24 rfl dJ26_init_22 25 rfl (fun m3 => ?_)
  refine s_aload_n C rfl 0 rfl dJ26_init_25 26 rfl ?_
  refine s_aload_n C rfl 2 rfl dJ26_init_26 27 rfl ?_
  refine x_pr C 23 (RJ33, TJ33, 6) rfl 1 (Nat.le_of_ble_eq_true rfl) rfl q1354 (Or.inl rfl) rfl trivial 24 rfl dJ26_init_27 30 rfl (fun m4 => ?_)
  refine s_aload_n C rfl 0 rfl dJ26_init_30 31 rfl ?_
  refine s_aload_n C rfl 3 rfl dJ26_init_31 32 rfl ?_
  refine s_ifnonnull C dJ26_init_32 41 rfl 35 rfl (fun c_ => ?_) (fun c_ => ?_)
  · refine x_gsN C 4 (vr_ (some (gE_ g 3))) rfl q1351 rfl dJ26_init_35 38 rfl ?_
    refine s_goto C (off := 7) 45 dJ26_init_38 rfl ?_
    refine Sm_sub [] rfl ?_
    exact wJ26_init_t24_b45 C hret h0 hin N _ _ _ _ _
  · refine s_aload_n C rfl 3 rfl dJ26_init_41 42 rfl ?_
    refine x_gr C 15 (RJ37, TJ37, 6) rfl 0 (Nat.le_of_ble_eq_true rfl) q1892 (Or.inl rfl) rfl 16 rfl dJ26_init_42 45 rfl (fun x3 => ?_)
    refine Sm_sub [] rfl ?_
    exact wJ26_init_t24_b45 C hret h0 hin N _ _ _ _ _
theorem hdJ26_init_t24 : ((⟨"java/util/TreeMap$NavigableSubMap$SubMapIterator", "<init>", "(Ljava/util/TreeMap$NavigableSubMap;Ljava/util/TreeMap$Entry;Ljava/util/TreeMap$Entry;)V"⟩ : MethodName)).cls ≠ "java/lang/invoke/MethodHandle" ∧ ((⟨"java/util/TreeMap$NavigableSubMap$SubMapIterator", "<init>", "(Ljava/util/TreeMap$NavigableSubMap;Ljava/util/TreeMap$Entry;Ljava/util/TreeMap$Entry;)V"⟩ : MethodName)).cls ≠ "java/lang/invoke/VarHandle" ∧ (parseMethodDescriptor ((⟨"java/util/TreeMap$NavigableSubMap$SubMapIterator", "<init>", "(Ljava/util/TreeMap$NavigableSubMap;Ljava/util/TreeMap$Entry;Ljava/util/TreeMap$Entry;)V"⟩ : MethodName)).desc).map (fun d => d.parameters.length) = some 3 := ⟨by decide +kernel, by decide +kernel, by decide +kernel⟩
theorem ctJ26_init_t24 {l : Launch} {g : GG} (hst : l.stackTraces = false) (N : Nat) (m : Mm) (v0 : Option Nat) (v1 : Option Nat) (v2 : Option Nat) (v3 : Option Nat) : ∀ v m' k n, fJ26_init_t24 (gE_ g) N m v0 v1 v2 v3 = some (v, m', k, n) → Ct_ l g (⟨"java/util/TreeMap$NavigableSubMap$SubMapIterator", "<init>", "(Ljava/util/TreeMap$NavigableSubMap;Ljava/util/TreeMap$Entry;Ljava/util/TreeMap$Entry;)V"⟩ : MethodName) (ws_ (⟨"java/util/TreeMap$NavigableSubMap$SubMapIterator", "<init>", "(Ljava/util/TreeMap$NavigableSubMap;Ljava/util/TreeMap$Entry;Ljava/util/TreeMap$Entry;)V"⟩ : MethodName) cJ26_init 4 (Option.none : Option Jvm.ClassFile.FieldType)) 10 [vr_ v0, vr_ v1, vr_ v2, vr_ v3] m (en_v v) m' k n :=
  Ct_of (by decide +kernel) rfl hst (Nat.le_of_ble_eq_true rfl) rfl (fun E C hret h0 hin => wJ26_init_t24 C hret h0 hin N m v0 v1 v2 v3 0 0)
theorem wJ33_init {l : Launch} {g : GG} {E : Me_} (C : Cx_ l g E "java/util/TreeMap$NavigableSubMap$SubMapKeyIterator" cJ33_init 4 11) (hret : (eT_ E).sig.returnType = (Option.none : Option Jvm.ClassFile.FieldType)) (h0 : ∀ x ∈ (eC_ E).exceptionTable.toList, False) (hin : (eT_ E).name = "<init>") (N : Nat) : ∀ (m : Mm) (v0 : Option Nat) (v1 : Option Nat) (v2 : Option Nat) (v3 : Option Nat) (k n : Nat), Sm_ l g E 4 en_v (fJ33_init (gE_ g) N m v0 v1 v2 v3) k n 0 [(0, vr_ v0), (1, vr_ v1), (2, vr_ v2), (3, vr_ v3)] [] m := by
  intro m v0 v1 v2 v3 k n
  unfold fJ33_init
  refine s_aload_n C rfl 0 rfl dJ33_init_0 1 rfl ?_
  refine s_aload_n C rfl 1 rfl dJ33_init_1 2 rfl ?_
  refine x_prF C hin 23 (RJ33, TJ33, 6) rfl 5 (Nat.le_of_ble_eq_true rfl) rfl q1436 rfl rfl trivial 24 rfl dJ33_init_2 5 rfl (fun m1 => ?_)
  refine s_aload_n C rfl 0 rfl dJ33_init_5 6 rfl ?_
  refine s_aload_n C rfl 1 rfl dJ33_init_6 7 rfl ?_
  refine s_aload_n C rfl 2 rfl dJ33_init_7 8 rfl ?_
  refine s_aload_n C rfl 3 rfl dJ33_init_8 9 rfl ?_
  refine x_ok (fun hb0_ => ?_)
  refine x_callI (enc := en_v) C 10 3 [vr_ v1, vr_ v2, vr_ v3] (ctJ26_init_t24 C.2.2.2.2.2.2.2.2.1 N m1 v0 v1 v2 v3) hb0_ rfl q1435 q1348 q114 q1349 rfl hdJ26_init_t24 (Nat.le_of_ble_eq_true rfl) (Nat.le_of_ble_eq_true rfl) rfl (Nat.le_of_ble_eq_true rfl) dJ33_init_9 12 rfl rfl hen_v (kk_v (fun m2 k1 n1 => ?_)) (kx_n he_v)
  exact x_vret C hret rfl dJ33_init_12
theorem hdJ33_init : ((⟨"java/util/TreeMap$NavigableSubMap$SubMapKeyIterator", "<init>", "(Ljava/util/TreeMap$NavigableSubMap;Ljava/util/TreeMap$Entry;Ljava/util/TreeMap$Entry;)V"⟩ : MethodName)).cls ≠ "java/lang/invoke/MethodHandle" ∧ ((⟨"java/util/TreeMap$NavigableSubMap$SubMapKeyIterator", "<init>", "(Ljava/util/TreeMap$NavigableSubMap;Ljava/util/TreeMap$Entry;Ljava/util/TreeMap$Entry;)V"⟩ : MethodName)).cls ≠ "java/lang/invoke/VarHandle" ∧ (parseMethodDescriptor ((⟨"java/util/TreeMap$NavigableSubMap$SubMapKeyIterator", "<init>", "(Ljava/util/TreeMap$NavigableSubMap;Ljava/util/TreeMap$Entry;Ljava/util/TreeMap$Entry;)V"⟩ : MethodName)).desc).map (fun d => d.parameters.length) = some 3 := ⟨by decide +kernel, by decide +kernel, by decide +kernel⟩
theorem ctJ33_init {l : Launch} {g : GG} (hst : l.stackTraces = false) (N : Nat) (m : Mm) (v0 : Option Nat) (v1 : Option Nat) (v2 : Option Nat) (v3 : Option Nat) : ∀ v m' k n, fJ33_init (gE_ g) N m v0 v1 v2 v3 = some (v, m', k, n) → Ct_ l g (⟨"java/util/TreeMap$NavigableSubMap$SubMapKeyIterator", "<init>", "(Ljava/util/TreeMap$NavigableSubMap;Ljava/util/TreeMap$Entry;Ljava/util/TreeMap$Entry;)V"⟩ : MethodName) (ws_ (⟨"java/util/TreeMap$NavigableSubMap$SubMapKeyIterator", "<init>", "(Ljava/util/TreeMap$NavigableSubMap;Ljava/util/TreeMap$Entry;Ljava/util/TreeMap$Entry;)V"⟩ : MethodName) cJ33_init 4 (Option.none : Option Jvm.ClassFile.FieldType)) 11 [vr_ v0, vr_ v1, vr_ v2, vr_ v3] m (en_v v) m' k n :=
  Ct_of (by decide +kernel) rfl hst (Nat.le_of_ble_eq_true rfl) rfl (fun E C hret h0 hin => wJ33_init C hret h0 hin N m v0 v1 v2 v3 0 0)
theorem wJ39_keyIterator {l : Launch} {g : GG} {E : Me_} (C : Cx_ l g E "java/util/TreeMap$AscendingSubMap" cJ39_keyIterator 1 16) (hret : (eT_ E).sig.returnType = (Option.some (Jvm.ClassFile.FieldType.object "java/util/Iterator"))) (h0 : ∀ x ∈ (eC_ E).exceptionTable.toList, False) (hin : (eT_ E).name = "keyIterator") (N : Nat) : ∀ (m : Mm) (v0 : Option Nat) (k n : Nat), Sm_ l g E 1 en_r (fJ39_keyIterator (gE_ g) N m v0) k n 0 [(0, vr_ v0)] [] m := by
  intro m v0 k n
  unfold fJ39_keyIterator
  refine x_nw C 23 (RJ33, TJ33, 6) rfl q1428 q1429 q122 24 6 rfl rfl dJ39_keyIterator_0 3 rfl (fun x1 m1 => ?_)
  refine s_dup C rfl dJ39_keyIterator_3 4 rfl ?_
  refine s_aload_n C rfl 0 rfl dJ39_keyIterator_4 5 rfl ?_
  refine s_aload_n C rfl 0 rfl dJ39_keyIterator_5 6 rfl ?_
  refine x_ck (fun hb_ hb0_ => ?_)
  refine x_callU (enc := en_r) (owner := "java/util/TreeMap$NavigableSubMap") C 15 0 [] 21 (ctJ38_absLowest_t21 C.2.2.2.2.2.2.2.2.1 N m1 v0) hb_ hb0_ rfl rfl q1430 q1025 q1027 q1028 q131 q1029 rfl ⟨by decide +kernel, by decide +kernel, by decide +kernel⟩ (Nat.le_of_ble_eq_true rfl) (Nat.le_of_ble_eq_true rfl) rfl (Nat.le_of_ble_eq_true rfl) dJ39_keyIterator_6 9 rfl rfl hen_r (kk_r (fun x2 m2 k1 n1 => ?_)) (kx_n he_r)
  refine s_aload_n C rfl 0 rfl dJ39_keyIterator_9 10 rfl ?_
  refine x_ck (fun hb_ hb0_ => ?_)
  refine x_callU (enc := en_r) (owner := "java/util/TreeMap$NavigableSubMap") C 15 0 [] 21 (ctJ38_absHighFence_t21 C.2.2.2.2.2.2.2.2.1 N m2 v0) hb_ hb0_ rfl rfl q1431 q1339 q1341 q1342 q131 q1343 rfl ⟨by decide +kernel, by decide +kernel, by decide +kernel⟩ (Nat.le_of_ble_eq_true rfl) (Nat.le_of_ble_eq_true rfl) rfl (Nat.le_of_ble_eq_true rfl) dJ39_keyIterator_10 13 rfl rfl hen_r (kk_r (fun x3 m3 k1 n1 => ?_)) (kx_n he_r)
  refine x_callI (enc := en_v) C 11 3 [vr_ v0, vr_ x2, vr_ x3] (ctJ33_init C.2.2.2.2.2.2.2.2.1 N m3 (some x1) v0 x2 x3) (fun h => by cases h) rfl q1432 q1433 q122 q1434 rfl hdJ33_init (Nat.le_of_ble_eq_true rfl) (Nat.le_of_ble_eq_true rfl) rfl (Nat.le_of_ble_eq_true rfl) dJ39_keyIterator_13 16 rfl rfl hen_v (kk_v (fun m4 k1 n1 => ?_)) (kx_n he_v)
  exact x_aret C hret (Or.inl ⟨_, rfl⟩) rfl dJ39_keyIterator_16
theorem hdJ39_keyIterator : ((⟨"java/util/TreeMap$AscendingSubMap", "keyIterator", "()Ljava/util/Iterator;"⟩ : MethodName)).cls ≠ "java/lang/invoke/MethodHandle" ∧ ((⟨"java/util/TreeMap$AscendingSubMap", "keyIterator", "()Ljava/util/Iterator;"⟩ : MethodName)).cls ≠ "java/lang/invoke/VarHandle" ∧ (parseMethodDescriptor ((⟨"java/util/TreeMap$AscendingSubMap", "keyIterator", "()Ljava/util/Iterator;"⟩ : MethodName)).desc).map (fun d => d.parameters.length) = some 0 := ⟨by decide +kernel, by decide +kernel, by decide +kernel⟩
theorem ctJ39_keyIterator {l : Launch} {g : GG} (hst : l.stackTraces = false) (N : Nat) (m : Mm) (v0 : Option Nat) : ∀ v m' k n, fJ39_keyIterator (gE_ g) N m v0 = some (v, m', k, n) → Ct_ l g (⟨"java/util/TreeMap$AscendingSubMap", "keyIterator", "()Ljava/util/Iterator;"⟩ : MethodName) (ws_ (⟨"java/util/TreeMap$AscendingSubMap", "keyIterator", "()Ljava/util/Iterator;"⟩ : MethodName) cJ39_keyIterator 1 (Option.some (Jvm.ClassFile.FieldType.object "java/util/Iterator"))) 16 [vr_ v0] m (en_r v) m' k n :=
  Ct_of (by decide +kernel) rfl hst (Nat.le_of_ble_eq_true rfl) rfl (fun E C hret h0 hin => wJ39_keyIterator C hret h0 hin N m v0 0 0)
theorem wJ30_init_t18 {l : Launch} {g : GG} {E : Me_} (C : Cx_ l g E "java/util/TreeMap$PrivateEntryIterator" cJ30_init 3 10) (hret : (eT_ E).sig.returnType = (Option.none : Option Jvm.ClassFile.FieldType)) (h0 : ∀ x ∈ (eC_ E).exceptionTable.toList, False) (hin : (eT_ E).name = "<init>") (N : Nat) : ∀ (m : Mm) (v0 : Option Nat) (v1 : Option Nat) (v2 : Option Nat) (k n : Nat), Sm_ l g E 3 en_v (fJ30_init_t18 (gE_ g) N m v0 v1 v2) k n 0 [(0, vr_ v0), (1, vr_ v1), (2, vr_ v2)] [] m := by
  intro m v0 v1 v2 k n
  unfold fJ30_init_t18
  refine s_aload_n C rfl 0 rfl dJ30_init_0 1 rfl ?_
  refine s_aload_n C rfl 1 rfl dJ30_init_1 2 rfl ?_
  refine x_prF C hin 17 (RJ32, TJ32, 4) rfl 3 (Nat.le_of_ble_eq_true rfl) rfl q1388 rfl rfl trivial 18 rfl dJ30_init_2 5 rfl (fun m1 => ?_)
  refine s_aload_n C rfl 0 rfl dJ30_init_5 6 rfl ?_
  refine x_ok (fun hb_ => ?_)
  refine x_obj C hb_ q1384 q152 q153 (by decide) (Nat.le_of_ble_eq_true rfl) dJ30_init_6 9 rfl ?_
  refine s_aload_n C rfl 0 rfl dJ30_init_9 10 rfl ?_
  refine s_aload_n C rfl 1 rfl dJ30_init_10 11 rfl ?_
  refine x_giN C 14 (RJ4, TJ4, 9) rfl 5 (Nat.le_of_ble_eq_true rfl) q208 rfl rfl 15 rfl dJ30_init_11 14 rfl (fun x1 => ?_)
  refine x_pi C 17 (RJ32, TJ32, 4) rfl 2 (Nat.le_of_ble_eq_true rfl) rfl q1387 (Or.inl rfl) rfl trivial 18 rfl dJ30_init_14 17 rfl (fun m2 => ?_)
  refine s_aload_n C rfl 0 rfl dJ30_init_17 18 rfl ?_
  refine s_null C dJ30_init_18 19 rfl ?_
  refine x_pr C 17 (RJ32, TJ32, 4) rfl 1 (Nat.le_of_ble_eq_true rfl) rfl q1386 (Or.inl rfl) rfl trivial 18 rfl dJ30_init_19 22 rfl (fun m3 => ?_)
  refine s_aload_n C rfl 0 rfl dJ30_init_22 23 rfl ?_
  refine s_aload_n C rfl 2 rfl dJ30_init_23 24 rfl ?_
  refine x_pr C 17 (RJ32, TJ32, 4) rfl 0 (Nat.le_of_ble_eq_true rfl) rfl q1385 (Or.inl rfl) rfl trivial 18 rfl dJ30_init_24 27 rfl (fun m4 => ?_)
  exact x_vret C hret rfl dJ30_init_27
theorem hdJ30_init_t18 : ((⟨"java/util/TreeMap$PrivateEntryIterator", "<init>", "(Ljava/util/TreeMap;Ljava/util/TreeMap$Entry;)V"⟩ : MethodName)).cls ≠ "java/lang/invoke/MethodHandle" ∧ ((⟨"java/util/TreeMap$PrivateEntryIterator", "<init>", "(Ljava/util/TreeMap;Ljava/util/TreeMap$Entry;)V"⟩ : MethodName)).cls ≠ "java/lang/invoke/VarHandle" ∧ (parseMethodDescriptor ((⟨"java/util/TreeMap$PrivateEntryIterator", "<init>", "(Ljava/util/TreeMap;Ljava/util/TreeMap$Entry;)V"⟩ : MethodName)).desc).map (fun d => d.parameters.length) = some 2 := ⟨by decide +kernel, by decide +kernel, by decide +kernel⟩
theorem ctJ30_init_t18 {l : Launch} {g : GG} (hst : l.stackTraces = false) (N : Nat) (m : Mm) (v0 : Option Nat) (v1 : Option Nat) (v2 : Option Nat) : ∀ v m' k n, fJ30_init_t18 (gE_ g) N m v0 v1 v2 = some (v, m', k, n) → Ct_ l g (⟨"java/util/TreeMap$PrivateEntryIterator", "<init>", "(Ljava/util/TreeMap;Ljava/util/TreeMap$Entry;)V"⟩ : MethodName) (ws_ (⟨"java/util/TreeMap$PrivateEntryIterator", "<init>", "(Ljava/util/TreeMap;Ljava/util/TreeMap$Entry;)V"⟩ : MethodName) cJ30_init 3 (Option.none : Option Jvm.ClassFile.FieldType)) 10 [vr_ v0, vr_ v1, vr_ v2] m (en_v v) m' k n :=
  Ct_of (by decide +kernel) rfl hst (Nat.le_of_ble_eq_true rfl) rfl (fun E C hret h0 hin => wJ30_init_t18 C hret h0 hin N m v0 v1 v2 0 0)
theorem wJ32_init {l : Launch} {g : GG} {E : Me_} (C : Cx_ l g E "java/util/TreeMap$KeyIterator" cJ32_init 3 11) (hret : (eT_ E).sig.returnType = (Option.none : Option Jvm.ClassFile.FieldType)) (h0 : ∀ x ∈ (eC_ E).exceptionTable.toList, False) (hin : (eT_ E).name = "<init>") (N : Nat) : ∀ (m : Mm) (v0 : Option Nat) (v1 : Option Nat) (v2 : Option Nat) (k n : Nat), Sm_ l g E 3 en_v (fJ32_init (gE_ g) N m v0 v1 v2) k n 0 [(0, vr_ v0), (1, vr_ v1), (2, vr_ v2)] [] m := by
  intro m v0 v1 v2 k n
  unfold fJ32_init
  refine s_aload_n C rfl 0 rfl dJ32_init_0 1 rfl ?_
  refine s_aload_n C rfl 1 rfl dJ32_init_1 2 rfl ?_
  refine s_aload_n C rfl 2 rfl dJ32_init_2 3 rfl ?_
  refine x_ok (fun hb0_ => ?_)
  refine x_callI (enc := en_v) C 10 2 [vr_ v1, vr_ v2] (ctJ30_init_t18 C.2.2.2.2.2.2.2.2.1 N m v0 v1 v2) hb0_ rfl q1415 q1382 q119 q1383 rfl hdJ30_init_t18 (Nat.le_of_ble_eq_true rfl) (Nat.le_of_ble_eq_true rfl) rfl (Nat.le_of_ble_eq_true rfl) dJ32_init_3 6 rfl rfl hen_v (kk_v (fun m1 k1 n1 => ?_)) (kx_n he_v)
  exact x_vret C hret rfl dJ32_init_6
theorem hdJ32_init : ((⟨"java/util/TreeMap$KeyIterator", "<init>", "(Ljava/util/TreeMap;Ljava/util/TreeMap$Entry;)V"⟩ : MethodName)).cls ≠ "java/lang/invoke/MethodHandle" ∧ ((⟨"java/util/TreeMap$KeyIterator", "<init>", "(Ljava/util/TreeMap;Ljava/util/TreeMap$Entry;)V"⟩ : MethodName)).cls ≠ "java/lang/invoke/VarHandle" ∧ (parseMethodDescriptor ((⟨"java/util/TreeMap$KeyIterator", "<init>", "(Ljava/util/TreeMap;Ljava/util/TreeMap$Entry;)V"⟩ : MethodName)).desc).map (fun d => d.parameters.length) = some 2 := ⟨by decide +kernel, by decide +kernel, by decide +kernel⟩
theorem ctJ32_init {l : Launch} {g : GG} (hst : l.stackTraces = false) (N : Nat) (m : Mm) (v0 : Option Nat) (v1 : Option Nat) (v2 : Option Nat) : ∀ v m' k n, fJ32_init (gE_ g) N m v0 v1 v2 = some (v, m', k, n) → Ct_ l g (⟨"java/util/TreeMap$KeyIterator", "<init>", "(Ljava/util/TreeMap;Ljava/util/TreeMap$Entry;)V"⟩ : MethodName) (ws_ (⟨"java/util/TreeMap$KeyIterator", "<init>", "(Ljava/util/TreeMap;Ljava/util/TreeMap$Entry;)V"⟩ : MethodName) cJ32_init 3 (Option.none : Option Jvm.ClassFile.FieldType)) 11 [vr_ v0, vr_ v1, vr_ v2] m (en_v v) m' k n :=
  Ct_of (by decide +kernel) rfl hst (Nat.le_of_ble_eq_true rfl) rfl (fun E C hret h0 hin => wJ32_init C hret h0 hin N m v0 v1 v2 0 0)
theorem wJ4_keyIterator {l : Launch} {g : GG} {E : Me_} (C : Cx_ l g E "java/util/TreeMap" cJ4_keyIterator 1 12) (hret : (eT_ E).sig.returnType = (Option.some (Jvm.ClassFile.FieldType.object "java/util/Iterator"))) (h0 : ∀ x ∈ (eC_ E).exceptionTable.toList, False) (hin : (eT_ E).name = "keyIterator") (N : Nat) : ∀ (m : Mm) (v0 : Option Nat) (k n : Nat), Sm_ l g E 1 en_r (fJ4_keyIterator (gE_ g) N m v0) k n 0 [(0, vr_ v0)] [] m := by
  intro m v0 k n
  unfold fJ4_keyIterator
  refine x_nw C 17 (RJ32, TJ32, 4) rfl q1409 q1410 q121 18 4 rfl rfl dJ4_keyIterator_0 3 rfl (fun x1 m1 => ?_)
  refine s_dup C rfl dJ4_keyIterator_3 4 rfl ?_
  refine s_aload_n C rfl 0 rfl dJ4_keyIterator_4 5 rfl ?_
  refine s_aload_n C rfl 0 rfl dJ4_keyIterator_5 6 rfl ?_
  refine x_ck (fun hb_ hb0_ => ?_)
  refine x_callV (enc := en_r) C 10 0 [] 15 (ctJ4_getFirstEntry C.2.2.2.2.2.2.2.2.1 N m1 v0) hb_ hb0_ rfl rfl q1411 q1031 q1032 q87 q1033 hdJ4_getFirstEntry (Nat.le_of_ble_eq_true rfl) (Nat.le_of_ble_eq_true rfl) rfl (Nat.le_of_ble_eq_true rfl) dJ4_keyIterator_6 9 rfl rfl hen_r (kk_r (fun x2 m2 k1 n1 => ?_)) (kx_n he_r)
  refine x_callI (enc := en_v) C 11 2 [vr_ v0, vr_ x2] (ctJ32_init C.2.2.2.2.2.2.2.2.1 N m2 (some x1) v0 x2) (fun h => by cases h) rfl q1412 q1413 q121 q1414 rfl hdJ32_init (Nat.le_of_ble_eq_true rfl) (Nat.le_of_ble_eq_true rfl) rfl (Nat.le_of_ble_eq_true rfl) dJ4_keyIterator_9 12 rfl rfl hen_v (kk_v (fun m3 k1 n1 => ?_)) (kx_n he_v)
  exact x_aret C hret (Or.inl ⟨_, rfl⟩) rfl dJ4_keyIterator_12
theorem hdJ4_keyIterator : ((⟨"java/util/TreeMap", "keyIterator", "()Ljava/util/Iterator;"⟩ : MethodName)).cls ≠ "java/lang/invoke/MethodHandle" ∧ ((⟨"java/util/TreeMap", "keyIterator", "()Ljava/util/Iterator;"⟩ : MethodName)).cls ≠ "java/lang/invoke/VarHandle" ∧ (parseMethodDescriptor ((⟨"java/util/TreeMap", "keyIterator", "()Ljava/util/Iterator;"⟩ : MethodName)).desc).map (fun d => d.parameters.length) = some 0 := ⟨by decide +kernel, by decide +kernel, by decide +kernel⟩
theorem ctJ4_keyIterator {l : Launch} {g : GG} (hst : l.stackTraces = false) (N : Nat) (m : Mm) (v0 : Option Nat) : ∀ v m' k n, fJ4_keyIterator (gE_ g) N m v0 = some (v, m', k, n) → Ct_ l g (⟨"java/util/TreeMap", "keyIterator", "()Ljava/util/Iterator;"⟩ : MethodName) (ws_ (⟨"java/util/TreeMap", "keyIterator", "()Ljava/util/Iterator;"⟩ : MethodName) cJ4_keyIterator 1 (Option.some (Jvm.ClassFile.FieldType.object "java/util/Iterator"))) 12 [vr_ v0] m (en_r v) m' k n :=
  Ct_of (by decide +kernel) rfl hst (Nat.le_of_ble_eq_true rfl) rfl (fun E C hret h0 hin => wJ4_keyIterator C hret h0 hin N m v0 0 0)
theorem wJ36_iterator {l : Launch} {g : GG} {E : Me_} (C : Cx_ l g E "java/util/TreeMap$KeySet" cJ36_iterator 1 17) (hret : (eT_ E).sig.returnType = (Option.some (Jvm.ClassFile.FieldType.object "java/util/Iterator"))) (h0 : ∀ x ∈ (eC_ E).exceptionTable.toList, False) (hin : (eT_ E).name = "iterator") (N : Nat) : ∀ (m : Mm) (v0 : Option Nat) (k n : Nat), Sm_ l g E 1 en_r (fJ36_iterator (gE_ g) N m v0) k n 0 [(0, vr_ v0)] [] m := by
  intro m v0 k n
  unfold fJ36_iterator
  refine s_aload_n C rfl 0 rfl dJ36_iterator_0 1 rfl ?_
  refine x_gr C 16 (RJ36, TJ36, 1) rfl 0 (Nat.le_of_ble_eq_true rfl) q1842 (Or.inl rfl) rfl 17 rfl dJ36_iterator_1 4 rfl (fun x1 => ?_)
  refine x_cs (kd := 15) (fun hb_ hb0_ => ?_) ?_
  · refine x_io C "java/util/TreeMap" [15] (fun k hk => by rw [List.mem_singleton.mp hk]; exact ⟨rfl, Or.inr rfl⟩) q1404 dJ36_iterator_4 7 rfl (fun x2 => ?_)
    refine s_if_eq C dJ36_iterator_7 21 rfl 10 rfl (fun c_ => ?_) (fun c_ => ?_)
    · refine s_aload_n C rfl 0 rfl dJ36_iterator_21 22 rfl ?_
      refine x_gr C 16 (RJ36, TJ36, 1) rfl 0 (Nat.le_of_ble_eq_true rfl) q1842 (Or.inl rfl) rfl 17 rfl dJ36_iterator_22 25 rfl (fun x3 => ?_)
      refine x_cc C "java/util/TreeMap$NavigableSubMap" [21] (fun k hk => by rw [List.mem_singleton.mp hk]; exact ⟨rfl, Or.inl q3743⟩) q1421 dJ36_iterator_25 28 rfl ?_
      refine x_ck (fun hb_ hb0_ => ?_)
      refine x_callA (enc := en_r) (owner := "java/util/TreeMap$NavigableSubMap") C 16 0 [] 21 (ctJ39_keyIterator C.2.2.2.2.2.2.2.2.1 N m x3) hb_ hb0_ rfl rfl q1422 q1424 q1425 q1426 q132 q1427 q1423 ⟨by decide +kernel, by decide +kernel, by decide +kernel⟩ (Nat.le_of_ble_eq_true rfl) (Nat.le_of_ble_eq_true rfl) rfl (Nat.le_of_ble_eq_true rfl) dJ36_iterator_28 31 rfl rfl hen_r (kk_r (fun x4 m1 k1 n1 => ?_)) (kx_n he_r)
      exact x_aret C hret (Or.inl ⟨_, rfl⟩) rfl dJ36_iterator_31
    · refine s_aload_n C rfl 0 rfl dJ36_iterator_10 11 rfl ?_
      refine x_gr C 16 (RJ36, TJ36, 1) rfl 0 (Nat.le_of_ble_eq_true rfl) q1842 (Or.inl rfl) rfl 17 rfl dJ36_iterator_11 14 rfl (fun x5 => ?_)
      refine x_cc C "java/util/TreeMap" [15] (fun k hk => by rw [List.mem_singleton.mp hk]; exact ⟨rfl, Or.inr rfl⟩) q1404 dJ36_iterator_14 17 rfl ?_
      refine x_ck (fun hb_ hb0_ => ?_)
      refine x_callV (enc := en_r) C 12 0 [] 15 (ctJ4_keyIterator C.2.2.2.2.2.2.2.2.1 N m x5) hb_ hb0_ rfl rfl q1405 q1406 q1407 q87 q1408 hdJ4_keyIterator (Nat.le_of_ble_eq_true rfl) (Nat.le_of_ble_eq_true rfl) rfl (Nat.le_of_ble_eq_true rfl) dJ36_iterator_17 20 rfl rfl hen_r (kk_r (fun x6 m2 k1 n1 => ?_)) (kx_n he_r)
      exact x_aret C hret (Or.inl ⟨_, rfl⟩) rfl dJ36_iterator_20
  · refine x_io0 C "java/util/TreeMap" 21 (by decide) (List.mem_of_getElem? (i := 6) rfl) q1404 dJ36_iterator_4 7 rfl ?_
    refine s_if_eq C dJ36_iterator_7 21 rfl 10 rfl (fun c_ => ?_) (fun c_ => ?_)
    · refine s_aload_n C rfl 0 rfl dJ36_iterator_21 22 rfl ?_
      refine x_gr C 16 (RJ36, TJ36, 1) rfl 0 (Nat.le_of_ble_eq_true rfl) q1842 (Or.inl rfl) rfl 17 rfl dJ36_iterator_22 25 rfl (fun x7 => ?_)
      refine x_cc C "java/util/TreeMap$NavigableSubMap" [21] (fun k hk => by rw [List.mem_singleton.mp hk]; exact ⟨rfl, Or.inl q3743⟩) q1421 dJ36_iterator_25 28 rfl ?_
      refine x_ck (fun hb_ hb0_ => ?_)
      refine x_callA (enc := en_r) (owner := "java/util/TreeMap$NavigableSubMap") C 16 0 [] 21 (ctJ39_keyIterator C.2.2.2.2.2.2.2.2.1 N m x7) hb_ hb0_ rfl rfl q1422 q1424 q1425 q1426 q132 q1427 q1423 ⟨by decide +kernel, by decide +kernel, by decide +kernel⟩ (Nat.le_of_ble_eq_true rfl) (Nat.le_of_ble_eq_true rfl) rfl (Nat.le_of_ble_eq_true rfl) dJ36_iterator_28 31 rfl rfl hen_r (kk_r (fun x8 m3 k1 n1 => ?_)) (kx_n he_r)
      exact x_aret C hret (Or.inl ⟨_, rfl⟩) rfl dJ36_iterator_31
    · refine s_aload_n C rfl 0 rfl dJ36_iterator_10 11 rfl ?_
      refine x_gr C 16 (RJ36, TJ36, 1) rfl 0 (Nat.le_of_ble_eq_true rfl) q1842 (Or.inl rfl) rfl 17 rfl dJ36_iterator_11 14 rfl (fun x9 => ?_)
      refine x_cc C "java/util/TreeMap" [15] (fun k hk => by rw [List.mem_singleton.mp hk]; exact ⟨rfl, Or.inr rfl⟩) q1404 dJ36_iterator_14 17 rfl ?_
      refine x_ck (fun hb_ hb0_ => ?_)
      refine x_callV (enc := en_r) C 12 0 [] 15 (ctJ4_keyIterator C.2.2.2.2.2.2.2.2.1 N m x9) hb_ hb0_ rfl rfl q1405 q1406 q1407 q87 q1408 hdJ4_keyIterator (Nat.le_of_ble_eq_true rfl) (Nat.le_of_ble_eq_true rfl) rfl (Nat.le_of_ble_eq_true rfl) dJ36_iterator_17 20 rfl rfl hen_r (kk_r (fun x10 m4 k1 n1 => ?_)) (kx_n he_r)
      exact x_aret C hret (Or.inl ⟨_, rfl⟩) rfl dJ36_iterator_20
theorem hdJ36_iterator : ((⟨"java/util/TreeMap$KeySet", "iterator", "()Ljava/util/Iterator;"⟩ : MethodName)).cls ≠ "java/lang/invoke/MethodHandle" ∧ ((⟨"java/util/TreeMap$KeySet", "iterator", "()Ljava/util/Iterator;"⟩ : MethodName)).cls ≠ "java/lang/invoke/VarHandle" ∧ (parseMethodDescriptor ((⟨"java/util/TreeMap$KeySet", "iterator", "()Ljava/util/Iterator;"⟩ : MethodName)).desc).map (fun d => d.parameters.length) = some 0 := ⟨by decide +kernel, by decide +kernel, by decide +kernel⟩
theorem ctJ36_iterator {l : Launch} {g : GG} (hst : l.stackTraces = false) (N : Nat) (m : Mm) (v0 : Option Nat) : ∀ v m' k n, fJ36_iterator (gE_ g) N m v0 = some (v, m', k, n) → Ct_ l g (⟨"java/util/TreeMap$KeySet", "iterator", "()Ljava/util/Iterator;"⟩ : MethodName) (ws_ (⟨"java/util/TreeMap$KeySet", "iterator", "()Ljava/util/Iterator;"⟩ : MethodName) cJ36_iterator 1 (Option.some (Jvm.ClassFile.FieldType.object "java/util/Iterator"))) 17 [vr_ v0] m (en_r v) m' k n :=
  Ct_of (by decide +kernel) rfl hst (Nat.le_of_ble_eq_true rfl) rfl (fun E C hret h0 hin => wJ36_iterator C hret h0 hin N m v0 0 0)
theorem wX2_indexes_b14 {l : Launch} {g : GG} {E : Me_} (C : Cx_ l g E "MasterTree$Master" cX2_indexes 10 18) (hret : (eT_ E).sig.returnType = (Option.none : Option Jvm.ClassFile.FieldType)) (h0 : ∀ x ∈ (eC_ E).exceptionTable.toList, False) (hin : (eT_ E).name = "indexes") (N : Nat) : ∀ (m : Mm) (k n : Nat), Sm_ l g E 10 en_v (fX2_indexes_b14 (gE_ g) N m) k n 14 [] [] m := by
  intro m k n
  unfold fX2_indexes_b14
  exact x_vret C hret rfl dX2_indexes_14
theorem wX2_indexes_b122 {l : Launch} {g : GG} {E : Me_} (C : Cx_ l g E "MasterTree$Master" cX2_indexes 10 18) (hret : (eT_ E).sig.returnType = (Option.none : Option Jvm.ClassFile.FieldType)) (h0 : ∀ x ∈ (eC_ E).exceptionTable.toList, False) (hin : (eT_ E).name = "indexes") (N : Nat) {k36 : Mm → Option Nat → Option Nat → Int32 → Int64 → Option Nat → Rs (Unit)} (hk36 : ∀ (m : Mm) (v0 : Option Nat) (v1 : Option Nat) (v2 : Int32) (v3 : Int64) (v5 : Option Nat) (k n : Nat), Sm_ l g E 10 en_v (k36 m v0 v1 v2 v3 v5) k n 36 [(0, vr_ v0), (1, vr_ v1), (2, vi_ v2), (3, vj_ v3), (5, vr_ v5)] [] m) : ∀ (m : Mm) (v0 : Option Nat) (v1 : Option Nat) (v2 : Int32) (v3 : Int64) (v5 : Option Nat) (s0 : Option Nat) (s1 : Option Nat) (s2 : Int64) (k n : Nat), Sm_ l g E 10 en_v (fX2_indexes_b122 (gE_ g) N k36 m v0 v1 v2 v3 v5 s0 s1 s2) k n 122 [(0, vr_ v0), (1, vr_ v1), (2, vi_ v2), (3, vj_ v3), (5, vr_ v5)] [vj_ s2, vr_ s1, vr_ s0] m := by
  intro m v0 v1 v2 v3 v5 s0 s1 s2 k n
  unfold fX2_indexes_b122
  refine x_callS (enc := en_r) C 12 1 [vj_ s2] (ctJ28_valueOf C.2.2.2.2.2.2.2.2.1 N m s2) q1857 q1858 q116 q1859 hdJ28_valueOf (Nat.le_of_ble_eq_true rfl) (Nat.le_of_ble_eq_true rfl) rfl (Nat.le_of_ble_eq_true rfl) dX2_indexes_122 125 rfl rfl hen_r (kk_r (fun x1 m1 k1 n1 => ?_)) (kx_n he_r)
  refine x_ck (fun hb_ hb0_ => ?_)
  refine x_callV (enc := en_r) C 16 2 [vr_ s1, vr_ x1] 15 (ctJ4_put C.2.2.2.2.2.2.2.2.1 N m1 s0 s1 x1) hb_ hb0_ rfl rfl q1873 q1874 q1875 q87 q1876 hdJ4_put (Nat.le_of_ble_eq_true rfl) (Nat.le_of_ble_eq_true rfl) rfl (Nat.le_of_ble_eq_true rfl) dX2_indexes_125 128 rfl rfl hen_r (kk_r (fun x2 m2 k1 n1 => ?_)) (kx_n he_r)
  refine s_pop C rfl dX2_indexes_128 129 rfl ?_
  refine s_goto C (off := -93) 36 dX2_indexes_129 rfl ?_
  exact hk36 _ _ _ _ _ _ _ _
theorem wX2_indexes_b92 {l : Launch} {g : GG} {E : Me_} (C : Cx_ l g E "MasterTree$Master" cX2_indexes 10 18) (hret : (eT_ E).sig.returnType = (Option.none : Option Jvm.ClassFile.FieldType)) (h0 : ∀ x ∈ (eC_ E).exceptionTable.toList, False) (hin : (eT_ E).name = "indexes") (N : Nat) {k36 : Mm → Option Nat → Option Nat → Int32 → Int64 → Option Nat → Rs (Unit)} (hk36 : ∀ (m : Mm) (v0 : Option Nat) (v1 : Option Nat) (v2 : Int32) (v3 : Int64) (v5 : Option Nat) (k n : Nat), Sm_ l g E 10 en_v (k36 m v0 v1 v2 v3 v5) k n 36 [(0, vr_ v0), (1, vr_ v1), (2, vi_ v2), (3, vj_ v3), (5, vr_ v5)] [] m) : ∀ (m : Mm) (v0 : Option Nat) (v1 : Option Nat) (v2 : Int32) (v3 : Int64) (v5 : Option Nat) (v6 : Int32) (s0 : Int64) (k n : Nat), Sm_ l g E 10 en_v (fX2_indexes_b92 (gE_ g) N k36 m v0 v1 v2 v3 v5 v6 s0) k n 92 [(0, vr_ v0), (1, vr_ v1), (2, vi_ v2), (3, vj_ v3), (5, vr_ v5), (6, vi_ v6)] [vj_ s0] m := by
  intro m v0 v1 v2 v3 v5 v6 s0 k n
  unfold fX2_indexes_b92
  refine s_lstore C (Nat.le_of_ble_eq_true rfl) [0, 1, 2, 3, 4, 5] rfl rfl dX2_indexes_92 94 rfl ?_
  refine s_aload_n C rfl 1 rfl dX2_indexes_94 95 rfl ?_
  refine x_gr C 1 (RX2, TX2, 12) rfl 10 (Nat.le_of_ble_eq_true rfl) q316 (Or.inl rfl) rfl 2 rfl dX2_indexes_95 98 rfl (fun x1 => ?_)
  refine s_iload C 6 rfl dX2_indexes_98 100 rfl ?_
  refine x_callS (enc := en_r) C 12 1 [vi_ v6] (ctJ21_valueOf C.2.2.2.2.2.2.2.2.1 N m v6) q1846 q1620 q108 q1621 hdJ21_valueOf (Nat.le_of_ble_eq_true rfl) (Nat.le_of_ble_eq_true rfl) rfl (Nat.le_of_ble_eq_true rfl) dX2_indexes_100 103 rfl rfl hen_r (kk_r (fun x2 m1 k1 n1 => ?_)) (kx_n he_r)
  refine s_iload_n C rfl 3 rfl dX2_indexes_103 104 rfl ?_
  refine s_if_eq C dX2_indexes_104 114 rfl 107 rfl (fun c_ => ?_) (fun c_ => ?_)
  · refine s_lload C 0 rfl dX2_indexes_114 116 rfl ?_
    refine s_lload_n C rfl 4 rfl dX2_indexes_116 117 rfl ?_
    refine s_ldc2 C (-1) q1856 dX2_indexes_117 120 rfl ?_
    refine s_lxor C dX2_indexes_120 121 rfl ?_
    refine s_land C dX2_indexes_121 122 rfl ?_
    refine Sm_sub [1, 2, 3, 4, 5] rfl ?_
    exact wX2_indexes_b122 C hret h0 hin N hk36 _ _ _ _ _ _ _ _ _ _ _
  · refine s_lload C 0 rfl dX2_indexes_107 109 rfl ?_
    refine s_lload_n C rfl 4 rfl dX2_indexes_109 110 rfl ?_
    refine s_lor C dX2_indexes_110 111 rfl ?_
    refine s_goto C (off := 11) 122 dX2_indexes_111 rfl ?_
    refine Sm_sub [1, 2, 3, 4, 5] rfl ?_
    exact wX2_indexes_b122 C hret h0 hin N hk36 _ _ _ _ _ _ _ _ _ _ _
theorem wX2_indexes_b176 {l : Launch} {g : GG} {E : Me_} (C : Cx_ l g E "MasterTree$Master" cX2_indexes 10 18) (hret : (eT_ E).sig.returnType = (Option.none : Option Jvm.ClassFile.FieldType)) (h0 : ∀ x ∈ (eC_ E).exceptionTable.toList, False) (hin : (eT_ E).name = "indexes") (N : Nat) : ∀ (m : Mm) (s0 : Option Nat) (s1 : Int32) (s2 : Int64) (k n : Nat), Sm_ l g E 10 en_v (fX2_indexes_b176 (gE_ g) N m s0 s1 s2) k n 176 [] [vj_ s2, vi_ s1, vr_ s0] m := by
  intro m s0 s1 s2 k n
  unfold fX2_indexes_b176
  refine x_bj3 C 203 rfl dX2_indexes_176 177 rfl (fun m1 => ?_)
  exact x_vret C hret rfl dX2_indexes_177
theorem wX2_indexes_b36 {l : Launch} {g : GG} {E : Me_} (C : Cx_ l g E "MasterTree$Master" cX2_indexes 10 18) (hret : (eT_ E).sig.returnType = (Option.none : Option Jvm.ClassFile.FieldType)) (h0 : ∀ x ∈ (eC_ E).exceptionTable.toList, False) (hin : (eT_ E).name = "indexes") (N : Nat) : ∀ (F : Nat) (m : Mm) (v0 : Option Nat) (v1 : Option Nat) (v2 : Int32) (v3 : Int64) (v5 : Option Nat) (k n : Nat), Sm_ l g E 10 en_v (fX2_indexes_b36 (gE_ g) N F m v0 v1 v2 v3 v5) k n 36 [(0, vr_ v0), (1, vr_ v1), (2, vi_ v2), (3, vj_ v3), (5, vr_ v5)] [] m := by
  intro F
  induction F with
  | zero => intros; exact Sm_none
  | succ F ih =>
    intro m v0 v1 v2 v3 v5 k n
    unfold fX2_indexes_b36
    refine s_aload C 4 rfl dX2_indexes_36 38 rfl ?_
    refine x_ck (fun hb_ hb0_ => ?_)
    refine x_callF (enc := en_i) C 10 0 [] 18 (ctJ30_hasNext_t18 C.2.2.2.2.2.2.2.2.1 N m v5) hb_ hb0_ rfl rfl rfl fw_15 q1446 q1470 q1466 q119 q1468 hx3 (Nat.le_of_ble_eq_true rfl) (Nat.le_of_ble_eq_true rfl) rfl (Nat.le_of_ble_eq_true rfl) dX2_indexes_38 43 rfl rfl hen_i (kk_i (fun x1 m1 k1 n1 => ?_)) (kx_n he_i)
    refine s_if_eq C dX2_indexes_43 132 rfl 46 rfl (fun c_ => ?_) (fun c_ => ?_)
    · refine s_aload_n C rfl 1 rfl dX2_indexes_132 133 rfl ?_
      refine x_grN C 2 (RX3, TX3, 9) rfl 3 (Nat.le_of_ble_eq_true rfl) q253 rfl rfl 3 rfl dX2_indexes_133 136 rfl (fun x2 => ?_)
      refine x_giN C 6 (RX7, TX7, 9) rfl 7 (Nat.le_of_ble_eq_true rfl) q1762 rfl rfl 7 rfl dX2_indexes_136 139 rfl (fun x3 => ?_)
      refine s_istore C (Nat.le_of_ble_eq_true rfl) [0, 2, 3] rfl rfl dX2_indexes_139 141 rfl ?_
      refine s_aload_n C rfl 1 rfl dX2_indexes_141 142 rfl ?_
      refine x_gr C 1 (RX2, TX2, 12) rfl 11 (Nat.le_of_ble_eq_true rfl) q318 (Or.inl rfl) rfl 2 rfl dX2_indexes_142 145 rfl (fun x4 => ?_)
      refine s_iload C 0 rfl dX2_indexes_145 147 rfl ?_
      refine s_iload_n C rfl 2 rfl dX2_indexes_147 148 rfl ?_
      refine s_if_eq C dX2_indexes_148 163 rfl 151 rfl (fun c_ => ?_) (fun c_ => ?_)
      · refine s_aload_n C rfl 1 rfl dX2_indexes_163 164 rfl ?_
        refine x_gr C 1 (RX2, TX2, 12) rfl 11 (Nat.le_of_ble_eq_true rfl) q318 (Or.inl rfl) rfl 2 rfl dX2_indexes_164 167 rfl (fun x5 => ?_)
        refine s_iload C 0 rfl dX2_indexes_167 169 rfl ?_
        refine x_aj3 C 203 rfl dX2_indexes_169 170 rfl (fun x6 => ?_)
        refine s_lload_n C rfl 3 rfl dX2_indexes_170 171 rfl ?_
        refine s_ldc2 C (-1) q1856 dX2_indexes_171 174 rfl ?_
        refine s_lxor C dX2_indexes_174 175 rfl ?_
        refine s_land C dX2_indexes_175 176 rfl ?_
        refine Sm_sub [] rfl ?_
        exact wX2_indexes_b176 C hret h0 hin N _ _ _ _ _ _
      · refine s_aload_n C rfl 1 rfl dX2_indexes_151 152 rfl ?_
        refine x_gr C 1 (RX2, TX2, 12) rfl 11 (Nat.le_of_ble_eq_true rfl) q318 (Or.inl rfl) rfl 2 rfl dX2_indexes_152 155 rfl (fun x7 => ?_)
        refine s_iload C 0 rfl dX2_indexes_155 157 rfl ?_
        refine x_aj3 C 203 rfl dX2_indexes_157 158 rfl (fun x8 => ?_)
        refine s_lload_n C rfl 3 rfl dX2_indexes_158 159 rfl ?_
        refine s_lor C dX2_indexes_159 160 rfl ?_
        refine s_goto C (off := 16) 176 dX2_indexes_160 rfl ?_
        refine Sm_sub [] rfl ?_
        exact wX2_indexes_b176 C hret h0 hin N _ _ _ _ _ _
    · refine s_aload C 4 rfl dX2_indexes_46 48 rfl ?_
      refine x_ck (fun hb_ hb0_ => ?_)
      refine x_callF (enc := en_r) C 12 0 [] 18 (ctJ32_next C.2.2.2.2.2.2.2.2.1 N m1 v5) hb_ hb0_ rfl rfl rfl fw_21 q1485 q1522 q1524 q121 q1526 hx5 (Nat.le_of_ble_eq_true rfl) (Nat.le_of_ble_eq_true rfl) rfl (Nat.le_of_ble_eq_true rfl) dX2_indexes_48 53 rfl rfl hen_r (kk_r (fun x9 m2 k1 n1 => ?_)) (kx_n he_r)
      refine x_cc C "java/lang/Integer" [27] (fun k hk => by rw [List.mem_singleton.mp hk]; exact ⟨rfl, Or.inr rfl⟩) q1583 dX2_indexes_53 56 rfl ?_
      refine x_ck (fun hb_ hb0_ => ?_)
      refine x_callV (enc := en_i) C 10 0 [] 27 (ctJ21_intValue C.2.2.2.2.2.2.2.2.1 N m2 x9) hb_ hb0_ rfl rfl q1584 q1585 q1586 q108 q1587 hdJ21_intValue (Nat.le_of_ble_eq_true rfl) (Nat.le_of_ble_eq_true rfl) rfl (Nat.le_of_ble_eq_true rfl) dX2_indexes_56 59 rfl rfl hen_i (kk_i (fun x10 m3 k1 n1 => ?_)) (kx_n he_i)
      refine s_istore C (Nat.le_of_ble_eq_true rfl) [0, 1, 2, 3, 4] rfl rfl dX2_indexes_59 61 rfl ?_
      refine s_aload_n C rfl 1 rfl dX2_indexes_61 62 rfl ?_
      refine x_gr C 1 (RX2, TX2, 12) rfl 10 (Nat.le_of_ble_eq_true rfl) q316 (Or.inl rfl) rfl 2 rfl dX2_indexes_62 65 rfl (fun x11 => ?_)
      refine s_iload C 0 rfl dX2_indexes_65 67 rfl ?_
      refine x_callS (enc := en_r) C 12 1 [vi_ x10] (ctJ21_valueOf C.2.2.2.2.2.2.2.2.1 N m3 x10) q1846 q1620 q108 q1621 hdJ21_valueOf (Nat.le_of_ble_eq_true rfl) (Nat.le_of_ble_eq_true rfl) rfl (Nat.le_of_ble_eq_true rfl) dX2_indexes_67 70 rfl rfl hen_r (kk_r (fun x12 m4 k1 n1 => ?_)) (kx_n he_r)
      refine x_ck (fun hb_ hb0_ => ?_)
      refine x_callV (enc := en_r) C 14 1 [vr_ x12] 15 (ctJ4_get C.2.2.2.2.2.2.2.2.1 N m4 x11 x12) hb_ hb0_ rfl rfl q1847 q1848 q1849 q87 q1850 hdJ4_get (Nat.le_of_ble_eq_true rfl) (Nat.le_of_ble_eq_true rfl) rfl (Nat.le_of_ble_eq_true rfl) dX2_indexes_70 73 rfl rfl hen_r (kk_r (fun x13 m5 k1 n1 => ?_)) (kx_n he_r)
      refine x_cc C "java/lang/Long" [28] (fun k hk => by rw [List.mem_singleton.mp hk]; exact ⟨rfl, Or.inr rfl⟩) q1851 dX2_indexes_73 76 rfl ?_
      refine s_astore C (Nat.le_of_ble_eq_true rfl) [0, 1, 2, 3, 4, 5] rfl rfl dX2_indexes_76 78 rfl ?_
      refine s_aload C 0 rfl dX2_indexes_78 80 rfl ?_
      refine s_ifnonnull C dX2_indexes_80 87 rfl 83 rfl (fun c_ => ?_) (fun c_ => ?_)
      · refine s_lconst C 0 rfl dX2_indexes_83 84 rfl ?_
        refine s_goto C (off := 8) 92 dX2_indexes_84 rfl ?_
        refine Sm_sub [2, 3, 4, 5, 6, 1] rfl ?_
        exact wX2_indexes_b92 C hret h0 hin N (fun m v0 v1 v2 v3 v5 k n => ih m v0 v1 v2 v3 v5 k n) _ _ _ _ _ _ _ _ _ _
      · refine s_aload C 0 rfl dX2_indexes_87 89 rfl ?_
        refine x_ck (fun hb_ hb0_ => ?_)
        refine x_callV (enc := en_j) C 10 0 [] 28 (ctJ28_longValue C.2.2.2.2.2.2.2.2.1 N m5 x13) hb_ hb0_ rfl rfl q1852 q1853 q1854 q116 q1855 hdJ28_longValue (Nat.le_of_ble_eq_true rfl) (Nat.le_of_ble_eq_true rfl) rfl (Nat.le_of_ble_eq_true rfl) dX2_indexes_89 92 rfl rfl hen_j (kk_j (fun x14 m6 k1 n1 => ?_)) (kx_n he_j)
        refine Sm_sub [2, 3, 4, 5, 6, 1] rfl ?_
        exact wX2_indexes_b92 C hret h0 hin N (fun m v0 v1 v2 v3 v5 k n => ih m v0 v1 v2 v3 v5 k n) _ _ _ _ _ _ _ _ _ _
theorem wX2_indexes {l : Launch} {g : GG} {E : Me_} (C : Cx_ l g E "MasterTree$Master" cX2_indexes 10 18) (hret : (eT_ E).sig.returnType = (Option.none : Option Jvm.ClassFile.FieldType)) (h0 : ∀ x ∈ (eC_ E).exceptionTable.toList, False) (hin : (eT_ E).name = "indexes") (N : Nat) : ∀ (m : Mm) (v0 : Option Nat) (v1 : Option Nat) (v2 : Int32) (k n : Nat), Sm_ l g E 10 en_v (fX2_indexes (gE_ g) N m v0 v1 v2) k n 0 [(0, vr_ v0), (1, vr_ v1), (2, vi_ v2)] [] m := by
  intro m v0 v1 v2 k n
  unfold fX2_indexes
  refine s_aload_n C rfl 1 rfl dX2_indexes_0 1 rfl ?_
  refine x_giN C 2 (RX3, TX3, 9) rfl 0 (Nat.le_of_ble_eq_true rfl) q246 rfl rfl 3 rfl dX2_indexes_1 4 rfl (fun x1 => ?_)
  refine s_if_eq C dX2_indexes_4 14 rfl 7 rfl (fun c_ => ?_) (fun c_ => ?_)
  · refine Sm_sub [] rfl ?_
    exact wX2_indexes_b14 C hret h0 hin N _ _ _
  · refine s_aload_n C rfl 1 rfl dX2_indexes_7 8 rfl ?_
    refine x_ck (fun hb_ hb0_ => ?_)
    refine x_callV (enc := en_i) C 10 0 [] 3 (ctX3_isLive C.2.2.2.2.2.2.2.2.1 N m v1) hb_ hb0_ rfl rfl q975 q976 q977 q88 q978 hdX3_isLive (Nat.le_of_ble_eq_true rfl) (Nat.le_of_ble_eq_true rfl) rfl (Nat.le_of_ble_eq_true rfl) dX2_indexes_8 11 rfl rfl hen_i (kk_i (fun x2 m1 k1 n1 => ?_)) (kx_n he_i)
    refine s_if_ne C dX2_indexes_11 15 rfl 14 rfl (fun c_ => ?_) (fun c_ => ?_)
    · refine Sm_sub [] rfl ?_
      exact wX2_indexes_b14 C hret h0 hin N _ _ _
    · refine s_lconst C 1 rfl dX2_indexes_15 16 rfl ?_
      refine s_aload_n C rfl 1 rfl dX2_indexes_16 17 rfl ?_
      refine x_giN C 2 (RX3, TX3, 9) rfl 0 (Nat.le_of_ble_eq_true rfl) q246 rfl rfl 3 rfl dX2_indexes_17 20 rfl (fun x3 => ?_)
      refine s_lshl C dX2_indexes_20 21 rfl ?_
      refine s_lstore_n C rfl (Nat.le_of_ble_eq_true rfl) [0, 1, 2] rfl rfl dX2_indexes_21 22 rfl ?_
      refine s_aload_n C rfl 2 rfl dX2_indexes_22 23 rfl ?_
      refine x_grN C 2 (RX3, TX3, 9) rfl 7 (Nat.le_of_ble_eq_true rfl) q269 rfl rfl 3 rfl dX2_indexes_23 26 rfl (fun x4 => ?_)
      refine x_ck (fun hb_ hb0_ => ?_)
      refine x_callV (enc := en_r) C 14 0 [] 15 (ctJ4_keySet C.2.2.2.2.2.2.2.2.1 N m1 x4) hb_ hb0_ rfl rfl q1828 q1829 q1830 q87 q1831 hdJ4_keySet (Nat.le_of_ble_eq_true rfl) (Nat.le_of_ble_eq_true rfl) rfl (Nat.le_of_ble_eq_true rfl) dX2_indexes_26 29 rfl rfl hen_r (kk_r (fun x5 m2 k1 n1 => ?_)) (kx_n he_r)
      refine x_ck (fun hb_ hb0_ => ?_)
      refine x_callF (enc := en_r) C 17 0 [] 17 (ctJ36_iterator C.2.2.2.2.2.2.2.2.1 N m2 x5) hb_ hb0_ rfl rfl rfl fw_11 q1013 q1399 q1401 q128 q1403 hx8 (Nat.le_of_ble_eq_true rfl) (Nat.le_of_ble_eq_true rfl) rfl (Nat.le_of_ble_eq_true rfl) dX2_indexes_29 34 rfl rfl hen_r (kk_r (fun x6 m3 k1 n1 => ?_)) (kx_n he_r)
      refine s_astore C (Nat.le_of_ble_eq_true rfl) [0, 1, 2, 3] rfl rfl dX2_indexes_34 36 rfl ?_
      refine Sm_sub [2, 3, 4, 1, 0] rfl ?_
      exact wX2_indexes_b36 C hret h0 hin N N _ _ _ _ _ _ _ _
theorem hdX2_indexes : ((⟨"MasterTree$Master", "indexes", "(LMasterTree$Entry;Z)V"⟩ : MethodName)).cls ≠ "java/lang/invoke/MethodHandle" ∧ ((⟨"MasterTree$Master", "indexes", "(LMasterTree$Entry;Z)V"⟩ : MethodName)).cls ≠ "java/lang/invoke/VarHandle" ∧ (parseMethodDescriptor ((⟨"MasterTree$Master", "indexes", "(LMasterTree$Entry;Z)V"⟩ : MethodName)).desc).map (fun d => d.parameters.length) = some 2 := ⟨by decide +kernel, by decide +kernel, by decide +kernel⟩
theorem ctX2_indexes {l : Launch} {g : GG} (hst : l.stackTraces = false) (N : Nat) (m : Mm) (v0 : Option Nat) (v1 : Option Nat) (v2 : Int32) : ∀ v m' k n, fX2_indexes (gE_ g) N m v0 v1 v2 = some (v, m', k, n) → Ct_ l g (⟨"MasterTree$Master", "indexes", "(LMasterTree$Entry;Z)V"⟩ : MethodName) (ws_ (⟨"MasterTree$Master", "indexes", "(LMasterTree$Entry;Z)V"⟩ : MethodName) cX2_indexes 10 (Option.none : Option Jvm.ClassFile.FieldType)) 18 [vr_ v0, vr_ v1, vi_ v2] m (en_v v) m' k n :=
  Ct_of (by decide +kernel) rfl hst (Nat.le_of_ble_eq_true rfl) rfl (fun E C hret h0 hin => wX2_indexes C hret h0 hin N m v0 v1 v2 0 0)
theorem wJ2_rangeCheckForAdd_b12 {l : Launch} {g : GG} {E : Me_} (C : Cx_ l g E "java/util/ArrayList" cJ2_rangeCheckForAdd 2 10) (hret : (eT_ E).sig.returnType = (Option.none : Option Jvm.ClassFile.FieldType)) (h0 : ∀ x ∈ (eC_ E).exceptionTable.toList, False) (hin : (eT_ E).name = "rangeCheckForAdd") (N : Nat) : ∀ (m : Mm) (k n : Nat), Sm_ l g E 2 en_v (fJ2_rangeCheckForAdd_b12 (gE_ g) N m) k n 12 [] [] m := by
  intro m k n
  unfold fJ2_rangeCheckForAdd_b12
  exact Sm_none
theorem wJ2_rangeCheckForAdd {l : Launch} {g : GG} {E : Me_} (C : Cx_ l g E "java/util/ArrayList" cJ2_rangeCheckForAdd 2 10) (hret : (eT_ E).sig.returnType = (Option.none : Option Jvm.ClassFile.FieldType)) (h0 : ∀ x ∈ (eC_ E).exceptionTable.toList, False) (hin : (eT_ E).name = "rangeCheckForAdd") (N : Nat) : ∀ (m : Mm) (v0 : Option Nat) (v1 : Int32) (k n : Nat), Sm_ l g E 2 en_v (fJ2_rangeCheckForAdd (gE_ g) N m v0 v1) k n 0 [(0, vr_ v0), (1, vi_ v1)] [] m := by
  intro m v0 v1 k n
  unfold fJ2_rangeCheckForAdd
  refine s_iload_n C rfl 1 rfl dJ2_rangeCheckForAdd_0 1 rfl ?_
  refine s_aload_n C rfl 0 rfl dJ2_rangeCheckForAdd_1 2 rfl ?_
  refine x_gi C 12 (RJ2, TJ2, 3) rfl 2 (Nat.le_of_ble_eq_true rfl) q171 (Or.inl rfl) rfl 13 rfl dJ2_rangeCheckForAdd_2 5 rfl (fun x1 => ?_)
  refine s_icmp_gt C dJ2_rangeCheckForAdd_5 12 rfl 8 rfl (fun c_ => ?_) (fun c_ => ?_)
  · refine Sm_sub [] rfl ?_
    exact wJ2_rangeCheckForAdd_b12 C hret h0 hin N _ _ _
  · refine s_iload_n C rfl 1 rfl dJ2_rangeCheckForAdd_8 9 rfl ?_
    refine s_if_ge C dJ2_rangeCheckForAdd_9 25 rfl 12 rfl (fun c_ => ?_) (fun c_ => ?_)
    · refine Sm_sub [] rfl ?_
      exact wJ2_rangeCheckForAdd_b12 C hret h0 hin N _ _ _
    · exact x_vret C hret rfl dJ2_rangeCheckForAdd_25
theorem hdJ2_rangeCheckForAdd : ((⟨"java/util/ArrayList", "rangeCheckForAdd", "(I)V"⟩ : MethodName)).cls ≠ "java/lang/invoke/MethodHandle" ∧ ((⟨"java/util/ArrayList", "rangeCheckForAdd", "(I)V"⟩ : MethodName)).cls ≠ "java/lang/invoke/VarHandle" ∧ (parseMethodDescriptor ((⟨"java/util/ArrayList", "rangeCheckForAdd", "(I)V"⟩ : MethodName)).desc).map (fun d => d.parameters.length) = some 1 := ⟨by decide +kernel, by decide +kernel, by decide +kernel⟩
theorem ctJ2_rangeCheckForAdd {l : Launch} {g : GG} (hst : l.stackTraces = false) (N : Nat) (m : Mm) (v0 : Option Nat) (v1 : Int32) : ∀ v m' k n, fJ2_rangeCheckForAdd (gE_ g) N m v0 v1 = some (v, m', k, n) → Ct_ l g (⟨"java/util/ArrayList", "rangeCheckForAdd", "(I)V"⟩ : MethodName) (ws_ (⟨"java/util/ArrayList", "rangeCheckForAdd", "(I)V"⟩ : MethodName) cJ2_rangeCheckForAdd 2 (Option.none : Option Jvm.ClassFile.FieldType)) 10 [vr_ v0, vi_ v1] m (en_v v) m' k n :=
  Ct_of (by decide +kernel) rfl hst (Nat.le_of_ble_eq_true rfl) rfl (fun E C hret h0 hin => wJ2_rangeCheckForAdd C hret h0 hin N m v0 v1 0 0)
theorem wJ2_add_3_b38 {l : Launch} {g : GG} {E : Me_} (C : Cx_ l g E "java/util/ArrayList" cJ2_add_3 5 14) (hret : (eT_ E).sig.returnType = (Option.none : Option Jvm.ClassFile.FieldType)) (h0 : ∀ x ∈ (eC_ E).exceptionTable.toList, False) (hin : (eT_ E).name = "add") (N : Nat) : ∀ (m : Mm) (v0 : Option Nat) (v1 : Int32) (v2 : Option Nat) (v3 : Int32) (v4 : Option Nat) (k n : Nat), Sm_ l g E 5 en_v (fJ2_add_3_b38 (gE_ g) N m v0 v1 v2 v3 v4) k n 38 [(0, vr_ v0), (1, vi_ v1), (2, vr_ v2), (3, vi_ v3), (4, vr_ v4)] [] m := by
  intro m v0 v1 v2 v3 v4 k n
  unfold fJ2_add_3_b38
  refine s_aload C 4 rfl dJ2_add_3_38 40 rfl ?_
  refine s_iload_n C rfl 1 rfl dJ2_add_3_40 41 rfl ?_
  refine s_aload C 4 rfl dJ2_add_3_41 43 rfl ?_
  refine s_iload_n C rfl 1 rfl dJ2_add_3_43 44 rfl ?_
  refine s_iconst C 1 rfl dJ2_add_3_44 45 rfl ?_
  refine s_iadd C dJ2_add_3_45 46 rfl ?_
  refine s_iload_n C rfl 3 rfl dJ2_add_3_46 47 rfl ?_
  refine s_iload_n C rfl 1 rfl dJ2_add_3_47 48 rfl ?_
  refine s_isub C dJ2_add_3_48 49 rfl ?_
  refine x_ac C q1823 q442 q441 q92 (Nat.le_of_ble_eq_true rfl) (Nat.le_of_ble_eq_true rfl) dJ2_add_3_49 52 rfl (fun m1 => ?_)
  refine s_aload C 4 rfl dJ2_add_3_52 54 rfl ?_
  refine s_iload_n C rfl 1 rfl dJ2_add_3_54 55 rfl ?_
  refine s_aload_n C rfl 2 rfl dJ2_add_3_55 56 rfl ?_
  refine x_br C 4 "java/lang/Object" rfl _ caO 204 rfl dJ2_add_3_56 57 rfl (fun m2 => ?_)
  refine s_aload_n C rfl 0 rfl dJ2_add_3_57 58 rfl ?_
  refine s_iload_n C rfl 3 rfl dJ2_add_3_58 59 rfl ?_
  refine s_iconst C 1 rfl dJ2_add_3_59 60 rfl ?_
  refine s_iadd C dJ2_add_3_60 61 rfl ?_
  refine x_pi C 12 (RJ2, TJ2, 3) rfl 2 (Nat.le_of_ble_eq_true rfl) rfl q171 (Or.inl rfl) rfl trivial 13 rfl dJ2_add_3_61 64 rfl (fun m3 => ?_)
  exact x_vret C hret rfl dJ2_add_3_64
theorem wJ2_add_3 {l : Launch} {g : GG} {E : Me_} (C : Cx_ l g E "java/util/ArrayList" cJ2_add_3 5 14) (hret : (eT_ E).sig.returnType = (Option.none : Option Jvm.ClassFile.FieldType)) (h0 : ∀ x ∈ (eC_ E).exceptionTable.toList, False) (hin : (eT_ E).name = "add") (N : Nat) : ∀ (m : Mm) (v0 : Option Nat) (v1 : Int32) (v2 : Option Nat) (k n : Nat), Sm_ l g E 5 en_v (fJ2_add_3 (gE_ g) N m v0 v1 v2) k n 0 [(0, vr_ v0), (1, vi_ v1), (2, vr_ v2)] [] m := by
  intro m v0 v1 v2 k n
  unfold fJ2_add_3
  refine s_aload_n C rfl 0 rfl dJ2_add_3_0 1 rfl ?_
  refine s_iload_n C rfl 1 rfl dJ2_add_3_1 2 rfl ?_
  refine x_ck (fun hb_ hb0_ => ?_)
  refine x_callV (enc := en_v) C 10 1 [vi_ v1] 13 (ctJ2_rangeCheckForAdd C.2.2.2.2.2.2.2.2.1 N m v0 v1) hb_ hb0_ rfl rfl q1806 q1808 qs12 q84 q1809 hdJ2_rangeCheckForAdd (Nat.le_of_ble_eq_true rfl) (Nat.le_of_ble_eq_true rfl) rfl (Nat.le_of_ble_eq_true rfl) dJ2_add_3_2 5 rfl rfl hen_v (kk_v (fun m1 k1 n1 => ?_)) (kx_n he_v)
  refine s_aload_n C rfl 0 rfl dJ2_add_3_5 6 rfl ?_
  refine s_dup C rfl dJ2_add_3_6 7 rfl ?_
  refine x_gi C 12 (RJ2, TJ2, 3) rfl 0 (Nat.le_of_ble_eq_true rfl) q175 (Or.inr q174) rfl 13 rfl dJ2_add_3_7 10 rfl (fun x1 => ?_)
  refine s_iconst C 1 rfl dJ2_add_3_10 11 rfl ?_
  refine s_iadd C dJ2_add_3_11 12 rfl ?_
  refine x_pi C 12 (RJ2, TJ2, 3) rfl 0 (Nat.le_of_ble_eq_true rfl) rfl q175 (Or.inr q174) rfl trivial 13 rfl dJ2_add_3_12 15 rfl (fun m2 => ?_)
  refine s_aload_n C rfl 0 rfl dJ2_add_3_15 16 rfl ?_
  refine x_gi C 12 (RJ2, TJ2, 3) rfl 2 (Nat.le_of_ble_eq_true rfl) q171 (Or.inl rfl) rfl 13 rfl dJ2_add_3_16 19 rfl (fun x2 => ?_)
  refine s_dup C rfl dJ2_add_3_19 20 rfl ?_
  refine s_istore_n C rfl (Nat.le_of_ble_eq_true rfl) [0, 1, 2] rfl rfl dJ2_add_3_20 21 rfl ?_
  refine s_aload_n C rfl 1 rfl dJ2_add_3_21 22 rfl ?_
  refine x_gr C 12 (RJ2, TJ2, 3) rfl 1 (Nat.le_of_ble_eq_true rfl) q168 (Or.inl rfl) rfl 13 rfl dJ2_add_3_22 25 rfl (fun x3 => ?_)
  refine s_dup C rfl dJ2_add_3_25 26 rfl ?_
  refine s_astore C (Nat.le_of_ble_eq_true rfl) [0, 1, 2, 3] rfl rfl dJ2_add_3_26 28 rfl ?_
  refine x_ln C 4 (.object "java/lang/Object") rfl 204 rfl dJ2_add_3_28 29 rfl (fun x4 => ?_)
  refine s_icmp_ne C dJ2_add_3_29 38 rfl 32 rfl (fun c_ => ?_) (fun c_ => ?_)
  · refine s_aload_n C rfl 2 rfl dJ2_add_3_32 33 rfl ?_
    refine x_ck (fun hb_ hb0_ => ?_)
    refine x_callV (enc := en_r) C 13 0 [] 13 (ctJ2_grow C.2.2.2.2.2.2.2.2.1 N m2 v0) hb_ hb0_ rfl rfl q359 q361 qs1 q84 q362 hdJ2_grow (Nat.le_of_ble_eq_true rfl) (Nat.le_of_ble_eq_true rfl) rfl (Nat.le_of_ble_eq_true rfl) dJ2_add_3_33 36 rfl rfl hen_r (kk_r (fun x5 m3 k1 n1 => ?_)) (kx_n he_r)
    refine s_astore C (Nat.le_of_ble_eq_true rfl) [1, 2, 3, 4] rfl rfl dJ2_add_3_36 38 rfl ?_
    refine Sm_sub [2, 3, 4, 1, 0] rfl ?_
    exact wJ2_add_3_b38 C hret h0 hin N _ _ _ _ _ _ _ _
  · refine Sm_sub [2, 3, 4, 1, 0] rfl ?_
    exact wJ2_add_3_b38 C hret h0 hin N _ _ _ _ _ _ _ _
theorem hdJ2_add_3 : ((⟨"java/util/ArrayList", "add", "(ILjava/lang/Object;)V"⟩ : MethodName)).cls ≠ "java/lang/invoke/MethodHandle" ∧ ((⟨"java/util/ArrayList", "add", "(ILjava/lang/Object;)V"⟩ : MethodName)).cls ≠ "java/lang/invoke/VarHandle" ∧ (parseMethodDescriptor ((⟨"java/util/ArrayList", "add", "(ILjava/lang/Object;)V"⟩ : MethodName)).desc).map (fun d => d.parameters.length) = some 2 := ⟨by decide +kernel, by decide +kernel, by decide +kernel⟩
theorem ctJ2_add_3 {l : Launch} {g : GG} (hst : l.stackTraces = false) (N : Nat) (m : Mm) (v0 : Option Nat) (v1 : Int32) (v2 : Option Nat) : ∀ v m' k n, fJ2_add_3 (gE_ g) N m v0 v1 v2 = some (v, m', k, n) → Ct_ l g (⟨"java/util/ArrayList", "add", "(ILjava/lang/Object;)V"⟩ : MethodName) (ws_ (⟨"java/util/ArrayList", "add", "(ILjava/lang/Object;)V"⟩ : MethodName) cJ2_add_3 5 (Option.none : Option Jvm.ClassFile.FieldType)) 14 [vr_ v0, vi_ v1, vr_ v2] m (en_v v) m' k n :=
  Ct_of (by decide +kernel) rfl hst (Nat.le_of_ble_eq_true rfl) rfl (fun E C hret h0 hin => wJ2_add_3 C hret h0 hin N m v0 v1 v2 0 0)
theorem wX7_compareTo_2_b36 {l : Launch} {g : GG} {E : Me_} (C : Cx_ l g E "MasterTree$Change" cX7_compareTo_2 2 11) (hret : (eT_ E).sig.returnType = (Option.some Jvm.ClassFile.FieldType.int)) (h0 : ∀ x ∈ (eC_ E).exceptionTable.toList, False) (hin : (eT_ E).name = "compareTo") (N : Nat) : ∀ (m : Mm) (s0 : Int32) (k n : Nat), Sm_ l g E 2 en_i (fX7_compareTo_2_b36 (gE_ g) N m s0) k n 36 [] [vi_ s0] m := by
  intro m s0 k n
  unfold fX7_compareTo_2_b36
  exact x_iret C hret rfl dX7_compareTo_2_36
theorem wX7_compareTo_2 {l : Launch} {g : GG} {E : Me_} (C : Cx_ l g E "MasterTree$Change" cX7_compareTo_2 2 11) (hret : (eT_ E).sig.returnType = (Option.some Jvm.ClassFile.FieldType.int)) (h0 : ∀ x ∈ (eC_ E).exceptionTable.toList, False) (hin : (eT_ E).name = "compareTo") (N : Nat) : ∀ (m : Mm) (v0 : Option Nat) (v1 : Option Nat) (k n : Nat), Sm_ l g E 2 en_i (fX7_compareTo_2 (gE_ g) N m v0 v1) k n 0 [(0, vr_ v0), (1, vr_ v1)] [] m := by
  intro m v0 v1 k n
  unfold fX7_compareTo_2
  refine s_aload_n C rfl 0 rfl dX7_compareTo_2_0 1 rfl ?_
  refine x_gi C 6 (RX7, TX7, 9) rfl 0 (Nat.le_of_ble_eq_true rfl) q1731 (Or.inl rfl) rfl 7 rfl dX7_compareTo_2_1 4 rfl (fun x1 => ?_)
  refine s_aload_n C rfl 1 rfl dX7_compareTo_2_4 5 rfl ?_
  refine x_gi C 6 (RX7, TX7, 9) rfl 0 (Nat.le_of_ble_eq_true rfl) q1731 (Or.inl rfl) rfl 7 rfl dX7_compareTo_2_5 8 rfl (fun x2 => ?_)
  refine s_icmp_eq C dX7_compareTo_2_8 25 rfl 11 rfl (fun c_ => ?_) (fun c_ => ?_)
  · refine s_aload_n C rfl 0 rfl dX7_compareTo_2_25 26 rfl ?_
    refine x_gi C 6 (RX7, TX7, 9) rfl 1 (Nat.le_of_ble_eq_true rfl) q1733 (Or.inl rfl) rfl 7 rfl dX7_compareTo_2_26 29 rfl (fun x3 => ?_)
    refine s_aload_n C rfl 1 rfl dX7_compareTo_2_29 30 rfl ?_
    refine x_gi C 6 (RX7, TX7, 9) rfl 1 (Nat.le_of_ble_eq_true rfl) q1733 (Or.inl rfl) rfl 7 rfl dX7_compareTo_2_30 33 rfl (fun x4 => ?_)
    refine x_callS (enc := en_i) C 10 2 [vi_ x3, vi_ x4] (ctJ21_compare C.2.2.2.2.2.2.2.2.1 N m x3 x4) q1058 q1059 q108 q1060 hdJ21_compare (Nat.le_of_ble_eq_true rfl) (Nat.le_of_ble_eq_true rfl) rfl (Nat.le_of_ble_eq_true rfl) dX7_compareTo_2_33 36 rfl rfl hen_i (kk_i (fun x5 m1 k1 n1 => ?_)) (kx_n he_i)
    refine Sm_sub [] rfl ?_
    exact wX7_compareTo_2_b36 C hret h0 hin N _ _ _ _
  · refine s_aload_n C rfl 0 rfl dX7_compareTo_2_11 12 rfl ?_
    refine x_gi C 6 (RX7, TX7, 9) rfl 0 (Nat.le_of_ble_eq_true rfl) q1731 (Or.inl rfl) rfl 7 rfl dX7_compareTo_2_12 15 rfl (fun x6 => ?_)
    refine s_aload_n C rfl 1 rfl dX7_compareTo_2_15 16 rfl ?_
    refine x_gi C 6 (RX7, TX7, 9) rfl 0 (Nat.le_of_ble_eq_true rfl) q1731 (Or.inl rfl) rfl 7 rfl dX7_compareTo_2_16 19 rfl (fun x7 => ?_)
    refine x_callS (enc := en_i) C 10 2 [vi_ x6, vi_ x7] (ctJ21_compare C.2.2.2.2.2.2.2.2.1 N m x6 x7) q1058 q1059 q108 q1060 hdJ21_compare (Nat.le_of_ble_eq_true rfl) (Nat.le_of_ble_eq_true rfl) rfl (Nat.le_of_ble_eq_true rfl) dX7_compareTo_2_19 22 rfl rfl hen_i (kk_i (fun x8 m2 k1 n1 => ?_)) (kx_n he_i)
    refine s_goto C (off := 14) 36 dX7_compareTo_2_22 rfl ?_
    refine Sm_sub [] rfl ?_
    exact wX7_compareTo_2_b36 C hret h0 hin N _ _ _ _
theorem hdX7_compareTo_2 : ((⟨"MasterTree$Change", "compareTo", "(LMasterTree$Change;)I"⟩ : MethodName)).cls ≠ "java/lang/invoke/MethodHandle" ∧ ((⟨"MasterTree$Change", "compareTo", "(LMasterTree$Change;)I"⟩ : MethodName)).cls ≠ "java/lang/invoke/VarHandle" ∧ (parseMethodDescriptor ((⟨"MasterTree$Change", "compareTo", "(LMasterTree$Change;)I"⟩ : MethodName)).desc).map (fun d => d.parameters.length) = some 1 := ⟨by decide +kernel, by decide +kernel, by decide +kernel⟩
theorem ctX7_compareTo_2 {l : Launch} {g : GG} (hst : l.stackTraces = false) (N : Nat) (m : Mm) (v0 : Option Nat) (v1 : Option Nat) : ∀ v m' k n, fX7_compareTo_2 (gE_ g) N m v0 v1 = some (v, m', k, n) → Ct_ l g (⟨"MasterTree$Change", "compareTo", "(LMasterTree$Change;)I"⟩ : MethodName) (ws_ (⟨"MasterTree$Change", "compareTo", "(LMasterTree$Change;)I"⟩ : MethodName) cX7_compareTo_2 2 (Option.some Jvm.ClassFile.FieldType.int)) 11 [vr_ v0, vr_ v1] m (en_i v) m' k n :=
  Ct_of (by decide +kernel) rfl hst (Nat.le_of_ble_eq_true rfl) rfl (fun E C hret h0 hin => wX7_compareTo_2 C hret h0 hin N m v0 v1 0 0)
theorem wX7_comesInto_b36 {l : Launch} {g : GG} {E : Me_} (C : Cx_ l g E "MasterTree$Change" cX7_comesInto 3 15) (hret : (eT_ E).sig.returnType = (Option.none : Option Jvm.ClassFile.FieldType)) (h0 : ∀ x ∈ (eC_ E).exceptionTable.toList, False) (hin : (eT_ E).name = "comesInto") (N : Nat) : ∀ (m : Mm) (v0 : Option Nat) (v1 : Option Nat) (v2 : Int32) (k n : Nat), Sm_ l g E 3 en_v (fX7_comesInto_b36 (gE_ g) N m v0 v1 v2) k n 36 [(0, vr_ v0), (1, vr_ v1), (2, vi_ v2)] [] m := by
  intro m v0 v1 v2 k n
  unfold fX7_comesInto_b36
  refine s_aload_n C rfl 1 rfl dX7_comesInto_36 37 rfl ?_
  refine s_iload_n C rfl 2 rfl dX7_comesInto_37 38 rfl ?_
  refine s_aload_n C rfl 0 rfl dX7_comesInto_38 39 rfl ?_
  refine x_ck (fun hb_ hb0_ => ?_)
  refine x_callF (enc := en_v) C 14 2 [vi_ v2, vr_ v0] 13 (ctJ2_add_3 C.2.2.2.2.2.2.2.2.1 N m v1 v2 v0) hb_ hb0_ rfl rfl rfl fw_28 q1798 q1801 q1803 q84 q1805 hx9 (Nat.le_of_ble_eq_true rfl) (Nat.le_of_ble_eq_true rfl) rfl (Nat.le_of_ble_eq_true rfl) dX7_comesInto_39 44 rfl rfl hen_v (kk_v (fun m1 k1 n1 => ?_)) (kx_n he_v)
  exact x_vret C hret rfl dX7_comesInto_44
theorem wX7_comesInto_b7 {l : Launch} {g : GG} {E : Me_} (C : Cx_ l g E "MasterTree$Change" cX7_comesInto 3 15) (hret : (eT_ E).sig.returnType = (Option.none : Option Jvm.ClassFile.FieldType)) (h0 : ∀ x ∈ (eC_ E).exceptionTable.toList, False) (hin : (eT_ E).name = "comesInto") (N : Nat) : ∀ (F : Nat) (m : Mm) (v0 : Option Nat) (v1 : Option Nat) (v2 : Int32) (k n : Nat), Sm_ l g E 3 en_v (fX7_comesInto_b7 (gE_ g) N F m v0 v1 v2) k n 7 [(0, vr_ v0), (1, vr_ v1), (2, vi_ v2)] [] m := by
  intro F
  induction F with
  | zero => intros; exact Sm_none
  | succ F ih =>
    intro m v0 v1 v2 k n
    unfold fX7_comesInto_b7
    refine s_iload_n C rfl 2 rfl dX7_comesInto_7 8 rfl ?_
    refine s_if_le C dX7_comesInto_8 36 rfl 11 rfl (fun c_ => ?_) (fun c_ => ?_)
    · refine s_aload_n C rfl 0 rfl dX7_comesInto_11 12 rfl ?_
      refine s_aload_n C rfl 1 rfl dX7_comesInto_12 13 rfl ?_
      refine s_iload_n C rfl 2 rfl dX7_comesInto_13 14 rfl ?_
      refine s_iconst C 1 rfl dX7_comesInto_14 15 rfl ?_
      refine s_isub C dX7_comesInto_15 16 rfl ?_
      refine x_ck (fun hb_ hb0_ => ?_)
      refine x_callF (enc := en_r) C 12 1 [vi_ (v2 - 1)] 13 (ctJ2_get C.2.2.2.2.2.2.2.2.1 N m v1 (v2 - 1)) hb_ hb0_ rfl rfl rfl fw_3 q1796 q891 q893 q84 q895 hx2 (Nat.le_of_ble_eq_true rfl) (Nat.le_of_ble_eq_true rfl) rfl (Nat.le_of_ble_eq_true rfl) dX7_comesInto_16 21 rfl rfl hen_r (kk_r (fun x1 m1 k1 n1 => ?_)) (kx_n he_r)
      refine x_cc C "MasterTree$Change" [7] (fun k hk => by rw [List.mem_singleton.mp hk]; exact ⟨rfl, Or.inr rfl⟩) q1053 dX7_comesInto_21 24 rfl ?_
      refine x_ck (fun hb_ hb0_ => ?_)
      refine x_callV (enc := en_i) C 11 1 [vr_ x1] 7 (ctX7_compareTo_2 C.2.2.2.2.2.2.2.2.1 N m1 v0 x1) hb_ hb0_ rfl rfl q1054 q1055 q1056 q127 q1057 hdX7_compareTo_2 (Nat.le_of_ble_eq_true rfl) (Nat.le_of_ble_eq_true rfl) rfl (Nat.le_of_ble_eq_true rfl) dX7_comesInto_24 27 rfl rfl hen_i (kk_i (fun x2 m2 k1 n1 => ?_)) (kx_n he_i)
      refine s_if_ge C dX7_comesInto_27 36 rfl 30 rfl (fun c_ => ?_) (fun c_ => ?_)
      · refine s_iinc C (-1) rfl 2 rfl (Nat.le_of_ble_eq_true rfl) [0, 1] rfl rfl dX7_comesInto_30 33 rfl ?_
        refine s_goto C (off := -26) 7 dX7_comesInto_33 rfl ?_
        refine Sm_sub [1, 2, 0] rfl ?_
        exact ih _ _ _ _ _ _
      · exact wX7_comesInto_b36 C hret h0 hin N _ _ _ _ _ _
    · exact wX7_comesInto_b36 C hret h0 hin N _ _ _ _ _ _
theorem wX7_comesInto {l : Launch} {g : GG} {E : Me_} (C : Cx_ l g E "MasterTree$Change" cX7_comesInto 3 15) (hret : (eT_ E).sig.returnType = (Option.none : Option Jvm.ClassFile.FieldType)) (h0 : ∀ x ∈ (eC_ E).exceptionTable.toList, False) (hin : (eT_ E).name = "comesInto") (N : Nat) : ∀ (m : Mm) (v0 : Option Nat) (v1 : Option Nat) (k n : Nat), Sm_ l g E 3 en_v (fX7_comesInto (gE_ g) N m v0 v1) k n 0 [(0, vr_ v0), (1, vr_ v1)] [] m := by
  intro m v0 v1 k n
  unfold fX7_comesInto
  refine s_aload_n C rfl 1 rfl dX7_comesInto_0 1 rfl ?_
  refine x_ck (fun hb_ hb0_ => ?_)
  refine x_callF (enc := en_i) C 10 0 [] 13 (ctJ2_size C.2.2.2.2.2.2.2.2.1 N m v1) hb_ hb0_ rfl rfl rfl fw_1 q1794 q483 q485 q84 q487 hx1 (Nat.le_of_ble_eq_true rfl) (Nat.le_of_ble_eq_true rfl) rfl (Nat.le_of_ble_eq_true rfl) dX7_comesInto_1 6 rfl rfl hen_i (kk_i (fun x1 m1 k1 n1 => ?_)) (kx_n he_i)
  refine s_istore_n C rfl (Nat.le_of_ble_eq_true rfl) [0, 1] rfl rfl dX7_comesInto_6 7 rfl ?_
  refine Sm_sub [1, 2, 0] rfl ?_
  exact wX7_comesInto_b7 C hret h0 hin N N _ _ _ _ _ _
theorem hdX7_comesInto : ((⟨"MasterTree$Change", "comesInto", "(Ljava/util/List;)V"⟩ : MethodName)).cls ≠ "java/lang/invoke/MethodHandle" ∧ ((⟨"MasterTree$Change", "comesInto", "(Ljava/util/List;)V"⟩ : MethodName)).cls ≠ "java/lang/invoke/VarHandle" ∧ (parseMethodDescriptor ((⟨"MasterTree$Change", "comesInto", "(Ljava/util/List;)V"⟩ : MethodName)).desc).map (fun d => d.parameters.length) = some 1 := ⟨by decide +kernel, by decide +kernel, by decide +kernel⟩
theorem ctX7_comesInto {l : Launch} {g : GG} (hst : l.stackTraces = false) (N : Nat) (m : Mm) (v0 : Option Nat) (v1 : Option Nat) : ∀ v m' k n, fX7_comesInto (gE_ g) N m v0 v1 = some (v, m', k, n) → Ct_ l g (⟨"MasterTree$Change", "comesInto", "(Ljava/util/List;)V"⟩ : MethodName) (ws_ (⟨"MasterTree$Change", "comesInto", "(Ljava/util/List;)V"⟩ : MethodName) cX7_comesInto 3 (Option.none : Option Jvm.ClassFile.FieldType)) 15 [vr_ v0, vr_ v1] m (en_v v) m' k n :=
  Ct_of (by decide +kernel) rfl hst (Nat.le_of_ble_eq_true rfl) rfl (fun E C hret h0 hin => wX7_comesInto C hret h0 hin N m v0 v1 0 0)
theorem wX5_key_b15 {l : Launch} {g : GG} {E : Me_} (C : Cx_ l g E "MasterTree$Attribute" cX5_key 2 10) (hret : (eT_ E).sig.returnType = (Option.some Jvm.ClassFile.FieldType.int)) (h0 : ∀ x ∈ (eC_ E).exceptionTable.toList, False) (hin : (eT_ E).name = "key") (N : Nat) : ∀ (m : Mm) (s0 : Int32) (k n : Nat), Sm_ l g E 2 en_i (fX5_key_b15 (gE_ g) N m s0) k n 15 [] [vi_ s0] m := by
  intro m s0 k n
  unfold fX5_key_b15
  exact x_iret C hret rfl dX5_key_15
theorem wX5_key {l : Launch} {g : GG} {E : Me_} (C : Cx_ l g E "MasterTree$Attribute" cX5_key 2 10) (hret : (eT_ E).sig.returnType = (Option.some Jvm.ClassFile.FieldType.int)) (h0 : ∀ x ∈ (eC_ E).exceptionTable.toList, False) (hin : (eT_ E).name = "key") (N : Nat) : ∀ (m : Mm) (v0 : Option Nat) (v1 : Int32) (k n : Nat), Sm_ l g E 2 en_i (fX5_key (gE_ g) N m v0 v1) k n 0 [(0, vr_ v0), (1, vi_ v1)] [] m := by
  intro m v0 v1 k n
  unfold fX5_key
  refine s_aload_n C rfl 0 rfl dX5_key_0 1 rfl ?_
  refine x_gi C 4 (RX5, TX5, 2) rfl 1 (Nat.le_of_ble_eq_true rfl) q591 (Or.inl rfl) rfl 5 rfl dX5_key_1 4 rfl (fun x1 => ?_)
  refine s_if_eq C dX5_key_4 14 rfl 7 rfl (fun c_ => ?_) (fun c_ => ?_)
  · refine s_iload_n C rfl 1 rfl dX5_key_14 15 rfl ?_
    refine Sm_sub [] rfl ?_
    exact wX5_key_b15 C hret h0 hin N _ _ _ _
  · refine s_iload_n C rfl 1 rfl dX5_key_7 8 rfl ?_
    refine s_bipush C 10 rfl dX5_key_8 10 rfl ?_
    refine s_idiv C (by decide) dX5_key_10 11 rfl ?_
    refine s_goto C (off := 4) 15 dX5_key_11 rfl ?_
    refine Sm_sub [] rfl ?_
    exact wX5_key_b15 C hret h0 hin N _ _ _ _
theorem hdX5_key : ((⟨"MasterTree$Attribute", "key", "(I)I"⟩ : MethodName)).cls ≠ "java/lang/invoke/MethodHandle" ∧ ((⟨"MasterTree$Attribute", "key", "(I)I"⟩ : MethodName)).cls ≠ "java/lang/invoke/VarHandle" ∧ (parseMethodDescriptor ((⟨"MasterTree$Attribute", "key", "(I)I"⟩ : MethodName)).desc).map (fun d => d.parameters.length) = some 1 := ⟨by decide +kernel, by decide +kernel, by decide +kernel⟩
theorem ctX5_key {l : Launch} {g : GG} (hst : l.stackTraces = false) (N : Nat) (m : Mm) (v0 : Option Nat) (v1 : Int32) : ∀ v m' k n, fX5_key (gE_ g) N m v0 v1 = some (v, m', k, n) → Ct_ l g (⟨"MasterTree$Attribute", "key", "(I)I"⟩ : MethodName) (ws_ (⟨"MasterTree$Attribute", "key", "(I)I"⟩ : MethodName) cX5_key 2 (Option.some Jvm.ClassFile.FieldType.int)) 10 [vr_ v0, vi_ v1] m (en_i v) m' k n :=
  Ct_of (by decide +kernel) rfl hst (Nat.le_of_ble_eq_true rfl) rfl (fun E C hret h0 hin => wX5_key C hret h0 hin N m v0 v1 0 0)
