set_option maxRecDepth 100000
abbrev cX3_place : ByteArray := prog_7_method_3_code
def yX3_place : MethodName := ⟨RX3, "place", "(II)I"⟩
def dkwX3_place_0 : List UInt8 := [17, 3, 232, 27, 104, 42, 180, 0, 35, 27, 185, 0, 46, 2, 0, 192, 0, 52, 28, 182, 0, 54, 96, 172]
abbrev dktX3_place_0 : List UInt8 := dkwX3_place_0 ++ []
theorem dksX3_place_0 : cX3_place.data.toList.drop 0 = dktX3_place_0 := by decide +kernel
theorem dX3_place_0 : decode cX3_place 0 = .ok (.sipush 1000, 3) := dk_17 3 232 (dk_at dksX3_place_0 0 rfl rfl)
theorem dX3_place_3 : decode cX3_place 3 = .ok (.iload_n 1, 1) := dk_27 (dk_at dksX3_place_0 3 rfl rfl)
theorem dX3_place_4 : decode cX3_place 4 = .ok (.imul, 1) := dk_104 (dk_at dksX3_place_0 4 rfl rfl)
theorem dX3_place_5 : decode cX3_place 5 = .ok (.aload_n 0, 1) := dk_42 (dk_at dksX3_place_0 5 rfl rfl)
theorem dX3_place_6 : decode cX3_place 6 = .ok (.getfield 35, 3) := dk_180 0 35 (dk_at dksX3_place_0 6 rfl rfl)
theorem dX3_place_9 : decode cX3_place 9 = .ok (.iload_n 1, 1) := dk_27 (dk_at dksX3_place_0 9 rfl rfl)
theorem dX3_place_10 : decode cX3_place 10 = .ok (.invokeinterface 46 2, 5) := by decide +kernel
theorem dX3_place_15 : decode cX3_place 15 = .ok (.checkcast 52, 3) := dk_192 0 52 (dk_at dksX3_place_0 15 rfl rfl)
theorem dX3_place_18 : decode cX3_place 18 = .ok (.iload_n 2, 1) := dk_28 (dk_at dksX3_place_0 18 rfl rfl)
theorem dX3_place_19 : decode cX3_place 19 = .ok (.invokevirtual 54, 3) := dk_182 0 54 (dk_at dksX3_place_0 19 rfl rfl)
theorem dX3_place_22 : decode cX3_place 22 = .ok (.iadd, 1) := dk_96 (dk_at dksX3_place_0 22 rfl rfl)
theorem dX3_place_23 : decode cX3_place 23 = .ok (.ireturn, 1) := dk_172 (dk_at dksX3_place_0 23 rfl rfl)
def fX3_place (e : Nat → Nat) (N : Nat) (m : Mm) (v0 : Option Nat) (v1 : Int32) (v2 : Int32) : Rs (Int32) := gr_ m v0 3 1 (fun x1 => ck_ m x1 13 (bd_ (fJ2_get e N m x1 v1) (fun x2 m1 => cc_ m1 x2 [5] (ck_ m1 x2 5 (bd_ (fX5_key e N m1 x2 v2) (fun x3 m2 => rt_ ((1000 * v1) + x3) m2))))))
abbrev cJ3_init : ByteArray := prog_55_method_1_code
def yJ3_init : MethodName := ⟨RJ3, "<init>", "()V"⟩
theorem dJ3_init_0 : decode cJ3_init 0 = .ok (.aload_n 0, 1) := by decide +kernel
theorem dJ3_init_1 : decode cJ3_init 1 = .ok (.invokespecial 1, 3) := by decide +kernel
theorem dJ3_init_4 : decode cJ3_init 4 = .ok (.return_, 1) := by decide +kernel
def fJ3_init_t21 (e : Nat → Nat) (N : Nat) (m : Mm) (v0 : Option Nat) : Rs (Unit) := ok_ v0 (rt_ () m)
abbrev cJ38_init : ByteArray := prog_87_method_1_code
def yJ38_init : MethodName := ⟨RJ38, "<init>", "(Ljava/util/TreeMap;ZLjava/lang/Object;ZZLjava/lang/Object;Z)V"⟩
def dkwJ38_init_4 : List UInt8 := [181, 0, 43, 177]
abbrev dktJ38_init_4 : List UInt8 := dkwJ38_init_4 ++ []
def dkwJ38_init_3 : List UInt8 := [181, 0, 30, 42, 21, 4, 181, 0, 34, 42, 21, 5, 181, 0, 37, 42, 25, 6, 181, 0, 40, 42, 21, 7]
abbrev dktJ38_init_3 : List UInt8 := dkwJ38_init_3 ++ dktJ38_init_4
def dkwJ38_init_2 : List UInt8 := [154, 0, 12, 43, 25, 6, 25, 6, 182, 0, 7, 87, 42, 43, 181, 0, 20, 42, 28, 181, 0, 26, 42, 45]
abbrev dktJ38_init_2 : List UInt8 := dkwJ38_init_2 ++ dktJ38_init_3
def dkwJ38_init_1 : List UInt8 := [187, 0, 13, 89, 18, 15, 183, 0, 17, 191, 28, 154, 0, 10, 43, 45, 45, 182, 0, 7, 87, 21, 5]
abbrev dktJ38_init_1 : List UInt8 := dkwJ38_init_1 ++ dktJ38_init_2
def dkwJ38_init_0 : List UInt8 := [42, 183, 0, 1, 28, 154, 0, 28, 21, 5, 154, 0, 23, 43, 45, 25, 6, 182, 0, 7, 158, 0, 38]
abbrev dktJ38_init_0 : List UInt8 := dkwJ38_init_0 ++ dktJ38_init_1
theorem dksJ38_init_0 : cJ38_init.data.toList.drop 0 = dktJ38_init_0 := by decide +kernel
theorem dksJ38_init_1 : cJ38_init.data.toList.drop 23 = dktJ38_init_1 := dk_seg dksJ38_init_0 23 rfl rfl
theorem dksJ38_init_2 : cJ38_init.data.toList.drop 46 = dktJ38_init_2 := dk_seg dksJ38_init_1 23 rfl rfl
theorem dksJ38_init_3 : cJ38_init.data.toList.drop 70 = dktJ38_init_3 := dk_seg dksJ38_init_2 24 rfl rfl
theorem dksJ38_init_4 : cJ38_init.data.toList.drop 94 = dktJ38_init_4 := dk_seg dksJ38_init_3 24 rfl rfl
theorem dJ38_init_0 : decode cJ38_init 0 = .ok (.aload_n 0, 1) := dk_42 (dk_at dksJ38_init_0 0 rfl rfl)
theorem dJ38_init_1 : decode cJ38_init 1 = .ok (.invokespecial 1, 3) := dk_183 0 1 (dk_at dksJ38_init_0 1 rfl rfl)
theorem dJ38_init_4 : decode cJ38_init 4 = .ok (.iload_n 2, 1) := dk_28 (dk_at dksJ38_init_0 4 rfl rfl)
theorem dJ38_init_5 : decode cJ38_init 5 = .ok (.ifCond .ne 28, 3) := dk_154 0 28 (dk_at dksJ38_init_0 5 rfl rfl)
theorem dJ38_init_8 : decode cJ38_init 8 = .ok (.iload 5, 2) := dk_21 5 (dk_at dksJ38_init_0 8 rfl rfl)
theorem dJ38_init_10 : decode cJ38_init 10 = .ok (.ifCond .ne 23, 3) := dk_154 0 23 (dk_at dksJ38_init_0 10 rfl rfl)
theorem dJ38_init_13 : decode cJ38_init 13 = .ok (.aload_n 1, 1) := dk_43 (dk_at dksJ38_init_0 13 rfl rfl)
theorem dJ38_init_14 : decode cJ38_init 14 = .ok (.aload_n 3, 1) := dk_45 (dk_at dksJ38_init_0 14 rfl rfl)
theorem dJ38_init_15 : decode cJ38_init 15 = .ok (.aload 6, 2) := dk_25 6 (dk_at dksJ38_init_0 15 rfl rfl)
theorem dJ38_init_17 : decode cJ38_init 17 = .ok (.invokevirtual 7, 3) := dk_182 0 7 (dk_at dksJ38_init_0 17 rfl rfl)
theorem dJ38_init_20 : decode cJ38_init 20 = .ok (.ifCond .le 38, 3) := dk_158 0 38 (dk_at dksJ38_init_0 20 rfl rfl)
theorem dJ38_init_23 : decode cJ38_init 23 = .ok (.new 13, 3) := dk_187 0 13 (dk_at dksJ38_init_1 0 rfl rfl)
theorem dJ38_init_26 : decode cJ38_init 26 = .ok (.dup, 1) := dk_89 (dk_at dksJ38_init_1 3 rfl rfl)
theorem dJ38_init_27 : decode cJ38_init 27 = .ok (.ldc 15, 2) := dk_18 15 (dk_at dksJ38_init_1 4 rfl rfl)
theorem dJ38_init_29 : decode cJ38_init 29 = .ok (.invokespecial 17, 3) := dk_183 0 17 (dk_at dksJ38_init_1 6 rfl rfl)
theorem dJ38_init_32 : decode cJ38_init 32 = .ok (.athrow, 1) := dk_191 (dk_at dksJ38_init_1 9 rfl rfl)
theorem dJ38_init_33 : decode cJ38_init 33 = .ok (.iload_n 2, 1) := dk_28 (dk_at dksJ38_init_1 10 rfl rfl)
theorem dJ38_init_34 : decode cJ38_init 34 = .ok (.ifCond .ne 10, 3) := dk_154 0 10 (dk_at dksJ38_init_1 11 rfl rfl)
theorem dJ38_init_37 : decode cJ38_init 37 = .ok (.aload_n 1, 1) := dk_43 (dk_at dksJ38_init_1 14 rfl rfl)
theorem dJ38_init_38 : decode cJ38_init 38 = .ok (.aload_n 3, 1) := dk_45 (dk_at dksJ38_init_1 15 rfl rfl)
theorem dJ38_init_39 : decode cJ38_init 39 = .ok (.aload_n 3, 1) := dk_45 (dk_at dksJ38_init_1 16 rfl rfl)
theorem dJ38_init_40 : decode cJ38_init 40 = .ok (.invokevirtual 7, 3) := dk_182 0 7 (dk_at dksJ38_init_1 17 rfl rfl)
theorem dJ38_init_43 : decode cJ38_init 43 = .ok (.pop, 1) := dk_87 (dk_at dksJ38_init_1 20 rfl rfl)
theorem dJ38_init_44 : decode cJ38_init 44 = .ok (.iload 5, 2) := dk_21 5 (dk_at dksJ38_init_1 21 rfl rfl)
theorem dJ38_init_46 : decode cJ38_init 46 = .ok (.ifCond .ne 12, 3) := dk_154 0 12 (dk_at dksJ38_init_2 0 rfl rfl)
theorem dJ38_init_49 : decode cJ38_init 49 = .ok (.aload_n 1, 1) := dk_43 (dk_at dksJ38_init_2 3 rfl rfl)
theorem dJ38_init_50 : decode cJ38_init 50 = .ok (.aload 6, 2) := dk_25 6 (dk_at dksJ38_init_2 4 rfl rfl)
theorem dJ38_init_52 : decode cJ38_init 52 = .ok (.aload 6, 2) := dk_25 6 (dk_at dksJ38_init_2 6 rfl rfl)
theorem dJ38_init_54 : decode cJ38_init 54 = .ok (.invokevirtual 7, 3) := dk_182 0 7 (dk_at dksJ38_init_2 8 rfl rfl)
theorem dJ38_init_57 : decode cJ38_init 57 = .ok (.pop, 1) := dk_87 (dk_at dksJ38_init_2 11 rfl rfl)
theorem dJ38_init_58 : decode cJ38_init 58 = .ok (.aload_n 0, 1) := dk_42 (dk_at dksJ38_init_2 12 rfl rfl)
theorem dJ38_init_59 : decode cJ38_init 59 = .ok (.aload_n 1, 1) := dk_43 (dk_at dksJ38_init_2 13 rfl rfl)
theorem dJ38_init_60 : decode cJ38_init 60 = .ok (.putfield 20, 3) := dk_181 0 20 (dk_at dksJ38_init_2 14 rfl rfl)
theorem dJ38_init_63 : decode cJ38_init 63 = .ok (.aload_n 0, 1) := dk_42 (dk_at dksJ38_init_2 17 rfl rfl)
theorem dJ38_init_64 : decode cJ38_init 64 = .ok (.iload_n 2, 1) := dk_28 (dk_at dksJ38_init_2 18 rfl rfl)
theorem dJ38_init_65 : decode cJ38_init 65 = .ok (.putfield 26, 3) := dk_181 0 26 (dk_at dksJ38_init_2 19 rfl rfl)
theorem dJ38_init_68 : decode cJ38_init 68 = .ok (.aload_n 0, 1) := dk_42 (dk_at dksJ38_init_2 22 rfl rfl)
theorem dJ38_init_69 : decode cJ38_init 69 = .ok (.aload_n 3, 1) := dk_45 (dk_at dksJ38_init_2 23 rfl rfl)
theorem dJ38_init_70 : decode cJ38_init 70 = .ok (.putfield 30, 3) := dk_181 0 30 (dk_at dksJ38_init_3 0 rfl rfl)
theorem dJ38_init_73 : decode cJ38_init 73 = .ok (.aload_n 0, 1) := dk_42 (dk_at dksJ38_init_3 3 rfl rfl)
theorem dJ38_init_74 : decode cJ38_init 74 = .ok (.iload 4, 2) := dk_21 4 (dk_at dksJ38_init_3 4 rfl rfl)
theorem dJ38_init_76 : decode cJ38_init 76 = .ok (.putfield 34, 3) := dk_181 0 34 (dk_at dksJ38_init_3 6 rfl rfl)
theorem dJ38_init_79 : decode cJ38_init 79 = .ok (.aload_n 0, 1) := dk_42 (dk_at dksJ38_init_3 9 rfl rfl)
theorem dJ38_init_80 : decode cJ38_init 80 = .ok (.iload 5, 2) := dk_21 5 (dk_at dksJ38_init_3 10 rfl rfl)
theorem dJ38_init_82 : decode cJ38_init 82 = .ok (.putfield 37, 3) := dk_181 0 37 (dk_at dksJ38_init_3 12 rfl rfl)
theorem dJ38_init_85 : decode cJ38_init 85 = .ok (.aload_n 0, 1) := dk_42 (dk_at dksJ38_init_3 15 rfl rfl)
theorem dJ38_init_86 : decode cJ38_init 86 = .ok (.aload 6, 2) := dk_25 6 (dk_at dksJ38_init_3 16 rfl rfl)
theorem dJ38_init_88 : decode cJ38_init 88 = .ok (.putfield 40, 3) := dk_181 0 40 (dk_at dksJ38_init_3 18 rfl rfl)
theorem dJ38_init_91 : decode cJ38_init 91 = .ok (.aload_n 0, 1) := dk_42 (dk_at dksJ38_init_3 21 rfl rfl)
theorem dJ38_init_92 : decode cJ38_init 92 = .ok (.iload 7, 2) := dk_21 7 (dk_at dksJ38_init_3 22 rfl rfl)
theorem dJ38_init_94 : decode cJ38_init 94 = .ok (.putfield 43, 3) := dk_181 0 43 (dk_at dksJ38_init_4 0 rfl rfl)
theorem dJ38_init_97 : decode cJ38_init 97 = .ok (.return_, 1) := dk_177 (dk_at dksJ38_init_4 3 rfl rfl)
def fJ38_init_t21_b58 (e : Nat → Nat) (N : Nat) (m : Mm) (v0 : Option Nat) (v1 : Option Nat) (v2 : Int32) (v3 : Option Nat) (v4 : Int32) (v5 : Int32) (v6 : Option Nat) (v7 : Int32) : Rs (Unit) := pr_ m v0 21 0 v1 (fun m1 => pz_ m1 v0 21 3 v2 (fun m2 => pr_ m2 v0 21 1 v3 (fun m3 => pz_ m3 v0 21 5 v4 (fun m4 => pz_ m4 v0 21 4 v5 (fun m5 => pr_ m5 v0 21 2 v6 (fun m6 => pz_ m6 v0 21 6 v7 (fun m7 => rt_ () m7)))))))
def fJ38_init_t21_b44 (e : Nat → Nat) (N : Nat) (m : Mm) (v0 : Option Nat) (v1 : Option Nat) (v2 : Int32) (v3 : Option Nat) (v4 : Int32) (v5 : Int32) (v6 : Option Nat) (v7 : Int32) : Rs (Unit) := if v5 = 0 then (ck_ m v1 15 (bd_ (fJ4_compare e N m v1 v6 v6) (fun x1 m1 => fJ38_init_t21_b58 e N m1 v0 v1 v2 v3 v4 v5 v6 v7))) else (fJ38_init_t21_b58 e N m v0 v1 v2 v3 v4 v5 v6 v7)
def fJ38_init_t21_b33 (e : Nat → Nat) (N : Nat) (m : Mm) (v0 : Option Nat) (v1 : Option Nat) (v2 : Int32) (v3 : Option Nat) (v4 : Int32) (v5 : Int32) (v6 : Option Nat) (v7 : Int32) : Rs (Unit) := if v2 = 0 then (ck_ m v1 15 (bd_ (fJ4_compare e N m v1 v3 v3) (fun x1 m1 => fJ38_init_t21_b44 e N m1 v0 v1 v2 v3 v4 v5 v6 v7))) else (fJ38_init_t21_b44 e N m v0 v1 v2 v3 v4 v5 v6 v7)
def fJ38_init_t21 (e : Nat → Nat) (N : Nat) (m : Mm) (v0 : Option Nat) (v1 : Option Nat) (v2 : Int32) (v3 : Option Nat) (v4 : Int32) (v5 : Int32) (v6 : Option Nat) (v7 : Int32) : Rs (Unit) := ok_ v0 (bd_ (fJ3_init_t21 e N m v0) (fun _ m1 => if v2 = 0 then (if v5 = 0 then (ck_ m1 v1 15 (bd_ (fJ4_compare e N m1 v1 v3 v6) (fun x1 m2 => if 0 < x1 then (none) else (fJ38_init_t21_b58 e N m2 v0 v1 v2 v3 v4 v5 v6 v7)))) else (fJ38_init_t21_b33 e N m1 v0 v1 v2 v3 v4 v5 v6 v7)) else (fJ38_init_t21_b33 e N m1 v0 v1 v2 v3 v4 v5 v6 v7)))
abbrev cJ39_init : ByteArray := prog_80_method_1_code
def yJ39_init : MethodName := ⟨RJ39, "<init>", "(Ljava/util/TreeMap;ZLjava/lang/Object;ZZLjava/lang/Object;Z)V"⟩
def dkwJ39_init_0 : List UInt8 := [42, 43, 28, 45, 21, 4, 21, 5, 25, 6, 21, 7, 183, 0, 1, 177]
abbrev dktJ39_init_0 : List UInt8 := dkwJ39_init_0 ++ []
theorem dksJ39_init_0 : cJ39_init.data.toList.drop 0 = dktJ39_init_0 := by decide +kernel
theorem dJ39_init_0 : decode cJ39_init 0 = .ok (.aload_n 0, 1) := dk_42 (dk_at dksJ39_init_0 0 rfl rfl)
theorem dJ39_init_1 : decode cJ39_init 1 = .ok (.aload_n 1, 1) := dk_43 (dk_at dksJ39_init_0 1 rfl rfl)
theorem dJ39_init_2 : decode cJ39_init 2 = .ok (.iload_n 2, 1) := dk_28 (dk_at dksJ39_init_0 2 rfl rfl)
theorem dJ39_init_3 : decode cJ39_init 3 = .ok (.aload_n 3, 1) := dk_45 (dk_at dksJ39_init_0 3 rfl rfl)
theorem dJ39_init_4 : decode cJ39_init 4 = .ok (.iload 4, 2) := dk_21 4 (dk_at dksJ39_init_0 4 rfl rfl)
theorem dJ39_init_6 : decode cJ39_init 6 = .ok (.iload 5, 2) := dk_21 5 (dk_at dksJ39_init_0 6 rfl rfl)
theorem dJ39_init_8 : decode cJ39_init 8 = .ok (.aload 6, 2) := dk_25 6 (dk_at dksJ39_init_0 8 rfl rfl)
theorem dJ39_init_10 : decode cJ39_init 10 = .ok (.iload 7, 2) := dk_21 7 (dk_at dksJ39_init_0 10 rfl rfl)
theorem dJ39_init_12 : decode cJ39_init 12 = .ok (.invokespecial 1, 3) := dk_183 0 1 (dk_at dksJ39_init_0 12 rfl rfl)
theorem dJ39_init_15 : decode cJ39_init 15 = .ok (.return_, 1) := dk_177 (dk_at dksJ39_init_0 15 rfl rfl)
def fJ39_init (e : Nat → Nat) (N : Nat) (m : Mm) (v0 : Option Nat) (v1 : Option Nat) (v2 : Int32) (v3 : Option Nat) (v4 : Int32) (v5 : Int32) (v6 : Option Nat) (v7 : Int32) : Rs (Unit) := ok_ v0 (bd_ (fJ38_init_t21 e N m v0 v1 v2 v3 v4 v5 v6 v7) (fun _ m1 => rt_ () m1))
abbrev cJ4_subMap_2 : ByteArray := prog_79_method_55_code
def yJ4_subMap_2 : MethodName := ⟨RJ4, "subMap", "(Ljava/lang/Object;ZLjava/lang/Object;Z)Ljava/util/NavigableMap;"⟩
def dkwJ4_subMap_2_0 : List UInt8 := [187, 0, 250, 89, 42, 3, 43, 28, 3, 45, 21, 4, 183, 0, 252, 176]
abbrev dktJ4_subMap_2_0 : List UInt8 := dkwJ4_subMap_2_0 ++ []
theorem dksJ4_subMap_2_0 : cJ4_subMap_2.data.toList.drop 0 = dktJ4_subMap_2_0 := by decide +kernel
theorem dJ4_subMap_2_0 : decode cJ4_subMap_2 0 = .ok (.new 250, 3) := dk_187 0 250 (dk_at dksJ4_subMap_2_0 0 rfl rfl)
theorem dJ4_subMap_2_3 : decode cJ4_subMap_2 3 = .ok (.dup, 1) := dk_89 (dk_at dksJ4_subMap_2_0 3 rfl rfl)
theorem dJ4_subMap_2_4 : decode cJ4_subMap_2 4 = .ok (.aload_n 0, 1) := dk_42 (dk_at dksJ4_subMap_2_0 4 rfl rfl)
theorem dJ4_subMap_2_5 : decode cJ4_subMap_2 5 = .ok (.iconst 0, 1) := dk_3 (dk_at dksJ4_subMap_2_0 5 rfl rfl)
theorem dJ4_subMap_2_6 : decode cJ4_subMap_2 6 = .ok (.aload_n 1, 1) := dk_43 (dk_at dksJ4_subMap_2_0 6 rfl rfl)
theorem dJ4_subMap_2_7 : decode cJ4_subMap_2 7 = .ok (.iload_n 2, 1) := dk_28 (dk_at dksJ4_subMap_2_0 7 rfl rfl)
theorem dJ4_subMap_2_8 : decode cJ4_subMap_2 8 = .ok (.iconst 0, 1) := dk_3 (dk_at dksJ4_subMap_2_0 8 rfl rfl)
theorem dJ4_subMap_2_9 : decode cJ4_subMap_2 9 = .ok (.aload_n 3, 1) := dk_45 (dk_at dksJ4_subMap_2_0 9 rfl rfl)
theorem dJ4_subMap_2_10 : decode cJ4_subMap_2 10 = .ok (.iload 4, 2) := dk_21 4 (dk_at dksJ4_subMap_2_0 10 rfl rfl)
theorem dJ4_subMap_2_12 : decode cJ4_subMap_2 12 = .ok (.invokespecial 252, 3) := dk_183 0 252 (dk_at dksJ4_subMap_2_0 12 rfl rfl)
theorem dJ4_subMap_2_15 : decode cJ4_subMap_2 15 = .ok (.areturn, 1) := dk_176 (dk_at dksJ4_subMap_2_0 15 rfl rfl)
def fJ4_subMap_2 (e : Nat → Nat) (N : Nat) (m : Mm) (v0 : Option Nat) (v1 : Option Nat) (v2 : Int32) (v3 : Option Nat) (v4 : Int32) : Rs (Option Nat) := nw_ m 21 12 (fun x1 m1 => bd_ (fJ39_init e N m1 (some x1) v0 0 v1 v2 0 v3 v4) (fun _ m2 => rt_ (some x1) m2))
abbrev cJ4_subMap : ByteArray := prog_79_method_58_code
def yJ4_subMap : MethodName := ⟨RJ4, "subMap", "(Ljava/lang/Object;Ljava/lang/Object;)Ljava/util/SortedMap;"⟩
def dkwJ4_subMap_0 : List UInt8 := [42, 43, 4, 44, 3, 182, 0, 253, 176]
abbrev dktJ4_subMap_0 : List UInt8 := dkwJ4_subMap_0 ++ []
theorem dksJ4_subMap_0 : cJ4_subMap.data.toList.drop 0 = dktJ4_subMap_0 := by decide +kernel
theorem dJ4_subMap_0 : decode cJ4_subMap 0 = .ok (.aload_n 0, 1) := dk_42 (dk_at dksJ4_subMap_0 0 rfl rfl)
theorem dJ4_subMap_1 : decode cJ4_subMap 1 = .ok (.aload_n 1, 1) := dk_43 (dk_at dksJ4_subMap_0 1 rfl rfl)
theorem dJ4_subMap_2 : decode cJ4_subMap 2 = .ok (.iconst 1, 1) := dk_4 (dk_at dksJ4_subMap_0 2 rfl rfl)
theorem dJ4_subMap_3 : decode cJ4_subMap 3 = .ok (.aload_n 2, 1) := dk_44 (dk_at dksJ4_subMap_0 3 rfl rfl)
theorem dJ4_subMap_4 : decode cJ4_subMap 4 = .ok (.iconst 0, 1) := dk_3 (dk_at dksJ4_subMap_0 4 rfl rfl)
theorem dJ4_subMap_5 : decode cJ4_subMap 5 = .ok (.invokevirtual 253, 3) := dk_182 0 253 (dk_at dksJ4_subMap_0 5 rfl rfl)
theorem dJ4_subMap_8 : decode cJ4_subMap 8 = .ok (.areturn, 1) := dk_176 (dk_at dksJ4_subMap_0 8 rfl rfl)
def fJ4_subMap (e : Nat → Nat) (N : Nat) (m : Mm) (v0 : Option Nat) (v1 : Option Nat) (v2 : Option Nat) : Rs (Option Nat) := ck_ m v0 15 (bd_ (fJ4_subMap_2 e N m v0 v1 1 v2 0) (fun x1 m1 => rt_ x1 m1))
abbrev cX3_valuesOf : ByteArray := prog_7_method_4_code
def yX3_valuesOf : MethodName := ⟨RX3, "valuesOf", "(I)Ljava/util/Map;"⟩
def dkwX3_valuesOf_1 : List UInt8 := [182, 0, 64, 176]
abbrev dktX3_valuesOf_1 : List UInt8 := dkwX3_valuesOf_1 ++ []
def dkwX3_valuesOf_0 : List UInt8 := [42, 180, 0, 25, 17, 3, 232, 27, 104, 184, 0, 58, 17, 3, 232, 27, 104, 17, 3, 232, 96, 184, 0, 58]
abbrev dktX3_valuesOf_0 : List UInt8 := dkwX3_valuesOf_0 ++ dktX3_valuesOf_1
theorem dksX3_valuesOf_0 : cX3_valuesOf.data.toList.drop 0 = dktX3_valuesOf_0 := by decide +kernel
theorem dksX3_valuesOf_1 : cX3_valuesOf.data.toList.drop 24 = dktX3_valuesOf_1 := dk_seg dksX3_valuesOf_0 24 rfl rfl
theorem dX3_valuesOf_0 : decode cX3_valuesOf 0 = .ok (.aload_n 0, 1) := dk_42 (dk_at dksX3_valuesOf_0 0 rfl rfl)
theorem dX3_valuesOf_1 : decode cX3_valuesOf 1 = .ok (.getfield 25, 3) := dk_180 0 25 (dk_at dksX3_valuesOf_0 1 rfl rfl)
theorem dX3_valuesOf_4 : decode cX3_valuesOf 4 = .ok (.sipush 1000, 3) := dk_17 3 232 (dk_at dksX3_valuesOf_0 4 rfl rfl)
theorem dX3_valuesOf_7 : decode cX3_valuesOf 7 = .ok (.iload_n 1, 1) := dk_27 (dk_at dksX3_valuesOf_0 7 rfl rfl)
theorem dX3_valuesOf_8 : decode cX3_valuesOf 8 = .ok (.imul, 1) := dk_104 (dk_at dksX3_valuesOf_0 8 rfl rfl)
theorem dX3_valuesOf_9 : decode cX3_valuesOf 9 = .ok (.invokestatic 58, 3) := dk_184 0 58 (dk_at dksX3_valuesOf_0 9 rfl rfl)
theorem dX3_valuesOf_12 : decode cX3_valuesOf 12 = .ok (.sipush 1000, 3) := dk_17 3 232 (dk_at dksX3_valuesOf_0 12 rfl rfl)
theorem dX3_valuesOf_15 : decode cX3_valuesOf 15 = .ok (.iload_n 1, 1) := dk_27 (dk_at dksX3_valuesOf_0 15 rfl rfl)
theorem dX3_valuesOf_16 : decode cX3_valuesOf 16 = .ok (.imul, 1) := dk_104 (dk_at dksX3_valuesOf_0 16 rfl rfl)
theorem dX3_valuesOf_17 : decode cX3_valuesOf 17 = .ok (.sipush 1000, 3) := dk_17 3 232 (dk_at dksX3_valuesOf_0 17 rfl rfl)
theorem dX3_valuesOf_20 : decode cX3_valuesOf 20 = .ok (.iadd, 1) := dk_96 (dk_at dksX3_valuesOf_0 20 rfl rfl)
theorem dX3_valuesOf_21 : decode cX3_valuesOf 21 = .ok (.invokestatic 58, 3) := dk_184 0 58 (dk_at dksX3_valuesOf_0 21 rfl rfl)
theorem dX3_valuesOf_24 : decode cX3_valuesOf 24 = .ok (.invokevirtual 64, 3) := dk_182 0 64 (dk_at dksX3_valuesOf_1 0 rfl rfl)
theorem dX3_valuesOf_27 : decode cX3_valuesOf 27 = .ok (.areturn, 1) := dk_176 (dk_at dksX3_valuesOf_1 3 rfl rfl)
def fX3_valuesOf (e : Nat → Nat) (N : Nat) (m : Mm) (v0 : Option Nat) (v1 : Int32) : Rs (Option Nat) := gr_ m v0 3 7 (fun x1 => bd_ (fJ21_valueOf e N m (1000 * v1)) (fun x2 m1 => bd_ (fJ21_valueOf e N m1 ((1000 * v1) + 1000)) (fun x3 m2 => ck_ m2 x1 15 (bd_ (fJ4_subMap e N m2 x1 x2 x3) (fun x4 m3 => rt_ x4 m3)))))
def fJ0_init_t22 (e : Nat → Nat) (N : Nat) (m : Mm) (v0 : Option Nat) : Rs (Unit) := ok_ v0 (rt_ () m)
def fJ24_init_t22 (e : Nat → Nat) (N : Nat) (m : Mm) (v0 : Option Nat) : Rs (Unit) := ok_ v0 (bd_ (fJ0_init_t22 e N m v0) (fun _ m1 => rt_ () m1))
abbrev cJ40_init : ByteArray := prog_88_method_1_code
def yJ40_init : MethodName := ⟨RJ40, "<init>", "(Ljava/util/TreeMap$NavigableSubMap;)V"⟩
def dkwJ40_init_0 : List UInt8 := [42, 43, 181, 0, 1, 42, 183, 0, 7, 42, 2, 181, 0, 13, 177]
abbrev dktJ40_init_0 : List UInt8 := dkwJ40_init_0 ++ []
theorem dksJ40_init_0 : cJ40_init.data.toList.drop 0 = dktJ40_init_0 := by decide +kernel
theorem dJ40_init_0 : decode cJ40_init 0 = .ok (.aload_n 0, 1) := dk_42 (dk_at dksJ40_init_0 0 rfl rfl)
theorem dJ40_init_1 : decode cJ40_init 1 = .ok (.aload_n 1, 1) := dk_43 (dk_at dksJ40_init_0 1 rfl rfl)
theorem dJ40_init_2 : decode cJ40_init 2 = .ok (.putfield 1, 3) := dk_181 0 1 (dk_at dksJ40_init_0 2 rfl rfl)
theorem dJ40_init_5 : decode cJ40_init 5 = .ok (.aload_n 0, 1) := dk_42 (dk_at dksJ40_init_0 5 rfl rfl)
theorem dJ40_init_6 : decode cJ40_init 6 = .ok (.invokespecial 7, 3) := dk_183 0 7 (dk_at dksJ40_init_0 6 rfl rfl)
theorem dJ40_init_9 : decode cJ40_init 9 = .ok (.aload_n 0, 1) := dk_42 (dk_at dksJ40_init_0 9 rfl rfl)
theorem dJ40_init_10 : decode cJ40_init 10 = .ok (.iconst (-1), 1) := dk_2 (dk_at dksJ40_init_0 10 rfl rfl)
theorem dJ40_init_11 : decode cJ40_init 11 = .ok (.putfield 13, 3) := dk_181 0 13 (dk_at dksJ40_init_0 11 rfl rfl)
theorem dJ40_init_14 : decode cJ40_init 14 = .ok (.return_, 1) := dk_177 (dk_at dksJ40_init_0 14 rfl rfl)
def fJ40_init_t22 (e : Nat → Nat) (N : Nat) (m : Mm) (v0 : Option Nat) (v1 : Option Nat) : Rs (Unit) := pr_ m v0 22 2 v1 (fun m1 => ok_ v0 (bd_ (fJ24_init_t22 e N m1 v0) (fun _ m2 => pi_ m2 v0 22 0 (-1) (fun m3 => rt_ () m3))))
abbrev cJ41_init : ByteArray := prog_81_method_1_code
def yJ41_init : MethodName := ⟨RJ41, "<init>", "(Ljava/util/TreeMap$AscendingSubMap;)V"⟩
def dkwJ41_init_0 : List UInt8 := [42, 43, 181, 0, 1, 42, 43, 183, 0, 7, 177]
abbrev dktJ41_init_0 : List UInt8 := dkwJ41_init_0 ++ []
theorem dksJ41_init_0 : cJ41_init.data.toList.drop 0 = dktJ41_init_0 := by decide +kernel
theorem dJ41_init_0 : decode cJ41_init 0 = .ok (.aload_n 0, 1) := dk_42 (dk_at dksJ41_init_0 0 rfl rfl)
theorem dJ41_init_1 : decode cJ41_init 1 = .ok (.aload_n 1, 1) := dk_43 (dk_at dksJ41_init_0 1 rfl rfl)
theorem dJ41_init_2 : decode cJ41_init 2 = .ok (.putfield 1, 3) := dk_181 0 1 (dk_at dksJ41_init_0 2 rfl rfl)
theorem dJ41_init_5 : decode cJ41_init 5 = .ok (.aload_n 0, 1) := dk_42 (dk_at dksJ41_init_0 5 rfl rfl)
theorem dJ41_init_6 : decode cJ41_init 6 = .ok (.aload_n 1, 1) := dk_43 (dk_at dksJ41_init_0 6 rfl rfl)
theorem dJ41_init_7 : decode cJ41_init 7 = .ok (.invokespecial 7, 3) := dk_183 0 7 (dk_at dksJ41_init_0 7 rfl rfl)
theorem dJ41_init_10 : decode cJ41_init 10 = .ok (.return_, 1) := dk_177 (dk_at dksJ41_init_0 10 rfl rfl)
def fJ41_init (e : Nat → Nat) (N : Nat) (m : Mm) (v0 : Option Nat) (v1 : Option Nat) : Rs (Unit) := pr_ m v0 22 3 v1 (fun m1 => ok_ v0 (bd_ (fJ40_init_t22 e N m1 v0 v1) (fun _ m2 => rt_ () m2)))
abbrev cJ39_entrySet : ByteArray := prog_80_method_10_code
def yJ39_entrySet : MethodName := ⟨RJ39, "entrySet", "()Ljava/util/Set;"⟩
def dkwJ39_entrySet_1 : List UInt8 := [181, 0, 81, 176]
abbrev dktJ39_entrySet_1 : List UInt8 := dkwJ39_entrySet_1 ++ []
def dkwJ39_entrySet_0 : List UInt8 := [42, 180, 0, 81, 76, 43, 198, 0, 7, 43, 167, 0, 16, 42, 187, 0, 85, 89, 42, 183, 0, 87, 90]
abbrev dktJ39_entrySet_0 : List UInt8 := dkwJ39_entrySet_0 ++ dktJ39_entrySet_1
theorem dksJ39_entrySet_0 : cJ39_entrySet.data.toList.drop 0 = dktJ39_entrySet_0 := by decide +kernel
theorem dksJ39_entrySet_1 : cJ39_entrySet.data.toList.drop 23 = dktJ39_entrySet_1 := dk_seg dksJ39_entrySet_0 23 rfl rfl
theorem dJ39_entrySet_0 : decode cJ39_entrySet 0 = .ok (.aload_n 0, 1) := dk_42 (dk_at dksJ39_entrySet_0 0 rfl rfl)
theorem dJ39_entrySet_1 : decode cJ39_entrySet 1 = .ok (.getfield 81, 3) := dk_180 0 81 (dk_at dksJ39_entrySet_0 1 rfl rfl)
theorem dJ39_entrySet_4 : decode cJ39_entrySet 4 = .ok (.astore_n 1, 1) := dk_76 (dk_at dksJ39_entrySet_0 4 rfl rfl)
theorem dJ39_entrySet_5 : decode cJ39_entrySet 5 = .ok (.aload_n 1, 1) := dk_43 (dk_at dksJ39_entrySet_0 5 rfl rfl)
theorem dJ39_entrySet_6 : decode cJ39_entrySet 6 = .ok (.ifnull 7, 3) := dk_198 0 7 (dk_at dksJ39_entrySet_0 6 rfl rfl)
theorem dJ39_entrySet_9 : decode cJ39_entrySet 9 = .ok (.aload_n 1, 1) := dk_43 (dk_at dksJ39_entrySet_0 9 rfl rfl)
theorem dJ39_entrySet_10 : decode cJ39_entrySet 10 = .ok (.goto 16, 3) := dk_167 0 16 (dk_at dksJ39_entrySet_0 10 rfl rfl)
theorem dJ39_entrySet_13 : decode cJ39_entrySet 13 = .ok (.aload_n 0, 1) := dk_42 (dk_at dksJ39_entrySet_0 13 rfl rfl)
theorem dJ39_entrySet_14 : decode cJ39_entrySet 14 = .ok (.new 85, 3) := dk_187 0 85 (dk_at dksJ39_entrySet_0 14 rfl rfl)
theorem dJ39_entrySet_17 : decode cJ39_entrySet 17 = .ok (.dup, 1) := dk_89 (dk_at dksJ39_entrySet_0 17 rfl rfl)
theorem dJ39_entrySet_18 : decode cJ39_entrySet 18 = .ok (.aload_n 0, 1) := dk_42 (dk_at dksJ39_entrySet_0 18 rfl rfl)
theorem dJ39_entrySet_19 : decode cJ39_entrySet 19 = .ok (.invokespecial 87, 3) := dk_183 0 87 (dk_at dksJ39_entrySet_0 19 rfl rfl)
theorem dJ39_entrySet_22 : decode cJ39_entrySet 22 = .ok (.dup_x1, 1) := dk_90 (dk_at dksJ39_entrySet_0 22 rfl rfl)
theorem dJ39_entrySet_23 : decode cJ39_entrySet 23 = .ok (.putfield 81, 3) := dk_181 0 81 (dk_at dksJ39_entrySet_1 0 rfl rfl)
theorem dJ39_entrySet_26 : decode cJ39_entrySet 26 = .ok (.areturn, 1) := dk_176 (dk_at dksJ39_entrySet_1 3 rfl rfl)
def fJ39_entrySet_b26 (e : Nat → Nat) (N : Nat) (m : Mm) (s0 : Option Nat) : Rs (Option Nat) := rt_ s0 m
def fJ39_entrySet (e : Nat → Nat) (N : Nat) (m : Mm) (v0 : Option Nat) : Rs (Option Nat) := gr_ m v0 21 8 (fun x1 => if x1 = none then (nw_ m 22 4 (fun x2 m1 => bd_ (fJ41_init e N m1 (some x2) v0) (fun _ m2 => pr_ m2 v0 21 8 (some x2) (fun m3 => fJ39_entrySet_b26 e N m3 (some x2))))) else (fJ39_entrySet_b26 e N m x1))
abbrev cJ26_hasNext : ByteArray := prog_90_method_2_code
def yJ26_hasNext : MethodName := ⟨RJ26, "hasNext", "()Z"⟩
def dkwJ26_hasNext_1 : List UInt8 := [167, 0, 4, 3, 172]
abbrev dktJ26_hasNext_1 : List UInt8 := dkwJ26_hasNext_1 ++ []
def dkwJ26_hasNext_0 : List UInt8 := [42, 180, 0, 32, 198, 0, 21, 42, 180, 0, 32, 180, 0, 39, 42, 180, 0, 44, 165, 0, 7, 4]
abbrev dktJ26_hasNext_0 : List UInt8 := dkwJ26_hasNext_0 ++ dktJ26_hasNext_1
theorem dksJ26_hasNext_0 : cJ26_hasNext.data.toList.drop 0 = dktJ26_hasNext_0 := by decide +kernel
theorem dksJ26_hasNext_1 : cJ26_hasNext.data.toList.drop 22 = dktJ26_hasNext_1 := dk_seg dksJ26_hasNext_0 22 rfl rfl
theorem dJ26_hasNext_0 : decode cJ26_hasNext 0 = .ok (.aload_n 0, 1) := dk_42 (dk_at dksJ26_hasNext_0 0 rfl rfl)
theorem dJ26_hasNext_1 : decode cJ26_hasNext 1 = .ok (.getfield 32, 3) := dk_180 0 32 (dk_at dksJ26_hasNext_0 1 rfl rfl)
theorem dJ26_hasNext_4 : decode cJ26_hasNext 4 = .ok (.ifnull 21, 3) := dk_198 0 21 (dk_at dksJ26_hasNext_0 4 rfl rfl)
theorem dJ26_hasNext_7 : decode cJ26_hasNext 7 = .ok (.aload_n 0, 1) := dk_42 (dk_at dksJ26_hasNext_0 7 rfl rfl)
theorem dJ26_hasNext_8 : decode cJ26_hasNext 8 = .ok (.getfield 32, 3) := dk_180 0 32 (dk_at dksJ26_hasNext_0 8 rfl rfl)
theorem dJ26_hasNext_11 : decode cJ26_hasNext 11 = .ok (.getfield 39, 3) := dk_180 0 39 (dk_at dksJ26_hasNext_0 11 rfl rfl)
theorem dJ26_hasNext_14 : decode cJ26_hasNext 14 = .ok (.aload_n 0, 1) := dk_42 (dk_at dksJ26_hasNext_0 14 rfl rfl)
theorem dJ26_hasNext_15 : decode cJ26_hasNext 15 = .ok (.getfield 44, 3) := dk_180 0 44 (dk_at dksJ26_hasNext_0 15 rfl rfl)
theorem dJ26_hasNext_18 : decode cJ26_hasNext 18 = .ok (.if_acmp .eq 7, 3) := dk_165 0 7 (dk_at dksJ26_hasNext_0 18 rfl rfl)
theorem dJ26_hasNext_21 : decode cJ26_hasNext 21 = .ok (.iconst 1, 1) := dk_4 (dk_at dksJ26_hasNext_0 21 rfl rfl)
theorem dJ26_hasNext_22 : decode cJ26_hasNext 22 = .ok (.goto 4, 3) := dk_167 0 4 (dk_at dksJ26_hasNext_1 0 rfl rfl)
theorem dJ26_hasNext_25 : decode cJ26_hasNext 25 = .ok (.iconst 0, 1) := dk_3 (dk_at dksJ26_hasNext_1 3 rfl rfl)
theorem dJ26_hasNext_26 : decode cJ26_hasNext 26 = .ok (.ireturn, 1) := dk_172 (dk_at dksJ26_hasNext_1 4 rfl rfl)
def fJ26_hasNext_t23_b26 (e : Nat → Nat) (N : Nat) (m : Mm) (s0 : Int32) : Rs (Int32) := rz_ s0 s0 m
def fJ26_hasNext_t23_b25 (e : Nat → Nat) (N : Nat) (m : Mm) : Rs (Int32) := fJ26_hasNext_t23_b26 e N m 0
def fJ26_hasNext_t23 (e : Nat → Nat) (N : Nat) (m : Mm) (v0 : Option Nat) : Rs (Int32) := gr_ m v0 23 1 (fun x1 => if x1 = none then (fJ26_hasNext_t23_b25 e N m) else (gr_ m v0 23 1 (fun x2 => gr_ m x2 16 0 (fun x3 => gr_ m v0 23 2 (fun x4 => if x3 = x4 then (fJ26_hasNext_t23_b25 e N m) else (fJ26_hasNext_t23_b26 e N m 1))))))
abbrev cJ26_nextEntry : ByteArray := prog_90_method_3_code
def yJ26_nextEntry : MethodName := ⟨RJ26, "nextEntry", "()Ljava/util/TreeMap$Entry;"⟩
def dkwJ26_nextEntry_2 : List UInt8 := [89, 183, 0, 52, 191, 42, 43, 184, 0, 53, 181, 0, 32, 42, 43, 181, 0, 28, 43, 176]
abbrev dktJ26_nextEntry_2 : List UInt8 := dkwJ26_nextEntry_2 ++ []
def dkwJ26_nextEntry_1 : List UInt8 := [183, 0, 49, 191, 42, 180, 0, 1, 180, 0, 13, 180, 0, 19, 42, 180, 0, 25, 159, 0, 11, 187, 0, 50]
abbrev dktJ26_nextEntry_1 : List UInt8 := dkwJ26_nextEntry_1 ++ dktJ26_nextEntry_2
def dkwJ26_nextEntry_0 : List UInt8 := [42, 180, 0, 32, 76, 43, 198, 0, 14, 43, 180, 0, 39, 42, 180, 0, 44, 166, 0, 11, 187, 0, 47, 89]
abbrev dktJ26_nextEntry_0 : List UInt8 := dkwJ26_nextEntry_0 ++ dktJ26_nextEntry_1
theorem dksJ26_nextEntry_0 : cJ26_nextEntry.data.toList.drop 0 = dktJ26_nextEntry_0 := by decide +kernel
theorem dksJ26_nextEntry_1 : cJ26_nextEntry.data.toList.drop 24 = dktJ26_nextEntry_1 := dk_seg dksJ26_nextEntry_0 24 rfl rfl
theorem dksJ26_nextEntry_2 : cJ26_nextEntry.data.toList.drop 48 = dktJ26_nextEntry_2 := dk_seg dksJ26_nextEntry_1 24 rfl rfl
theorem dJ26_nextEntry_0 : decode cJ26_nextEntry 0 = .ok (.aload_n 0, 1) := dk_42 (dk_at dksJ26_nextEntry_0 0 rfl rfl)
theorem dJ26_nextEntry_1 : decode cJ26_nextEntry 1 = .ok (.getfield 32, 3) := dk_180 0 32 (dk_at dksJ26_nextEntry_0 1 rfl rfl)
theorem dJ26_nextEntry_4 : decode cJ26_nextEntry 4 = .ok (.astore_n 1, 1) := dk_76 (dk_at dksJ26_nextEntry_0 4 rfl rfl)
theorem dJ26_nextEntry_5 : decode cJ26_nextEntry 5 = .ok (.aload_n 1, 1) := dk_43 (dk_at dksJ26_nextEntry_0 5 rfl rfl)
theorem dJ26_nextEntry_6 : decode cJ26_nextEntry 6 = .ok (.ifnull 14, 3) := dk_198 0 14 (dk_at dksJ26_nextEntry_0 6 rfl rfl)
theorem dJ26_nextEntry_9 : decode cJ26_nextEntry 9 = .ok (.aload_n 1, 1) := dk_43 (dk_at dksJ26_nextEntry_0 9 rfl rfl)
theorem dJ26_nextEntry_10 : decode cJ26_nextEntry 10 = .ok (.getfield 39, 3) := dk_180 0 39 (dk_at dksJ26_nextEntry_0 10 rfl rfl)
theorem dJ26_nextEntry_13 : decode cJ26_nextEntry 13 = .ok (.aload_n 0, 1) := dk_42 (dk_at dksJ26_nextEntry_0 13 rfl rfl)
theorem dJ26_nextEntry_14 : decode cJ26_nextEntry 14 = .ok (.getfield 44, 3) := dk_180 0 44 (dk_at dksJ26_nextEntry_0 14 rfl rfl)
theorem dJ26_nextEntry_17 : decode cJ26_nextEntry 17 = .ok (.if_acmp .ne 11, 3) := dk_166 0 11 (dk_at dksJ26_nextEntry_0 17 rfl rfl)
theorem dJ26_nextEntry_20 : decode cJ26_nextEntry 20 = .ok (.new 47, 3) := dk_187 0 47 (dk_at dksJ26_nextEntry_0 20 rfl rfl)
theorem dJ26_nextEntry_23 : decode cJ26_nextEntry 23 = .ok (.dup, 1) := dk_89 (dk_at dksJ26_nextEntry_0 23 rfl rfl)
theorem dJ26_nextEntry_24 : decode cJ26_nextEntry 24 = .ok (.invokespecial 49, 3) := dk_183 0 49 (dk_at dksJ26_nextEntry_1 0 rfl rfl)
theorem dJ26_nextEntry_27 : decode cJ26_nextEntry 27 = .ok (.athrow, 1) := dk_191 (dk_at dksJ26_nextEntry_1 3 rfl rfl)
theorem dJ26_nextEntry_28 : decode cJ26_nextEntry 28 = .ok (.aload_n 0, 1) := dk_42 (dk_at dksJ26_nextEntry_1 4 rfl rfl)
theorem dJ26_nextEntry_29 : decode cJ26_nextEntry 29 = .ok (.getfield 1, 3) := dk_180 0 1 (dk_at dksJ26_nextEntry_1 5 rfl rfl)
theorem dJ26_nextEntry_32 : decode cJ26_nextEntry 32 = .ok (.getfield 13, 3) := dk_180 0 13 (dk_at dksJ26_nextEntry_1 8 rfl rfl)
theorem dJ26_nextEntry_35 : decode cJ26_nextEntry 35 = .ok (.getfield 19, 3) := dk_180 0 19 (dk_at dksJ26_nextEntry_1 11 rfl rfl)
theorem dJ26_nextEntry_38 : decode cJ26_nextEntry 38 = .ok (.aload_n 0, 1) := dk_42 (dk_at dksJ26_nextEntry_1 14 rfl rfl)
theorem dJ26_nextEntry_39 : decode cJ26_nextEntry 39 = .ok (.getfield 25, 3) := dk_180 0 25 (dk_at dksJ26_nextEntry_1 15 rfl rfl)
theorem dJ26_nextEntry_42 : decode cJ26_nextEntry 42 = .ok (.if_icmp .eq 11, 3) := dk_159 0 11 (dk_at dksJ26_nextEntry_1 18 rfl rfl)
theorem dJ26_nextEntry_45 : decode cJ26_nextEntry 45 = .ok (.new 50, 3) := dk_187 0 50 (dk_at dksJ26_nextEntry_1 21 rfl rfl)
theorem dJ26_nextEntry_48 : decode cJ26_nextEntry 48 = .ok (.dup, 1) := dk_89 (dk_at dksJ26_nextEntry_2 0 rfl rfl)
theorem dJ26_nextEntry_49 : decode cJ26_nextEntry 49 = .ok (.invokespecial 52, 3) := dk_183 0 52 (dk_at dksJ26_nextEntry_2 1 rfl rfl)
theorem dJ26_nextEntry_52 : decode cJ26_nextEntry 52 = .ok (.athrow, 1) := dk_191 (dk_at dksJ26_nextEntry_2 4 rfl rfl)
theorem dJ26_nextEntry_53 : decode cJ26_nextEntry 53 = .ok (.aload_n 0, 1) := dk_42 (dk_at dksJ26_nextEntry_2 5 rfl rfl)
theorem dJ26_nextEntry_54 : decode cJ26_nextEntry 54 = .ok (.aload_n 1, 1) := dk_43 (dk_at dksJ26_nextEntry_2 6 rfl rfl)
theorem dJ26_nextEntry_55 : decode cJ26_nextEntry 55 = .ok (.invokestatic 53, 3) := dk_184 0 53 (dk_at dksJ26_nextEntry_2 7 rfl rfl)
theorem dJ26_nextEntry_58 : decode cJ26_nextEntry 58 = .ok (.putfield 32, 3) := dk_181 0 32 (dk_at dksJ26_nextEntry_2 10 rfl rfl)
theorem dJ26_nextEntry_61 : decode cJ26_nextEntry 61 = .ok (.aload_n 0, 1) := dk_42 (dk_at dksJ26_nextEntry_2 13 rfl rfl)
theorem dJ26_nextEntry_62 : decode cJ26_nextEntry 62 = .ok (.aload_n 1, 1) := dk_43 (dk_at dksJ26_nextEntry_2 14 rfl rfl)
theorem dJ26_nextEntry_63 : decode cJ26_nextEntry 63 = .ok (.putfield 28, 3) := dk_181 0 28 (dk_at dksJ26_nextEntry_2 15 rfl rfl)
theorem dJ26_nextEntry_66 : decode cJ26_nextEntry 66 = .ok (.aload_n 1, 1) := dk_43 (dk_at dksJ26_nextEntry_2 18 rfl rfl)
theorem dJ26_nextEntry_67 : decode cJ26_nextEntry 67 = .ok (.areturn, 1) := dk_176 (dk_at dksJ26_nextEntry_2 19 rfl rfl)
def fJ26_nextEntry_t23_b20 (e : Nat → Nat) (N : Nat) (m : Mm) : Rs (Option Nat) := none
def fJ26_nextEntry_t23 (e : Nat → Nat) (N : Nat) (m : Mm) (v0 : Option Nat) : Rs (Option Nat) := gr_ m v0 23 1 (fun x1 => if x1 = none then (fJ26_nextEntry_t23_b20 e N m) else (gr_ m x1 16 0 (fun x2 => gr_ m v0 23 2 (fun x3 => if x2 = x3 then (fJ26_nextEntry_t23_b20 e N m) else (gr_ m v0 23 4 (fun x4 => gr_ m x4 21 0 (fun x5 => gi_ m x5 15 5 (fun x6 => gi_ m v0 23 3 (fun x7 => if x6 = x7 then (bd_ (fJ4_successor e N m x1) (fun x8 m1 => pr_ m1 v0 23 1 x8 (fun m2 => pr_ m2 v0 23 0 x1 (fun m3 => rt_ x1 m3)))) else (none))))))))))
abbrev cJ27_next_2 : ByteArray := prog_89_method_2_code
def yJ27_next_2 : MethodName := ⟨RJ27, "next", "()Ljava/util/Map$Entry;"⟩
theorem dJ27_next_2_0 : decode cJ27_next_2 0 = .ok (.aload_n 0, 1) := by decide +kernel
theorem dJ27_next_2_1 : decode cJ27_next_2 1 = .ok (.invokevirtual 7, 3) := by decide +kernel
theorem dJ27_next_2_4 : decode cJ27_next_2 4 = .ok (.areturn, 1) := by decide +kernel
def fJ27_next_2 (e : Nat → Nat) (N : Nat) (m : Mm) (v0 : Option Nat) : Rs (Option Nat) := ck_ m v0 23 (bd_ (fJ26_nextEntry_t23 e N m v0) (fun x1 m1 => rt_ x1 m1))
abbrev cJ27_next : ByteArray := prog_89_method_4_code
def yJ27_next : MethodName := ⟨RJ27, "next", "()Ljava/lang/Object;"⟩
theorem dJ27_next_0 : decode cJ27_next 0 = .ok (.aload_n 0, 1) := by decide +kernel
theorem dJ27_next_1 : decode cJ27_next 1 = .ok (.invokevirtual 17, 3) := by decide +kernel
theorem dJ27_next_4 : decode cJ27_next 4 = .ok (.areturn, 1) := by decide +kernel
def fJ27_next (e : Nat → Nat) (N : Nat) (m : Mm) (v0 : Option Nat) : Rs (Option Nat) := ck_ m v0 23 (bd_ (fJ27_next_2 e N m v0) (fun x1 m1 => rt_ x1 m1))
abbrev cJ4_fixAfterDeletion : ByteArray := prog_79_method_85_code
def yJ4_fixAfterDeletion : MethodName := ⟨RJ4, "fixAfterDeletion", "(Ljava/util/TreeMap$Entry;)V"⟩
def dkwJ4_fixAfterDeletion_14 : List UInt8 := [182, 1, 58, 42, 180, 0, 101, 76, 167, 254, 170, 43, 4, 184, 1, 51, 177]
abbrev dktJ4_fixAfterDeletion_14 : List UInt8 := dkwJ4_fixAfterDeletion_14 ++ []
def dkwJ4_fixAfterDeletion_13 : List UInt8 := [184, 1, 51, 43, 184, 1, 38, 4, 184, 1, 51, 44, 184, 1, 41, 4, 184, 1, 51, 42, 43, 184, 1, 38]
abbrev dktJ4_fixAfterDeletion_13 : List UInt8 := dkwJ4_fixAfterDeletion_13 ++ dktJ4_fixAfterDeletion_14
def dkwJ4_fixAfterDeletion_12 : List UInt8 := [184, 1, 51, 42, 44, 182, 1, 55, 43, 184, 1, 38, 184, 1, 41, 77, 44, 43, 184, 1, 38, 184, 1, 47]
abbrev dktJ4_fixAfterDeletion_12 : List UInt8 := dkwJ4_fixAfterDeletion_12 ++ dktJ4_fixAfterDeletion_13
def dkwJ4_fixAfterDeletion_11 : List UInt8 := [167, 0, 80, 44, 184, 1, 41, 184, 1, 47, 4, 160, 0, 29, 44, 184, 1, 44, 4, 184, 1, 51, 44, 3]
abbrev dktJ4_fixAfterDeletion_11 : List UInt8 := dkwJ4_fixAfterDeletion_11 ++ dktJ4_fixAfterDeletion_12
def dkwJ4_fixAfterDeletion_10 : List UInt8 := [160, 0, 27, 44, 184, 1, 41, 184, 1, 47, 4, 160, 0, 16, 44, 3, 184, 1, 51, 43, 184, 1, 38, 76]
abbrev dktJ4_fixAfterDeletion_10 : List UInt8 := dkwJ4_fixAfterDeletion_10 ++ dktJ4_fixAfterDeletion_11
def dkwJ4_fixAfterDeletion_9 : List UInt8 := [42, 43, 184, 1, 38, 182, 1, 58, 43, 184, 1, 38, 184, 1, 41, 77, 44, 184, 1, 44, 184, 1, 47, 4]
abbrev dktJ4_fixAfterDeletion_9 : List UInt8 := dkwJ4_fixAfterDeletion_9 ++ dktJ4_fixAfterDeletion_10
def dkwJ4_fixAfterDeletion_8 : List UInt8 := [184, 1, 41, 77, 44, 184, 1, 47, 154, 0, 32, 44, 4, 184, 1, 51, 43, 184, 1, 38, 3, 184, 1, 51]
abbrev dktJ4_fixAfterDeletion_8 : List UInt8 := dkwJ4_fixAfterDeletion_8 ++ dktJ4_fixAfterDeletion_9
def dkwJ4_fixAfterDeletion_7 : List UInt8 := [4, 184, 1, 51, 42, 43, 184, 1, 38, 182, 1, 55, 42, 180, 0, 101, 76, 167, 255, 73, 43, 184, 1, 38]
abbrev dktJ4_fixAfterDeletion_7 : List UInt8 := dkwJ4_fixAfterDeletion_7 ++ dktJ4_fixAfterDeletion_8
def dkwJ4_fixAfterDeletion_6 : List UInt8 := [77, 44, 43, 184, 1, 38, 184, 1, 47, 184, 1, 51, 43, 184, 1, 38, 4, 184, 1, 51, 44, 184, 1, 44]
abbrev dktJ4_fixAfterDeletion_6 : List UInt8 := dkwJ4_fixAfterDeletion_6 ++ dktJ4_fixAfterDeletion_7
def dkwJ4_fixAfterDeletion_5 : List UInt8 := [184, 1, 41, 4, 184, 1, 51, 44, 3, 184, 1, 51, 42, 44, 182, 1, 58, 43, 184, 1, 38, 184, 1, 44]
abbrev dktJ4_fixAfterDeletion_5 : List UInt8 := dkwJ4_fixAfterDeletion_5 ++ dktJ4_fixAfterDeletion_6
def dkwJ4_fixAfterDeletion_4 : List UInt8 := [184, 1, 51, 43, 184, 1, 38, 76, 167, 0, 80, 44, 184, 1, 44, 184, 1, 47, 4, 160, 0, 29, 44]
abbrev dktJ4_fixAfterDeletion_4 : List UInt8 := dkwJ4_fixAfterDeletion_4 ++ dktJ4_fixAfterDeletion_5
def dkwJ4_fixAfterDeletion_3 : List UInt8 := [184, 1, 41, 184, 1, 47, 4, 160, 0, 27, 44, 184, 1, 44, 184, 1, 47, 4, 160, 0, 16, 44, 3]
abbrev dktJ4_fixAfterDeletion_3 : List UInt8 := dkwJ4_fixAfterDeletion_3 ++ dktJ4_fixAfterDeletion_4
def dkwJ4_fixAfterDeletion_2 : List UInt8 := [184, 1, 38, 3, 184, 1, 51, 42, 43, 184, 1, 38, 182, 1, 55, 43, 184, 1, 38, 184, 1, 44, 77, 44]
abbrev dktJ4_fixAfterDeletion_2 : List UInt8 := dkwJ4_fixAfterDeletion_2 ++ dktJ4_fixAfterDeletion_3
def dkwJ4_fixAfterDeletion_1 : List UInt8 := [166, 0, 162, 43, 184, 1, 38, 184, 1, 44, 77, 44, 184, 1, 47, 154, 0, 32, 44, 4, 184, 1, 51, 43]
abbrev dktJ4_fixAfterDeletion_1 : List UInt8 := dkwJ4_fixAfterDeletion_1 ++ dktJ4_fixAfterDeletion_2
def dkwJ4_fixAfterDeletion_0 : List UInt8 := [43, 42, 180, 0, 101, 165, 1, 84, 43, 184, 1, 47, 4, 160, 1, 76, 43, 43, 184, 1, 38, 184, 1, 41]
abbrev dktJ4_fixAfterDeletion_0 : List UInt8 := dkwJ4_fixAfterDeletion_0 ++ dktJ4_fixAfterDeletion_1
theorem dksJ4_fixAfterDeletion_0 : cJ4_fixAfterDeletion.data.toList.drop 0 = dktJ4_fixAfterDeletion_0 := by decide +kernel
theorem dksJ4_fixAfterDeletion_1 : cJ4_fixAfterDeletion.data.toList.drop 24 = dktJ4_fixAfterDeletion_1 := dk_seg dksJ4_fixAfterDeletion_0 24 rfl rfl
theorem dksJ4_fixAfterDeletion_2 : cJ4_fixAfterDeletion.data.toList.drop 48 = dktJ4_fixAfterDeletion_2 := dk_seg dksJ4_fixAfterDeletion_1 24 rfl rfl
theorem dksJ4_fixAfterDeletion_3 : cJ4_fixAfterDeletion.data.toList.drop 72 = dktJ4_fixAfterDeletion_3 := dk_seg dksJ4_fixAfterDeletion_2 24 rfl rfl
theorem dksJ4_fixAfterDeletion_4 : cJ4_fixAfterDeletion.data.toList.drop 95 = dktJ4_fixAfterDeletion_4 := dk_seg dksJ4_fixAfterDeletion_3 23 rfl rfl
theorem dksJ4_fixAfterDeletion_5 : cJ4_fixAfterDeletion.data.toList.drop 118 = dktJ4_fixAfterDeletion_5 := dk_seg dksJ4_fixAfterDeletion_4 23 rfl rfl
theorem dksJ4_fixAfterDeletion_6 : cJ4_fixAfterDeletion.data.toList.drop 142 = dktJ4_fixAfterDeletion_6 := dk_seg dksJ4_fixAfterDeletion_5 24 rfl rfl
theorem dksJ4_fixAfterDeletion_7 : cJ4_fixAfterDeletion.data.toList.drop 166 = dktJ4_fixAfterDeletion_7 := dk_seg dksJ4_fixAfterDeletion_6 24 rfl rfl
theorem dksJ4_fixAfterDeletion_8 : cJ4_fixAfterDeletion.data.toList.drop 190 = dktJ4_fixAfterDeletion_8 := dk_seg dksJ4_fixAfterDeletion_7 24 rfl rfl
theorem dksJ4_fixAfterDeletion_9 : cJ4_fixAfterDeletion.data.toList.drop 214 = dktJ4_fixAfterDeletion_9 := dk_seg dksJ4_fixAfterDeletion_8 24 rfl rfl
theorem dksJ4_fixAfterDeletion_10 : cJ4_fixAfterDeletion.data.toList.drop 238 = dktJ4_fixAfterDeletion_10 := dk_seg dksJ4_fixAfterDeletion_9 24 rfl rfl
theorem dksJ4_fixAfterDeletion_11 : cJ4_fixAfterDeletion.data.toList.drop 262 = dktJ4_fixAfterDeletion_11 := dk_seg dksJ4_fixAfterDeletion_10 24 rfl rfl
theorem dksJ4_fixAfterDeletion_12 : cJ4_fixAfterDeletion.data.toList.drop 286 = dktJ4_fixAfterDeletion_12 := dk_seg dksJ4_fixAfterDeletion_11 24 rfl rfl
theorem dksJ4_fixAfterDeletion_13 : cJ4_fixAfterDeletion.data.toList.drop 310 = dktJ4_fixAfterDeletion_13 := dk_seg dksJ4_fixAfterDeletion_12 24 rfl rfl
theorem dksJ4_fixAfterDeletion_14 : cJ4_fixAfterDeletion.data.toList.drop 334 = dktJ4_fixAfterDeletion_14 := dk_seg dksJ4_fixAfterDeletion_13 24 rfl rfl
theorem dJ4_fixAfterDeletion_0 : decode cJ4_fixAfterDeletion 0 = .ok (.aload_n 1, 1) := dk_43 (dk_at dksJ4_fixAfterDeletion_0 0 rfl rfl)
theorem dJ4_fixAfterDeletion_1 : decode cJ4_fixAfterDeletion 1 = .ok (.aload_n 0, 1) := dk_42 (dk_at dksJ4_fixAfterDeletion_0 1 rfl rfl)
theorem dJ4_fixAfterDeletion_2 : decode cJ4_fixAfterDeletion 2 = .ok (.getfield 101, 3) := dk_180 0 101 (dk_at dksJ4_fixAfterDeletion_0 2 rfl rfl)
theorem dJ4_fixAfterDeletion_5 : decode cJ4_fixAfterDeletion 5 = .ok (.if_acmp .eq 340, 3) := dk_165 1 84 (dk_at dksJ4_fixAfterDeletion_0 5 rfl rfl)
theorem dJ4_fixAfterDeletion_8 : decode cJ4_fixAfterDeletion 8 = .ok (.aload_n 1, 1) := dk_43 (dk_at dksJ4_fixAfterDeletion_0 8 rfl rfl)
theorem dJ4_fixAfterDeletion_9 : decode cJ4_fixAfterDeletion 9 = .ok (.invokestatic 303, 3) := dk_184 1 47 (dk_at dksJ4_fixAfterDeletion_0 9 rfl rfl)
theorem dJ4_fixAfterDeletion_12 : decode cJ4_fixAfterDeletion 12 = .ok (.iconst 1, 1) := dk_4 (dk_at dksJ4_fixAfterDeletion_0 12 rfl rfl)
theorem dJ4_fixAfterDeletion_13 : decode cJ4_fixAfterDeletion 13 = .ok (.if_icmp .ne 332, 3) := dk_160 1 76 (dk_at dksJ4_fixAfterDeletion_0 13 rfl rfl)
theorem dJ4_fixAfterDeletion_16 : decode cJ4_fixAfterDeletion 16 = .ok (.aload_n 1, 1) := dk_43 (dk_at dksJ4_fixAfterDeletion_0 16 rfl rfl)
theorem dJ4_fixAfterDeletion_17 : decode cJ4_fixAfterDeletion 17 = .ok (.aload_n 1, 1) := dk_43 (dk_at dksJ4_fixAfterDeletion_0 17 rfl rfl)
theorem dJ4_fixAfterDeletion_18 : decode cJ4_fixAfterDeletion 18 = .ok (.invokestatic 294, 3) := dk_184 1 38 (dk_at dksJ4_fixAfterDeletion_0 18 rfl rfl)
theorem dJ4_fixAfterDeletion_21 : decode cJ4_fixAfterDeletion 21 = .ok (.invokestatic 297, 3) := dk_184 1 41 (dk_at dksJ4_fixAfterDeletion_0 21 rfl rfl)
theorem dJ4_fixAfterDeletion_24 : decode cJ4_fixAfterDeletion 24 = .ok (.if_acmp .ne 162, 3) := dk_166 0 162 (dk_at dksJ4_fixAfterDeletion_1 0 rfl rfl)
theorem dJ4_fixAfterDeletion_27 : decode cJ4_fixAfterDeletion 27 = .ok (.aload_n 1, 1) := dk_43 (dk_at dksJ4_fixAfterDeletion_1 3 rfl rfl)
theorem dJ4_fixAfterDeletion_28 : decode cJ4_fixAfterDeletion 28 = .ok (.invokestatic 294, 3) := dk_184 1 38 (dk_at dksJ4_fixAfterDeletion_1 4 rfl rfl)
theorem dJ4_fixAfterDeletion_31 : decode cJ4_fixAfterDeletion 31 = .ok (.invokestatic 300, 3) := dk_184 1 44 (dk_at dksJ4_fixAfterDeletion_1 7 rfl rfl)
theorem dJ4_fixAfterDeletion_34 : decode cJ4_fixAfterDeletion 34 = .ok (.astore_n 2, 1) := dk_77 (dk_at dksJ4_fixAfterDeletion_1 10 rfl rfl)
theorem dJ4_fixAfterDeletion_35 : decode cJ4_fixAfterDeletion 35 = .ok (.aload_n 2, 1) := dk_44 (dk_at dksJ4_fixAfterDeletion_1 11 rfl rfl)
theorem dJ4_fixAfterDeletion_36 : decode cJ4_fixAfterDeletion 36 = .ok (.invokestatic 303, 3) := dk_184 1 47 (dk_at dksJ4_fixAfterDeletion_1 12 rfl rfl)
theorem dJ4_fixAfterDeletion_39 : decode cJ4_fixAfterDeletion 39 = .ok (.ifCond .ne 32, 3) := dk_154 0 32 (dk_at dksJ4_fixAfterDeletion_1 15 rfl rfl)
theorem dJ4_fixAfterDeletion_42 : decode cJ4_fixAfterDeletion 42 = .ok (.aload_n 2, 1) := dk_44 (dk_at dksJ4_fixAfterDeletion_1 18 rfl rfl)
theorem dJ4_fixAfterDeletion_43 : decode cJ4_fixAfterDeletion 43 = .ok (.iconst 1, 1) := dk_4 (dk_at dksJ4_fixAfterDeletion_1 19 rfl rfl)
theorem dJ4_fixAfterDeletion_44 : decode cJ4_fixAfterDeletion 44 = .ok (.invokestatic 307, 3) := dk_184 1 51 (dk_at dksJ4_fixAfterDeletion_1 20 rfl rfl)
theorem dJ4_fixAfterDeletion_47 : decode cJ4_fixAfterDeletion 47 = .ok (.aload_n 1, 1) := dk_43 (dk_at dksJ4_fixAfterDeletion_1 23 rfl rfl)
theorem dJ4_fixAfterDeletion_48 : decode cJ4_fixAfterDeletion 48 = .ok (.invokestatic 294, 3) := dk_184 1 38 (dk_at dksJ4_fixAfterDeletion_2 0 rfl rfl)
theorem dJ4_fixAfterDeletion_51 : decode cJ4_fixAfterDeletion 51 = .ok (.iconst 0, 1) := dk_3 (dk_at dksJ4_fixAfterDeletion_2 3 rfl rfl)
theorem dJ4_fixAfterDeletion_52 : decode cJ4_fixAfterDeletion 52 = .ok (.invokestatic 307, 3) := dk_184 1 51 (dk_at dksJ4_fixAfterDeletion_2 4 rfl rfl)
theorem dJ4_fixAfterDeletion_55 : decode cJ4_fixAfterDeletion 55 = .ok (.aload_n 0, 1) := dk_42 (dk_at dksJ4_fixAfterDeletion_2 7 rfl rfl)
theorem dJ4_fixAfterDeletion_56 : decode cJ4_fixAfterDeletion 56 = .ok (.aload_n 1, 1) := dk_43 (dk_at dksJ4_fixAfterDeletion_2 8 rfl rfl)
theorem dJ4_fixAfterDeletion_57 : decode cJ4_fixAfterDeletion 57 = .ok (.invokestatic 294, 3) := dk_184 1 38 (dk_at dksJ4_fixAfterDeletion_2 9 rfl rfl)
theorem dJ4_fixAfterDeletion_60 : decode cJ4_fixAfterDeletion 60 = .ok (.invokevirtual 311, 3) := dk_182 1 55 (dk_at dksJ4_fixAfterDeletion_2 12 rfl rfl)
theorem dJ4_fixAfterDeletion_63 : decode cJ4_fixAfterDeletion 63 = .ok (.aload_n 1, 1) := dk_43 (dk_at dksJ4_fixAfterDeletion_2 15 rfl rfl)
theorem dJ4_fixAfterDeletion_64 : decode cJ4_fixAfterDeletion 64 = .ok (.invokestatic 294, 3) := dk_184 1 38 (dk_at dksJ4_fixAfterDeletion_2 16 rfl rfl)
theorem dJ4_fixAfterDeletion_67 : decode cJ4_fixAfterDeletion 67 = .ok (.invokestatic 300, 3) := dk_184 1 44 (dk_at dksJ4_fixAfterDeletion_2 19 rfl rfl)
theorem dJ4_fixAfterDeletion_70 : decode cJ4_fixAfterDeletion 70 = .ok (.astore_n 2, 1) := dk_77 (dk_at dksJ4_fixAfterDeletion_2 22 rfl rfl)
theorem dJ4_fixAfterDeletion_71 : decode cJ4_fixAfterDeletion 71 = .ok (.aload_n 2, 1) := dk_44 (dk_at dksJ4_fixAfterDeletion_2 23 rfl rfl)
theorem dJ4_fixAfterDeletion_72 : decode cJ4_fixAfterDeletion 72 = .ok (.invokestatic 297, 3) := dk_184 1 41 (dk_at dksJ4_fixAfterDeletion_3 0 rfl rfl)
theorem dJ4_fixAfterDeletion_75 : decode cJ4_fixAfterDeletion 75 = .ok (.invokestatic 303, 3) := dk_184 1 47 (dk_at dksJ4_fixAfterDeletion_3 3 rfl rfl)
theorem dJ4_fixAfterDeletion_78 : decode cJ4_fixAfterDeletion 78 = .ok (.iconst 1, 1) := dk_4 (dk_at dksJ4_fixAfterDeletion_3 6 rfl rfl)
theorem dJ4_fixAfterDeletion_79 : decode cJ4_fixAfterDeletion 79 = .ok (.if_icmp .ne 27, 3) := dk_160 0 27 (dk_at dksJ4_fixAfterDeletion_3 7 rfl rfl)
theorem dJ4_fixAfterDeletion_82 : decode cJ4_fixAfterDeletion 82 = .ok (.aload_n 2, 1) := dk_44 (dk_at dksJ4_fixAfterDeletion_3 10 rfl rfl)
theorem dJ4_fixAfterDeletion_83 : decode cJ4_fixAfterDeletion 83 = .ok (.invokestatic 300, 3) := dk_184 1 44 (dk_at dksJ4_fixAfterDeletion_3 11 rfl rfl)
theorem dJ4_fixAfterDeletion_86 : decode cJ4_fixAfterDeletion 86 = .ok (.invokestatic 303, 3) := dk_184 1 47 (dk_at dksJ4_fixAfterDeletion_3 14 rfl rfl)
theorem dJ4_fixAfterDeletion_89 : decode cJ4_fixAfterDeletion 89 = .ok (.iconst 1, 1) := dk_4 (dk_at dksJ4_fixAfterDeletion_3 17 rfl rfl)
theorem dJ4_fixAfterDeletion_90 : decode cJ4_fixAfterDeletion 90 = .ok (.if_icmp .ne 16, 3) := dk_160 0 16 (dk_at dksJ4_fixAfterDeletion_3 18 rfl rfl)
theorem dJ4_fixAfterDeletion_93 : decode cJ4_fixAfterDeletion 93 = .ok (.aload_n 2, 1) := dk_44 (dk_at dksJ4_fixAfterDeletion_3 21 rfl rfl)
theorem dJ4_fixAfterDeletion_94 : decode cJ4_fixAfterDeletion 94 = .ok (.iconst 0, 1) := dk_3 (dk_at dksJ4_fixAfterDeletion_3 22 rfl rfl)
theorem dJ4_fixAfterDeletion_95 : decode cJ4_fixAfterDeletion 95 = .ok (.invokestatic 307, 3) := dk_184 1 51 (dk_at dksJ4_fixAfterDeletion_4 0 rfl rfl)
theorem dJ4_fixAfterDeletion_98 : decode cJ4_fixAfterDeletion 98 = .ok (.aload_n 1, 1) := dk_43 (dk_at dksJ4_fixAfterDeletion_4 3 rfl rfl)
theorem dJ4_fixAfterDeletion_99 : decode cJ4_fixAfterDeletion 99 = .ok (.invokestatic 294, 3) := dk_184 1 38 (dk_at dksJ4_fixAfterDeletion_4 4 rfl rfl)
theorem dJ4_fixAfterDeletion_102 : decode cJ4_fixAfterDeletion 102 = .ok (.astore_n 1, 1) := dk_76 (dk_at dksJ4_fixAfterDeletion_4 7 rfl rfl)
theorem dJ4_fixAfterDeletion_103 : decode cJ4_fixAfterDeletion 103 = .ok (.goto 80, 3) := dk_167 0 80 (dk_at dksJ4_fixAfterDeletion_4 8 rfl rfl)
theorem dJ4_fixAfterDeletion_106 : decode cJ4_fixAfterDeletion 106 = .ok (.aload_n 2, 1) := dk_44 (dk_at dksJ4_fixAfterDeletion_4 11 rfl rfl)
theorem dJ4_fixAfterDeletion_107 : decode cJ4_fixAfterDeletion 107 = .ok (.invokestatic 300, 3) := dk_184 1 44 (dk_at dksJ4_fixAfterDeletion_4 12 rfl rfl)
theorem dJ4_fixAfterDeletion_110 : decode cJ4_fixAfterDeletion 110 = .ok (.invokestatic 303, 3) := dk_184 1 47 (dk_at dksJ4_fixAfterDeletion_4 15 rfl rfl)
theorem dJ4_fixAfterDeletion_113 : decode cJ4_fixAfterDeletion 113 = .ok (.iconst 1, 1) := dk_4 (dk_at dksJ4_fixAfterDeletion_4 18 rfl rfl)
theorem dJ4_fixAfterDeletion_114 : decode cJ4_fixAfterDeletion 114 = .ok (.if_icmp .ne 29, 3) := dk_160 0 29 (dk_at dksJ4_fixAfterDeletion_4 19 rfl rfl)
theorem dJ4_fixAfterDeletion_117 : decode cJ4_fixAfterDeletion 117 = .ok (.aload_n 2, 1) := dk_44 (dk_at dksJ4_fixAfterDeletion_4 22 rfl rfl)
theorem dJ4_fixAfterDeletion_118 : decode cJ4_fixAfterDeletion 118 = .ok (.invokestatic 297, 3) := dk_184 1 41 (dk_at dksJ4_fixAfterDeletion_5 0 rfl rfl)
theorem dJ4_fixAfterDeletion_121 : decode cJ4_fixAfterDeletion 121 = .ok (.iconst 1, 1) := dk_4 (dk_at dksJ4_fixAfterDeletion_5 3 rfl rfl)
theorem dJ4_fixAfterDeletion_122 : decode cJ4_fixAfterDeletion 122 = .ok (.invokestatic 307, 3) := dk_184 1 51 (dk_at dksJ4_fixAfterDeletion_5 4 rfl rfl)
theorem dJ4_fixAfterDeletion_125 : decode cJ4_fixAfterDeletion 125 = .ok (.aload_n 2, 1) := dk_44 (dk_at dksJ4_fixAfterDeletion_5 7 rfl rfl)
theorem dJ4_fixAfterDeletion_126 : decode cJ4_fixAfterDeletion 126 = .ok (.iconst 0, 1) := dk_3 (dk_at dksJ4_fixAfterDeletion_5 8 rfl rfl)
theorem dJ4_fixAfterDeletion_127 : decode cJ4_fixAfterDeletion 127 = .ok (.invokestatic 307, 3) := dk_184 1 51 (dk_at dksJ4_fixAfterDeletion_5 9 rfl rfl)
theorem dJ4_fixAfterDeletion_130 : decode cJ4_fixAfterDeletion 130 = .ok (.aload_n 0, 1) := dk_42 (dk_at dksJ4_fixAfterDeletion_5 12 rfl rfl)
theorem dJ4_fixAfterDeletion_131 : decode cJ4_fixAfterDeletion 131 = .ok (.aload_n 2, 1) := dk_44 (dk_at dksJ4_fixAfterDeletion_5 13 rfl rfl)
theorem dJ4_fixAfterDeletion_132 : decode cJ4_fixAfterDeletion 132 = .ok (.invokevirtual 314, 3) := dk_182 1 58 (dk_at dksJ4_fixAfterDeletion_5 14 rfl rfl)
theorem dJ4_fixAfterDeletion_135 : decode cJ4_fixAfterDeletion 135 = .ok (.aload_n 1, 1) := dk_43 (dk_at dksJ4_fixAfterDeletion_5 17 rfl rfl)
theorem dJ4_fixAfterDeletion_136 : decode cJ4_fixAfterDeletion 136 = .ok (.invokestatic 294, 3) := dk_184 1 38 (dk_at dksJ4_fixAfterDeletion_5 18 rfl rfl)
theorem dJ4_fixAfterDeletion_139 : decode cJ4_fixAfterDeletion 139 = .ok (.invokestatic 300, 3) := dk_184 1 44 (dk_at dksJ4_fixAfterDeletion_5 21 rfl rfl)
theorem dJ4_fixAfterDeletion_142 : decode cJ4_fixAfterDeletion 142 = .ok (.astore_n 2, 1) := dk_77 (dk_at dksJ4_fixAfterDeletion_6 0 rfl rfl)
theorem dJ4_fixAfterDeletion_143 : decode cJ4_fixAfterDeletion 143 = .ok (.aload_n 2, 1) := dk_44 (dk_at dksJ4_fixAfterDeletion_6 1 rfl rfl)
theorem dJ4_fixAfterDeletion_144 : decode cJ4_fixAfterDeletion 144 = .ok (.aload_n 1, 1) := dk_43 (dk_at dksJ4_fixAfterDeletion_6 2 rfl rfl)
theorem dJ4_fixAfterDeletion_145 : decode cJ4_fixAfterDeletion 145 = .ok (.invokestatic 294, 3) := dk_184 1 38 (dk_at dksJ4_fixAfterDeletion_6 3 rfl rfl)
theorem dJ4_fixAfterDeletion_148 : decode cJ4_fixAfterDeletion 148 = .ok (.invokestatic 303, 3) := dk_184 1 47 (dk_at dksJ4_fixAfterDeletion_6 6 rfl rfl)
theorem dJ4_fixAfterDeletion_151 : decode cJ4_fixAfterDeletion 151 = .ok (.invokestatic 307, 3) := dk_184 1 51 (dk_at dksJ4_fixAfterDeletion_6 9 rfl rfl)
theorem dJ4_fixAfterDeletion_154 : decode cJ4_fixAfterDeletion 154 = .ok (.aload_n 1, 1) := dk_43 (dk_at dksJ4_fixAfterDeletion_6 12 rfl rfl)
theorem dJ4_fixAfterDeletion_155 : decode cJ4_fixAfterDeletion 155 = .ok (.invokestatic 294, 3) := dk_184 1 38 (dk_at dksJ4_fixAfterDeletion_6 13 rfl rfl)
theorem dJ4_fixAfterDeletion_158 : decode cJ4_fixAfterDeletion 158 = .ok (.iconst 1, 1) := dk_4 (dk_at dksJ4_fixAfterDeletion_6 16 rfl rfl)
theorem dJ4_fixAfterDeletion_159 : decode cJ4_fixAfterDeletion 159 = .ok (.invokestatic 307, 3) := dk_184 1 51 (dk_at dksJ4_fixAfterDeletion_6 17 rfl rfl)
theorem dJ4_fixAfterDeletion_162 : decode cJ4_fixAfterDeletion 162 = .ok (.aload_n 2, 1) := dk_44 (dk_at dksJ4_fixAfterDeletion_6 20 rfl rfl)
theorem dJ4_fixAfterDeletion_163 : decode cJ4_fixAfterDeletion 163 = .ok (.invokestatic 300, 3) := dk_184 1 44 (dk_at dksJ4_fixAfterDeletion_6 21 rfl rfl)
theorem dJ4_fixAfterDeletion_166 : decode cJ4_fixAfterDeletion 166 = .ok (.iconst 1, 1) := dk_4 (dk_at dksJ4_fixAfterDeletion_7 0 rfl rfl)
theorem dJ4_fixAfterDeletion_167 : decode cJ4_fixAfterDeletion 167 = .ok (.invokestatic 307, 3) := dk_184 1 51 (dk_at dksJ4_fixAfterDeletion_7 1 rfl rfl)
theorem dJ4_fixAfterDeletion_170 : decode cJ4_fixAfterDeletion 170 = .ok (.aload_n 0, 1) := dk_42 (dk_at dksJ4_fixAfterDeletion_7 4 rfl rfl)
theorem dJ4_fixAfterDeletion_171 : decode cJ4_fixAfterDeletion 171 = .ok (.aload_n 1, 1) := dk_43 (dk_at dksJ4_fixAfterDeletion_7 5 rfl rfl)
theorem dJ4_fixAfterDeletion_172 : decode cJ4_fixAfterDeletion 172 = .ok (.invokestatic 294, 3) := dk_184 1 38 (dk_at dksJ4_fixAfterDeletion_7 6 rfl rfl)
theorem dJ4_fixAfterDeletion_175 : decode cJ4_fixAfterDeletion 175 = .ok (.invokevirtual 311, 3) := dk_182 1 55 (dk_at dksJ4_fixAfterDeletion_7 9 rfl rfl)
theorem dJ4_fixAfterDeletion_178 : decode cJ4_fixAfterDeletion 178 = .ok (.aload_n 0, 1) := dk_42 (dk_at dksJ4_fixAfterDeletion_7 12 rfl rfl)
theorem dJ4_fixAfterDeletion_179 : decode cJ4_fixAfterDeletion 179 = .ok (.getfield 101, 3) := dk_180 0 101 (dk_at dksJ4_fixAfterDeletion_7 13 rfl rfl)
theorem dJ4_fixAfterDeletion_182 : decode cJ4_fixAfterDeletion 182 = .ok (.astore_n 1, 1) := dk_76 (dk_at dksJ4_fixAfterDeletion_7 16 rfl rfl)
theorem dJ4_fixAfterDeletion_183 : decode cJ4_fixAfterDeletion 183 = .ok (.goto (-183), 3) := dk_167 255 73 (dk_at dksJ4_fixAfterDeletion_7 17 rfl rfl)
theorem dJ4_fixAfterDeletion_186 : decode cJ4_fixAfterDeletion 186 = .ok (.aload_n 1, 1) := dk_43 (dk_at dksJ4_fixAfterDeletion_7 20 rfl rfl)
theorem dJ4_fixAfterDeletion_187 : decode cJ4_fixAfterDeletion 187 = .ok (.invokestatic 294, 3) := dk_184 1 38 (dk_at dksJ4_fixAfterDeletion_7 21 rfl rfl)
theorem dJ4_fixAfterDeletion_190 : decode cJ4_fixAfterDeletion 190 = .ok (.invokestatic 297, 3) := dk_184 1 41 (dk_at dksJ4_fixAfterDeletion_8 0 rfl rfl)
theorem dJ4_fixAfterDeletion_193 : decode cJ4_fixAfterDeletion 193 = .ok (.astore_n 2, 1) := dk_77 (dk_at dksJ4_fixAfterDeletion_8 3 rfl rfl)
theorem dJ4_fixAfterDeletion_194 : decode cJ4_fixAfterDeletion 194 = .ok (.aload_n 2, 1) := dk_44 (dk_at dksJ4_fixAfterDeletion_8 4 rfl rfl)
theorem dJ4_fixAfterDeletion_195 : decode cJ4_fixAfterDeletion 195 = .ok (.invokestatic 303, 3) := dk_184 1 47 (dk_at dksJ4_fixAfterDeletion_8 5 rfl rfl)
theorem dJ4_fixAfterDeletion_198 : decode cJ4_fixAfterDeletion 198 = .ok (.ifCond .ne 32, 3) := dk_154 0 32 (dk_at dksJ4_fixAfterDeletion_8 8 rfl rfl)
theorem dJ4_fixAfterDeletion_201 : decode cJ4_fixAfterDeletion 201 = .ok (.aload_n 2, 1) := dk_44 (dk_at dksJ4_fixAfterDeletion_8 11 rfl rfl)
theorem dJ4_fixAfterDeletion_202 : decode cJ4_fixAfterDeletion 202 = .ok (.iconst 1, 1) := dk_4 (dk_at dksJ4_fixAfterDeletion_8 12 rfl rfl)
theorem dJ4_fixAfterDeletion_203 : decode cJ4_fixAfterDeletion 203 = .ok (.invokestatic 307, 3) := dk_184 1 51 (dk_at dksJ4_fixAfterDeletion_8 13 rfl rfl)
theorem dJ4_fixAfterDeletion_206 : decode cJ4_fixAfterDeletion 206 = .ok (.aload_n 1, 1) := dk_43 (dk_at dksJ4_fixAfterDeletion_8 16 rfl rfl)
theorem dJ4_fixAfterDeletion_207 : decode cJ4_fixAfterDeletion 207 = .ok (.invokestatic 294, 3) := dk_184 1 38 (dk_at dksJ4_fixAfterDeletion_8 17 rfl rfl)
theorem dJ4_fixAfterDeletion_210 : decode cJ4_fixAfterDeletion 210 = .ok (.iconst 0, 1) := dk_3 (dk_at dksJ4_fixAfterDeletion_8 20 rfl rfl)
theorem dJ4_fixAfterDeletion_211 : decode cJ4_fixAfterDeletion 211 = .ok (.invokestatic 307, 3) := dk_184 1 51 (dk_at dksJ4_fixAfterDeletion_8 21 rfl rfl)
theorem dJ4_fixAfterDeletion_214 : decode cJ4_fixAfterDeletion 214 = .ok (.aload_n 0, 1) := dk_42 (dk_at dksJ4_fixAfterDeletion_9 0 rfl rfl)
theorem dJ4_fixAfterDeletion_215 : decode cJ4_fixAfterDeletion 215 = .ok (.aload_n 1, 1) := dk_43 (dk_at dksJ4_fixAfterDeletion_9 1 rfl rfl)
theorem dJ4_fixAfterDeletion_216 : decode cJ4_fixAfterDeletion 216 = .ok (.invokestatic 294, 3) := dk_184 1 38 (dk_at dksJ4_fixAfterDeletion_9 2 rfl rfl)
theorem dJ4_fixAfterDeletion_219 : decode cJ4_fixAfterDeletion 219 = .ok (.invokevirtual 314, 3) := dk_182 1 58 (dk_at dksJ4_fixAfterDeletion_9 5 rfl rfl)
theorem dJ4_fixAfterDeletion_222 : decode cJ4_fixAfterDeletion 222 = .ok (.aload_n 1, 1) := dk_43 (dk_at dksJ4_fixAfterDeletion_9 8 rfl rfl)
theorem dJ4_fixAfterDeletion_223 : decode cJ4_fixAfterDeletion 223 = .ok (.invokestatic 294, 3) := dk_184 1 38 (dk_at dksJ4_fixAfterDeletion_9 9 rfl rfl)
theorem dJ4_fixAfterDeletion_226 : decode cJ4_fixAfterDeletion 226 = .ok (.invokestatic 297, 3) := dk_184 1 41 (dk_at dksJ4_fixAfterDeletion_9 12 rfl rfl)
theorem dJ4_fixAfterDeletion_229 : decode cJ4_fixAfterDeletion 229 = .ok (.astore_n 2, 1) := dk_77 (dk_at dksJ4_fixAfterDeletion_9 15 rfl rfl)
theorem dJ4_fixAfterDeletion_230 : decode cJ4_fixAfterDeletion 230 = .ok (.aload_n 2, 1) := dk_44 (dk_at dksJ4_fixAfterDeletion_9 16 rfl rfl)
theorem dJ4_fixAfterDeletion_231 : decode cJ4_fixAfterDeletion 231 = .ok (.invokestatic 300, 3) := dk_184 1 44 (dk_at dksJ4_fixAfterDeletion_9 17 rfl rfl)
theorem dJ4_fixAfterDeletion_234 : decode cJ4_fixAfterDeletion 234 = .ok (.invokestatic 303, 3) := dk_184 1 47 (dk_at dksJ4_fixAfterDeletion_9 20 rfl rfl)
theorem dJ4_fixAfterDeletion_237 : decode cJ4_fixAfterDeletion 237 = .ok (.iconst 1, 1) := dk_4 (dk_at dksJ4_fixAfterDeletion_9 23 rfl rfl)
theorem dJ4_fixAfterDeletion_238 : decode cJ4_fixAfterDeletion 238 = .ok (.if_icmp .ne 27, 3) := dk_160 0 27 (dk_at dksJ4_fixAfterDeletion_10 0 rfl rfl)
theorem dJ4_fixAfterDeletion_241 : decode cJ4_fixAfterDeletion 241 = .ok (.aload_n 2, 1) := dk_44 (dk_at dksJ4_fixAfterDeletion_10 3 rfl rfl)
theorem dJ4_fixAfterDeletion_242 : decode cJ4_fixAfterDeletion 242 = .ok (.invokestatic 297, 3) := dk_184 1 41 (dk_at dksJ4_fixAfterDeletion_10 4 rfl rfl)
theorem dJ4_fixAfterDeletion_245 : decode cJ4_fixAfterDeletion 245 = .ok (.invokestatic 303, 3) := dk_184 1 47 (dk_at dksJ4_fixAfterDeletion_10 7 rfl rfl)
theorem dJ4_fixAfterDeletion_248 : decode cJ4_fixAfterDeletion 248 = .ok (.iconst 1, 1) := dk_4 (dk_at dksJ4_fixAfterDeletion_10 10 rfl rfl)
theorem dJ4_fixAfterDeletion_249 : decode cJ4_fixAfterDeletion 249 = .ok (.if_icmp .ne 16, 3) := dk_160 0 16 (dk_at dksJ4_fixAfterDeletion_10 11 rfl rfl)
theorem dJ4_fixAfterDeletion_252 : decode cJ4_fixAfterDeletion 252 = .ok (.aload_n 2, 1) := dk_44 (dk_at dksJ4_fixAfterDeletion_10 14 rfl rfl)
theorem dJ4_fixAfterDeletion_253 : decode cJ4_fixAfterDeletion 253 = .ok (.iconst 0, 1) := dk_3 (dk_at dksJ4_fixAfterDeletion_10 15 rfl rfl)
theorem dJ4_fixAfterDeletion_254 : decode cJ4_fixAfterDeletion 254 = .ok (.invokestatic 307, 3) := dk_184 1 51 (dk_at dksJ4_fixAfterDeletion_10 16 rfl rfl)
theorem dJ4_fixAfterDeletion_257 : decode cJ4_fixAfterDeletion 257 = .ok (.aload_n 1, 1) := dk_43 (dk_at dksJ4_fixAfterDeletion_10 19 rfl rfl)
theorem dJ4_fixAfterDeletion_258 : decode cJ4_fixAfterDeletion 258 = .ok (.invokestatic 294, 3) := dk_184 1 38 (dk_at dksJ4_fixAfterDeletion_10 20 rfl rfl)
theorem dJ4_fixAfterDeletion_261 : decode cJ4_fixAfterDeletion 261 = .ok (.astore_n 1, 1) := dk_76 (dk_at dksJ4_fixAfterDeletion_10 23 rfl rfl)
theorem dJ4_fixAfterDeletion_262 : decode cJ4_fixAfterDeletion 262 = .ok (.goto 80, 3) := dk_167 0 80 (dk_at dksJ4_fixAfterDeletion_11 0 rfl rfl)
theorem dJ4_fixAfterDeletion_265 : decode cJ4_fixAfterDeletion 265 = .ok (.aload_n 2, 1) := dk_44 (dk_at dksJ4_fixAfterDeletion_11 3 rfl rfl)
theorem dJ4_fixAfterDeletion_266 : decode cJ4_fixAfterDeletion 266 = .ok (.invokestatic 297, 3) := dk_184 1 41 (dk_at dksJ4_fixAfterDeletion_11 4 rfl rfl)
theorem dJ4_fixAfterDeletion_269 : decode cJ4_fixAfterDeletion 269 = .ok (.invokestatic 303, 3) := dk_184 1 47 (dk_at dksJ4_fixAfterDeletion_11 7 rfl rfl)
theorem dJ4_fixAfterDeletion_272 : decode cJ4_fixAfterDeletion 272 = .ok (.iconst 1, 1) := dk_4 (dk_at dksJ4_fixAfterDeletion_11 10 rfl rfl)
theorem dJ4_fixAfterDeletion_273 : decode cJ4_fixAfterDeletion 273 = .ok (.if_icmp .ne 29, 3) := dk_160 0 29 (dk_at dksJ4_fixAfterDeletion_11 11 rfl rfl)
theorem dJ4_fixAfterDeletion_276 : decode cJ4_fixAfterDeletion 276 = .ok (.aload_n 2, 1) := dk_44 (dk_at dksJ4_fixAfterDeletion_11 14 rfl rfl)
theorem dJ4_fixAfterDeletion_277 : decode cJ4_fixAfterDeletion 277 = .ok (.invokestatic 300, 3) := dk_184 1 44 (dk_at dksJ4_fixAfterDeletion_11 15 rfl rfl)
theorem dJ4_fixAfterDeletion_280 : decode cJ4_fixAfterDeletion 280 = .ok (.iconst 1, 1) := dk_4 (dk_at dksJ4_fixAfterDeletion_11 18 rfl rfl)
theorem dJ4_fixAfterDeletion_281 : decode cJ4_fixAfterDeletion 281 = .ok (.invokestatic 307, 3) := dk_184 1 51 (dk_at dksJ4_fixAfterDeletion_11 19 rfl rfl)
theorem dJ4_fixAfterDeletion_284 : decode cJ4_fixAfterDeletion 284 = .ok (.aload_n 2, 1) := dk_44 (dk_at dksJ4_fixAfterDeletion_11 22 rfl rfl)
theorem dJ4_fixAfterDeletion_285 : decode cJ4_fixAfterDeletion 285 = .ok (.iconst 0, 1) := dk_3 (dk_at dksJ4_fixAfterDeletion_11 23 rfl rfl)
theorem dJ4_fixAfterDeletion_286 : decode cJ4_fixAfterDeletion 286 = .ok (.invokestatic 307, 3) := dk_184 1 51 (dk_at dksJ4_fixAfterDeletion_12 0 rfl rfl)
theorem dJ4_fixAfterDeletion_289 : decode cJ4_fixAfterDeletion 289 = .ok (.aload_n 0, 1) := dk_42 (dk_at dksJ4_fixAfterDeletion_12 3 rfl rfl)
theorem dJ4_fixAfterDeletion_290 : decode cJ4_fixAfterDeletion 290 = .ok (.aload_n 2, 1) := dk_44 (dk_at dksJ4_fixAfterDeletion_12 4 rfl rfl)
theorem dJ4_fixAfterDeletion_291 : decode cJ4_fixAfterDeletion 291 = .ok (.invokevirtual 311, 3) := dk_182 1 55 (dk_at dksJ4_fixAfterDeletion_12 5 rfl rfl)
theorem dJ4_fixAfterDeletion_294 : decode cJ4_fixAfterDeletion 294 = .ok (.aload_n 1, 1) := dk_43 (dk_at dksJ4_fixAfterDeletion_12 8 rfl rfl)
theorem dJ4_fixAfterDeletion_295 : decode cJ4_fixAfterDeletion 295 = .ok (.invokestatic 294, 3) := dk_184 1 38 (dk_at dksJ4_fixAfterDeletion_12 9 rfl rfl)
theorem dJ4_fixAfterDeletion_298 : decode cJ4_fixAfterDeletion 298 = .ok (.invokestatic 297, 3) := dk_184 1 41 (dk_at dksJ4_fixAfterDeletion_12 12 rfl rfl)
theorem dJ4_fixAfterDeletion_301 : decode cJ4_fixAfterDeletion 301 = .ok (.astore_n 2, 1) := dk_77 (dk_at dksJ4_fixAfterDeletion_12 15 rfl rfl)
theorem dJ4_fixAfterDeletion_302 : decode cJ4_fixAfterDeletion 302 = .ok (.aload_n 2, 1) := dk_44 (dk_at dksJ4_fixAfterDeletion_12 16 rfl rfl)
theorem dJ4_fixAfterDeletion_303 : decode cJ4_fixAfterDeletion 303 = .ok (.aload_n 1, 1) := dk_43 (dk_at dksJ4_fixAfterDeletion_12 17 rfl rfl)
theorem dJ4_fixAfterDeletion_304 : decode cJ4_fixAfterDeletion 304 = .ok (.invokestatic 294, 3) := dk_184 1 38 (dk_at dksJ4_fixAfterDeletion_12 18 rfl rfl)
theorem dJ4_fixAfterDeletion_307 : decode cJ4_fixAfterDeletion 307 = .ok (.invokestatic 303, 3) := dk_184 1 47 (dk_at dksJ4_fixAfterDeletion_12 21 rfl rfl)
theorem dJ4_fixAfterDeletion_310 : decode cJ4_fixAfterDeletion 310 = .ok (.invokestatic 307, 3) := dk_184 1 51 (dk_at dksJ4_fixAfterDeletion_13 0 rfl rfl)
theorem dJ4_fixAfterDeletion_313 : decode cJ4_fixAfterDeletion 313 = .ok (.aload_n 1, 1) := dk_43 (dk_at dksJ4_fixAfterDeletion_13 3 rfl rfl)
theorem dJ4_fixAfterDeletion_314 : decode cJ4_fixAfterDeletion 314 = .ok (.invokestatic 294, 3) := dk_184 1 38 (dk_at dksJ4_fixAfterDeletion_13 4 rfl rfl)
theorem dJ4_fixAfterDeletion_317 : decode cJ4_fixAfterDeletion 317 = .ok (.iconst 1, 1) := dk_4 (dk_at dksJ4_fixAfterDeletion_13 7 rfl rfl)
theorem dJ4_fixAfterDeletion_318 : decode cJ4_fixAfterDeletion 318 = .ok (.invokestatic 307, 3) := dk_184 1 51 (dk_at dksJ4_fixAfterDeletion_13 8 rfl rfl)
theorem dJ4_fixAfterDeletion_321 : decode cJ4_fixAfterDeletion 321 = .ok (.aload_n 2, 1) := dk_44 (dk_at dksJ4_fixAfterDeletion_13 11 rfl rfl)
theorem dJ4_fixAfterDeletion_322 : decode cJ4_fixAfterDeletion 322 = .ok (.invokestatic 297, 3) := dk_184 1 41 (dk_at dksJ4_fixAfterDeletion_13 12 rfl rfl)
theorem dJ4_fixAfterDeletion_325 : decode cJ4_fixAfterDeletion 325 = .ok (.iconst 1, 1) := dk_4 (dk_at dksJ4_fixAfterDeletion_13 15 rfl rfl)
theorem dJ4_fixAfterDeletion_326 : decode cJ4_fixAfterDeletion 326 = .ok (.invokestatic 307, 3) := dk_184 1 51 (dk_at dksJ4_fixAfterDeletion_13 16 rfl rfl)
theorem dJ4_fixAfterDeletion_329 : decode cJ4_fixAfterDeletion 329 = .ok (.aload_n 0, 1) := dk_42 (dk_at dksJ4_fixAfterDeletion_13 19 rfl rfl)
theorem dJ4_fixAfterDeletion_330 : decode cJ4_fixAfterDeletion 330 = .ok (.aload_n 1, 1) := dk_43 (dk_at dksJ4_fixAfterDeletion_13 20 rfl rfl)
theorem dJ4_fixAfterDeletion_331 : decode cJ4_fixAfterDeletion 331 = .ok (.invokestatic 294, 3) := dk_184 1 38 (dk_at dksJ4_fixAfterDeletion_13 21 rfl rfl)
theorem dJ4_fixAfterDeletion_334 : decode cJ4_fixAfterDeletion 334 = .ok (.invokevirtual 314, 3) := dk_182 1 58 (dk_at dksJ4_fixAfterDeletion_14 0 rfl rfl)
theorem dJ4_fixAfterDeletion_337 : decode cJ4_fixAfterDeletion 337 = .ok (.aload_n 0, 1) := dk_42 (dk_at dksJ4_fixAfterDeletion_14 3 rfl rfl)
theorem dJ4_fixAfterDeletion_338 : decode cJ4_fixAfterDeletion 338 = .ok (.getfield 101, 3) := dk_180 0 101 (dk_at dksJ4_fixAfterDeletion_14 4 rfl rfl)
theorem dJ4_fixAfterDeletion_341 : decode cJ4_fixAfterDeletion 341 = .ok (.astore_n 1, 1) := dk_76 (dk_at dksJ4_fixAfterDeletion_14 7 rfl rfl)
theorem dJ4_fixAfterDeletion_342 : decode cJ4_fixAfterDeletion 342 = .ok (.goto (-342), 3) := dk_167 254 170 (dk_at dksJ4_fixAfterDeletion_14 8 rfl rfl)
theorem dJ4_fixAfterDeletion_345 : decode cJ4_fixAfterDeletion 345 = .ok (.aload_n 1, 1) := dk_43 (dk_at dksJ4_fixAfterDeletion_14 11 rfl rfl)
theorem dJ4_fixAfterDeletion_346 : decode cJ4_fixAfterDeletion 346 = .ok (.iconst 1, 1) := dk_4 (dk_at dksJ4_fixAfterDeletion_14 12 rfl rfl)
theorem dJ4_fixAfterDeletion_347 : decode cJ4_fixAfterDeletion 347 = .ok (.invokestatic 307, 3) := dk_184 1 51 (dk_at dksJ4_fixAfterDeletion_14 13 rfl rfl)
theorem dJ4_fixAfterDeletion_350 : decode cJ4_fixAfterDeletion 350 = .ok (.return_, 1) := dk_177 (dk_at dksJ4_fixAfterDeletion_14 16 rfl rfl)
def fJ4_fixAfterDeletion_b183 (e : Nat → Nat) (N : Nat) (k0 : Mm → Option Nat → Option Nat → Rs (Unit)) (m : Mm) (v0 : Option Nat) (v1 : Option Nat) : Rs (Unit) := k0 m v0 v1
def fJ4_fixAfterDeletion_b143 (e : Nat → Nat) (N : Nat) (k0 : Mm → Option Nat → Option Nat → Rs (Unit)) (m : Mm) (v0 : Option Nat) (v1 : Option Nat) (v2 : Option Nat) : Rs (Unit) := bd_ (fJ4_parentOf e N m v1) (fun x1 m1 => bd_ (fJ4_colorOf e N m1 x1) (fun x2 m2 => bd_ (fJ4_setColor e N m2 v2 x2) (fun _ m3 => bd_ (fJ4_parentOf e N m3 v1) (fun x3 m4 => bd_ (fJ4_setColor e N m4 x3 1) (fun _ m5 => bd_ (fJ4_rightOf e N m5 v2) (fun x4 m6 => bd_ (fJ4_setColor e N m6 x4 1) (fun _ m7 => bd_ (fJ4_parentOf e N m7 v1) (fun x5 m8 => ck_ m8 v0 15 (bd_ (fJ4_rotateLeft e N m8 v0 x5) (fun _ m9 => gr_ m9 v0 15 3 (fun x6 => fJ4_fixAfterDeletion_b183 e N k0 m9 v0 x6)))))))))))
def fJ4_fixAfterDeletion_b106 (e : Nat → Nat) (N : Nat) (k0 : Mm → Option Nat → Option Nat → Rs (Unit)) (m : Mm) (v0 : Option Nat) (v1 : Option Nat) (v2 : Option Nat) : Rs (Unit) := bd_ (fJ4_rightOf e N m v2) (fun x1 m1 => bd_ (fJ4_colorOf e N m1 x1) (fun x2 m2 => if x2 = 1 then (bd_ (fJ4_leftOf e N m2 v2) (fun x3 m3 => bd_ (fJ4_setColor e N m3 x3 1) (fun _ m4 => bd_ (fJ4_setColor e N m4 v2 0) (fun _ m5 => ck_ m5 v0 15 (bd_ (fJ4_rotateRight e N m5 v0 v2) (fun _ m6 => bd_ (fJ4_parentOf e N m6 v1) (fun x4 m7 => bd_ (fJ4_rightOf e N m7 x4) (fun x5 m8 => fJ4_fixAfterDeletion_b143 e N k0 m8 v0 v1 x5)))))))) else (fJ4_fixAfterDeletion_b143 e N k0 m2 v0 v1 v2)))
def fJ4_fixAfterDeletion_b71 (e : Nat → Nat) (N : Nat) (k0 : Mm → Option Nat → Option Nat → Rs (Unit)) (m : Mm) (v0 : Option Nat) (v1 : Option Nat) (v2 : Option Nat) : Rs (Unit) := bd_ (fJ4_leftOf e N m v2) (fun x1 m1 => bd_ (fJ4_colorOf e N m1 x1) (fun x2 m2 => if x2 = 1 then (bd_ (fJ4_rightOf e N m2 v2) (fun x3 m3 => bd_ (fJ4_colorOf e N m3 x3) (fun x4 m4 => if x4 = 1 then (bd_ (fJ4_setColor e N m4 v2 0) (fun _ m5 => bd_ (fJ4_parentOf e N m5 v1) (fun x5 m6 => fJ4_fixAfterDeletion_b183 e N k0 m6 v0 x5))) else (fJ4_fixAfterDeletion_b106 e N k0 m4 v0 v1 v2)))) else (fJ4_fixAfterDeletion_b106 e N k0 m2 v0 v1 v2)))
def fJ4_fixAfterDeletion_b342 (e : Nat → Nat) (N : Nat) (k0 : Mm → Option Nat → Option Nat → Rs (Unit)) (m : Mm) (v0 : Option Nat) (v1 : Option Nat) : Rs (Unit) := k0 m v0 v1
def fJ4_fixAfterDeletion_b302 (e : Nat → Nat) (N : Nat) (k0 : Mm → Option Nat → Option Nat → Rs (Unit)) (m : Mm) (v0 : Option Nat) (v1 : Option Nat) (v2 : Option Nat) : Rs (Unit) := bd_ (fJ4_parentOf e N m v1) (fun x1 m1 => bd_ (fJ4_colorOf e N m1 x1) (fun x2 m2 => bd_ (fJ4_setColor e N m2 v2 x2) (fun _ m3 => bd_ (fJ4_parentOf e N m3 v1) (fun x3 m4 => bd_ (fJ4_setColor e N m4 x3 1) (fun _ m5 => bd_ (fJ4_leftOf e N m5 v2) (fun x4 m6 => bd_ (fJ4_setColor e N m6 x4 1) (fun _ m7 => bd_ (fJ4_parentOf e N m7 v1) (fun x5 m8 => ck_ m8 v0 15 (bd_ (fJ4_rotateRight e N m8 v0 x5) (fun _ m9 => gr_ m9 v0 15 3 (fun x6 => fJ4_fixAfterDeletion_b342 e N k0 m9 v0 x6)))))))))))
def fJ4_fixAfterDeletion_b265 (e : Nat → Nat) (N : Nat) (k0 : Mm → Option Nat → Option Nat → Rs (Unit)) (m : Mm) (v0 : Option Nat) (v1 : Option Nat) (v2 : Option Nat) : Rs (Unit) := bd_ (fJ4_leftOf e N m v2) (fun x1 m1 => bd_ (fJ4_colorOf e N m1 x1) (fun x2 m2 => if x2 = 1 then (bd_ (fJ4_rightOf e N m2 v2) (fun x3 m3 => bd_ (fJ4_setColor e N m3 x3 1) (fun _ m4 => bd_ (fJ4_setColor e N m4 v2 0) (fun _ m5 => ck_ m5 v0 15 (bd_ (fJ4_rotateLeft e N m5 v0 v2) (fun _ m6 => bd_ (fJ4_parentOf e N m6 v1) (fun x4 m7 => bd_ (fJ4_leftOf e N m7 x4) (fun x5 m8 => fJ4_fixAfterDeletion_b302 e N k0 m8 v0 v1 x5)))))))) else (fJ4_fixAfterDeletion_b302 e N k0 m2 v0 v1 v2)))
def fJ4_fixAfterDeletion_b230 (e : Nat → Nat) (N : Nat) (k0 : Mm → Option Nat → Option Nat → Rs (Unit)) (m : Mm) (v0 : Option Nat) (v1 : Option Nat) (v2 : Option Nat) : Rs (Unit) := bd_ (fJ4_rightOf e N m v2) (fun x1 m1 => bd_ (fJ4_colorOf e N m1 x1) (fun x2 m2 => if x2 = 1 then (bd_ (fJ4_leftOf e N m2 v2) (fun x3 m3 => bd_ (fJ4_colorOf e N m3 x3) (fun x4 m4 => if x4 = 1 then (bd_ (fJ4_setColor e N m4 v2 0) (fun _ m5 => bd_ (fJ4_parentOf e N m5 v1) (fun x5 m6 => fJ4_fixAfterDeletion_b342 e N k0 m6 v0 x5))) else (fJ4_fixAfterDeletion_b265 e N k0 m4 v0 v1 v2)))) else (fJ4_fixAfterDeletion_b265 e N k0 m2 v0 v1 v2)))
def fJ4_fixAfterDeletion_b345 (e : Nat → Nat) (N : Nat) (m : Mm) (v1 : Option Nat) : Rs (Unit) := bd_ (fJ4_setColor e N m v1 1) (fun _ m1 => rt_ () m1)
def fJ4_fixAfterDeletion_b0 (e : Nat → Nat) (N : Nat) : Nat → Mm → Option Nat → Option Nat → Rs (Unit)
  | 0, _, _, _ => none
  | F + 1, m, v0, v1 => gr_ m v0 15 3 (fun x1 => if v1 = x1 then (fJ4_fixAfterDeletion_b345 e N m v1) else (bd_ (fJ4_colorOf e N m v1) (fun x2 m1 => if x2 = 1 then (bd_ (fJ4_parentOf e N m1 v1) (fun x3 m2 => bd_ (fJ4_leftOf e N m2 x3) (fun x4 m3 => if v1 = x4 then (bd_ (fJ4_parentOf e N m3 v1) (fun x5 m4 => bd_ (fJ4_rightOf e N m4 x5) (fun x6 m5 => bd_ (fJ4_colorOf e N m5 x6) (fun x7 m6 => if x7 = 0 then (bd_ (fJ4_setColor e N m6 x6 1) (fun _ m7 => bd_ (fJ4_parentOf e N m7 v1) (fun x8 m8 => bd_ (fJ4_setColor e N m8 x8 0) (fun _ m9 => bd_ (fJ4_parentOf e N m9 v1) (fun x9 m10 => ck_ m10 v0 15 (bd_ (fJ4_rotateLeft e N m10 v0 x9) (fun _ m11 => bd_ (fJ4_parentOf e N m11 v1) (fun x10 m12 => bd_ (fJ4_rightOf e N m12 x10) (fun x11 m13 => fJ4_fixAfterDeletion_b71 e N (fJ4_fixAfterDeletion_b0 e N F) m13 v0 v1 x11))))))))) else (fJ4_fixAfterDeletion_b71 e N (fJ4_fixAfterDeletion_b0 e N F) m6 v0 v1 x6))))) else (bd_ (fJ4_parentOf e N m3 v1) (fun x12 m14 => bd_ (fJ4_leftOf e N m14 x12) (fun x13 m15 => bd_ (fJ4_colorOf e N m15 x13) (fun x14 m16 => if x14 = 0 then (bd_ (fJ4_setColor e N m16 x13 1) (fun _ m17 => bd_ (fJ4_parentOf e N m17 v1) (fun x15 m18 => bd_ (fJ4_setColor e N m18 x15 0) (fun _ m19 => bd_ (fJ4_parentOf e N m19 v1) (fun x16 m20 => ck_ m20 v0 15 (bd_ (fJ4_rotateRight e N m20 v0 x16) (fun _ m21 => bd_ (fJ4_parentOf e N m21 v1) (fun x17 m22 => bd_ (fJ4_leftOf e N m22 x17) (fun x18 m23 => fJ4_fixAfterDeletion_b230 e N (fJ4_fixAfterDeletion_b0 e N F) m23 v0 v1 x18))))))))) else (fJ4_fixAfterDeletion_b230 e N (fJ4_fixAfterDeletion_b0 e N F) m16 v0 v1 x13)))))))) else (fJ4_fixAfterDeletion_b345 e N m1 v1))))
def fJ4_fixAfterDeletion (e : Nat → Nat) (N : Nat) (m : Mm) (v0 : Option Nat) (v1 : Option Nat) : Rs (Unit) := fJ4_fixAfterDeletion_b0 e N N m v0 v1
abbrev cJ4_deleteEntry : ByteArray := prog_79_method_84_code
def yJ4_deleteEntry : MethodName := ⟨RJ4, "deleteEntry", "(Ljava/util/TreeMap$Entry;)V"⟩
def dkwJ4_deleteEntry_10 : List UInt8 := [180, 0, 124, 1, 181, 0, 114, 43, 1, 181, 0, 124, 177]
abbrev dktJ4_deleteEntry_10 : List UInt8 := dkwJ4_deleteEntry_10 ++ []
def dkwJ4_deleteEntry_9 : List UInt8 := [180, 0, 124, 1, 181, 0, 111, 167, 0, 22, 43, 43, 180, 0, 124, 180, 0, 114, 166, 0, 11, 43]
abbrev dktJ4_deleteEntry_9 : List UInt8 := dkwJ4_deleteEntry_9 ++ dktJ4_deleteEntry_10
def dkwJ4_deleteEntry_8 : List UInt8 := [182, 1, 61, 43, 180, 0, 124, 198, 0, 49, 43, 43, 180, 0, 124, 180, 0, 111, 166, 0, 14, 43]
abbrev dktJ4_deleteEntry_8 : List UInt8 := dkwJ4_deleteEntry_8 ++ dktJ4_deleteEntry_9
def dkwJ4_deleteEntry_7 : List UInt8 := [180, 0, 124, 199, 0, 11, 42, 1, 181, 0, 101, 167, 0, 69, 43, 180, 1, 34, 4, 160, 0, 8, 42, 43]
abbrev dktJ4_deleteEntry_7 : List UInt8 := dkwJ4_deleteEntry_7 ++ dktJ4_deleteEntry_8
def dkwJ4_deleteEntry_6 : List UInt8 := [181, 0, 114, 181, 0, 111, 43, 180, 1, 34, 4, 160, 0, 92, 42, 44, 182, 1, 61, 167, 0, 84, 43]
abbrev dktJ4_deleteEntry_6 : List UInt8 := dkwJ4_deleteEntry_6 ++ dktJ4_deleteEntry_7
def dkwJ4_deleteEntry_5 : List UInt8 := [181, 0, 111, 167, 0, 11, 43, 180, 0, 124, 44, 181, 0, 114, 43, 43, 43, 1, 90, 181, 0, 124, 90]
abbrev dktJ4_deleteEntry_5 : List UInt8 := dkwJ4_deleteEntry_5 ++ dktJ4_deleteEntry_6
def dkwJ4_deleteEntry_4 : List UInt8 := [44, 181, 0, 101, 167, 0, 33, 43, 43, 180, 0, 124, 180, 0, 111, 166, 0, 14, 43, 180, 0, 124, 44]
abbrev dktJ4_deleteEntry_4 : List UInt8 := dkwJ4_deleteEntry_4 ++ dktJ4_deleteEntry_5
def dkwJ4_deleteEntry_3 : List UInt8 := [180, 0, 114, 77, 44, 198, 0, 87, 44, 43, 180, 0, 124, 181, 0, 124, 43, 180, 0, 124, 199, 0, 11, 42]
abbrev dktJ4_deleteEntry_3 : List UInt8 := dkwJ4_deleteEntry_3 ++ dktJ4_deleteEntry_4
def dkwJ4_deleteEntry_2 : List UInt8 := [44, 180, 0, 58, 181, 0, 58, 44, 76, 43, 180, 0, 111, 198, 0, 10, 43, 180, 0, 111, 167, 0, 7, 43]
abbrev dktJ4_deleteEntry_2 : List UInt8 := dkwJ4_deleteEntry_2 ++ dktJ4_deleteEntry_3
def dkwJ4_deleteEntry_1 : List UInt8 := [198, 0, 33, 43, 180, 0, 114, 198, 0, 26, 43, 184, 0, 68, 77, 43, 44, 180, 0, 105, 181, 0, 105, 43]
abbrev dktJ4_deleteEntry_1 : List UInt8 := dkwJ4_deleteEntry_1 ++ dktJ4_deleteEntry_2
def dkwJ4_deleteEntry_0 : List UInt8 := [42, 89, 180, 0, 13, 4, 96, 181, 0, 13, 42, 89, 180, 0, 7, 4, 100, 181, 0, 7, 43, 180, 0, 111]
abbrev dktJ4_deleteEntry_0 : List UInt8 := dkwJ4_deleteEntry_0 ++ dktJ4_deleteEntry_1
theorem dksJ4_deleteEntry_0 : cJ4_deleteEntry.data.toList.drop 0 = dktJ4_deleteEntry_0 := by decide +kernel
theorem dksJ4_deleteEntry_1 : cJ4_deleteEntry.data.toList.drop 24 = dktJ4_deleteEntry_1 := dk_seg dksJ4_deleteEntry_0 24 rfl rfl
theorem dksJ4_deleteEntry_2 : cJ4_deleteEntry.data.toList.drop 48 = dktJ4_deleteEntry_2 := dk_seg dksJ4_deleteEntry_1 24 rfl rfl
theorem dksJ4_deleteEntry_3 : cJ4_deleteEntry.data.toList.drop 72 = dktJ4_deleteEntry_3 := dk_seg dksJ4_deleteEntry_2 24 rfl rfl
theorem dksJ4_deleteEntry_4 : cJ4_deleteEntry.data.toList.drop 96 = dktJ4_deleteEntry_4 := dk_seg dksJ4_deleteEntry_3 24 rfl rfl
theorem dksJ4_deleteEntry_5 : cJ4_deleteEntry.data.toList.drop 119 = dktJ4_deleteEntry_5 := dk_seg dksJ4_deleteEntry_4 23 rfl rfl
theorem dksJ4_deleteEntry_6 : cJ4_deleteEntry.data.toList.drop 142 = dktJ4_deleteEntry_6 := dk_seg dksJ4_deleteEntry_5 23 rfl rfl
theorem dksJ4_deleteEntry_7 : cJ4_deleteEntry.data.toList.drop 165 = dktJ4_deleteEntry_7 := dk_seg dksJ4_deleteEntry_6 23 rfl rfl
theorem dksJ4_deleteEntry_8 : cJ4_deleteEntry.data.toList.drop 189 = dktJ4_deleteEntry_8 := dk_seg dksJ4_deleteEntry_7 24 rfl rfl
theorem dksJ4_deleteEntry_9 : cJ4_deleteEntry.data.toList.drop 211 = dktJ4_deleteEntry_9 := dk_seg dksJ4_deleteEntry_8 22 rfl rfl
theorem dksJ4_deleteEntry_10 : cJ4_deleteEntry.data.toList.drop 233 = dktJ4_deleteEntry_10 := dk_seg dksJ4_deleteEntry_9 22 rfl rfl
theorem dJ4_deleteEntry_0 : decode cJ4_deleteEntry 0 = .ok (.aload_n 0, 1) := dk_42 (dk_at dksJ4_deleteEntry_0 0 rfl rfl)
theorem dJ4_deleteEntry_1 : decode cJ4_deleteEntry 1 = .ok (.dup, 1) := dk_89 (dk_at dksJ4_deleteEntry_0 1 rfl rfl)
theorem dJ4_deleteEntry_2 : decode cJ4_deleteEntry 2 = .ok (.getfield 13, 3) := dk_180 0 13 (dk_at dksJ4_deleteEntry_0 2 rfl rfl)
theorem dJ4_deleteEntry_5 : decode cJ4_deleteEntry 5 = .ok (.iconst 1, 1) := dk_4 (dk_at dksJ4_deleteEntry_0 5 rfl rfl)
theorem dJ4_deleteEntry_6 : decode cJ4_deleteEntry 6 = .ok (.iadd, 1) := dk_96 (dk_at dksJ4_deleteEntry_0 6 rfl rfl)
theorem dJ4_deleteEntry_7 : decode cJ4_deleteEntry 7 = .ok (.putfield 13, 3) := dk_181 0 13 (dk_at dksJ4_deleteEntry_0 7 rfl rfl)
theorem dJ4_deleteEntry_10 : decode cJ4_deleteEntry 10 = .ok (.aload_n 0, 1) := dk_42 (dk_at dksJ4_deleteEntry_0 10 rfl rfl)
theorem dJ4_deleteEntry_11 : decode cJ4_deleteEntry 11 = .ok (.dup, 1) := dk_89 (dk_at dksJ4_deleteEntry_0 11 rfl rfl)
theorem dJ4_deleteEntry_12 : decode cJ4_deleteEntry 12 = .ok (.getfield 7, 3) := dk_180 0 7 (dk_at dksJ4_deleteEntry_0 12 rfl rfl)
theorem dJ4_deleteEntry_15 : decode cJ4_deleteEntry 15 = .ok (.iconst 1, 1) := dk_4 (dk_at dksJ4_deleteEntry_0 15 rfl rfl)
theorem dJ4_deleteEntry_16 : decode cJ4_deleteEntry 16 = .ok (.isub, 1) := dk_100 (dk_at dksJ4_deleteEntry_0 16 rfl rfl)
theorem dJ4_deleteEntry_17 : decode cJ4_deleteEntry 17 = .ok (.putfield 7, 3) := dk_181 0 7 (dk_at dksJ4_deleteEntry_0 17 rfl rfl)
theorem dJ4_deleteEntry_20 : decode cJ4_deleteEntry 20 = .ok (.aload_n 1, 1) := dk_43 (dk_at dksJ4_deleteEntry_0 20 rfl rfl)
theorem dJ4_deleteEntry_21 : decode cJ4_deleteEntry 21 = .ok (.getfield 111, 3) := dk_180 0 111 (dk_at dksJ4_deleteEntry_0 21 rfl rfl)
theorem dJ4_deleteEntry_24 : decode cJ4_deleteEntry 24 = .ok (.ifnull 33, 3) := dk_198 0 33 (dk_at dksJ4_deleteEntry_1 0 rfl rfl)
theorem dJ4_deleteEntry_27 : decode cJ4_deleteEntry 27 = .ok (.aload_n 1, 1) := dk_43 (dk_at dksJ4_deleteEntry_1 3 rfl rfl)
theorem dJ4_deleteEntry_28 : decode cJ4_deleteEntry 28 = .ok (.getfield 114, 3) := dk_180 0 114 (dk_at dksJ4_deleteEntry_1 4 rfl rfl)
theorem dJ4_deleteEntry_31 : decode cJ4_deleteEntry 31 = .ok (.ifnull 26, 3) := dk_198 0 26 (dk_at dksJ4_deleteEntry_1 7 rfl rfl)
theorem dJ4_deleteEntry_34 : decode cJ4_deleteEntry 34 = .ok (.aload_n 1, 1) := dk_43 (dk_at dksJ4_deleteEntry_1 10 rfl rfl)
theorem dJ4_deleteEntry_35 : decode cJ4_deleteEntry 35 = .ok (.invokestatic 68, 3) := dk_184 0 68 (dk_at dksJ4_deleteEntry_1 11 rfl rfl)
theorem dJ4_deleteEntry_38 : decode cJ4_deleteEntry 38 = .ok (.astore_n 2, 1) := dk_77 (dk_at dksJ4_deleteEntry_1 14 rfl rfl)
theorem dJ4_deleteEntry_39 : decode cJ4_deleteEntry 39 = .ok (.aload_n 1, 1) := dk_43 (dk_at dksJ4_deleteEntry_1 15 rfl rfl)
theorem dJ4_deleteEntry_40 : decode cJ4_deleteEntry 40 = .ok (.aload_n 2, 1) := dk_44 (dk_at dksJ4_deleteEntry_1 16 rfl rfl)
theorem dJ4_deleteEntry_41 : decode cJ4_deleteEntry 41 = .ok (.getfield 105, 3) := dk_180 0 105 (dk_at dksJ4_deleteEntry_1 17 rfl rfl)
theorem dJ4_deleteEntry_44 : decode cJ4_deleteEntry 44 = .ok (.putfield 105, 3) := dk_181 0 105 (dk_at dksJ4_deleteEntry_1 20 rfl rfl)
theorem dJ4_deleteEntry_47 : decode cJ4_deleteEntry 47 = .ok (.aload_n 1, 1) := dk_43 (dk_at dksJ4_deleteEntry_1 23 rfl rfl)
theorem dJ4_deleteEntry_48 : decode cJ4_deleteEntry 48 = .ok (.aload_n 2, 1) := dk_44 (dk_at dksJ4_deleteEntry_2 0 rfl rfl)
theorem dJ4_deleteEntry_49 : decode cJ4_deleteEntry 49 = .ok (.getfield 58, 3) := dk_180 0 58 (dk_at dksJ4_deleteEntry_2 1 rfl rfl)
theorem dJ4_deleteEntry_52 : decode cJ4_deleteEntry 52 = .ok (.putfield 58, 3) := dk_181 0 58 (dk_at dksJ4_deleteEntry_2 4 rfl rfl)
theorem dJ4_deleteEntry_55 : decode cJ4_deleteEntry 55 = .ok (.aload_n 2, 1) := dk_44 (dk_at dksJ4_deleteEntry_2 7 rfl rfl)
theorem dJ4_deleteEntry_56 : decode cJ4_deleteEntry 56 = .ok (.astore_n 1, 1) := dk_76 (dk_at dksJ4_deleteEntry_2 8 rfl rfl)
theorem dJ4_deleteEntry_57 : decode cJ4_deleteEntry 57 = .ok (.aload_n 1, 1) := dk_43 (dk_at dksJ4_deleteEntry_2 9 rfl rfl)
theorem dJ4_deleteEntry_58 : decode cJ4_deleteEntry 58 = .ok (.getfield 111, 3) := dk_180 0 111 (dk_at dksJ4_deleteEntry_2 10 rfl rfl)
theorem dJ4_deleteEntry_61 : decode cJ4_deleteEntry 61 = .ok (.ifnull 10, 3) := dk_198 0 10 (dk_at dksJ4_deleteEntry_2 13 rfl rfl)
theorem dJ4_deleteEntry_64 : decode cJ4_deleteEntry 64 = .ok (.aload_n 1, 1) := dk_43 (dk_at dksJ4_deleteEntry_2 16 rfl rfl)
theorem dJ4_deleteEntry_65 : decode cJ4_deleteEntry 65 = .ok (.getfield 111, 3) := dk_180 0 111 (dk_at dksJ4_deleteEntry_2 17 rfl rfl)
theorem dJ4_deleteEntry_68 : decode cJ4_deleteEntry 68 = .ok (.goto 7, 3) := dk_167 0 7 (dk_at dksJ4_deleteEntry_2 20 rfl rfl)
theorem dJ4_deleteEntry_71 : decode cJ4_deleteEntry 71 = .ok (.aload_n 1, 1) := dk_43 (dk_at dksJ4_deleteEntry_2 23 rfl rfl)
theorem dJ4_deleteEntry_72 : decode cJ4_deleteEntry 72 = .ok (.getfield 114, 3) := dk_180 0 114 (dk_at dksJ4_deleteEntry_3 0 rfl rfl)
theorem dJ4_deleteEntry_75 : decode cJ4_deleteEntry 75 = .ok (.astore_n 2, 1) := dk_77 (dk_at dksJ4_deleteEntry_3 3 rfl rfl)
theorem dJ4_deleteEntry_76 : decode cJ4_deleteEntry 76 = .ok (.aload_n 2, 1) := dk_44 (dk_at dksJ4_deleteEntry_3 4 rfl rfl)
theorem dJ4_deleteEntry_77 : decode cJ4_deleteEntry 77 = .ok (.ifnull 87, 3) := dk_198 0 87 (dk_at dksJ4_deleteEntry_3 5 rfl rfl)
theorem dJ4_deleteEntry_80 : decode cJ4_deleteEntry 80 = .ok (.aload_n 2, 1) := dk_44 (dk_at dksJ4_deleteEntry_3 8 rfl rfl)
theorem dJ4_deleteEntry_81 : decode cJ4_deleteEntry 81 = .ok (.aload_n 1, 1) := dk_43 (dk_at dksJ4_deleteEntry_3 9 rfl rfl)
theorem dJ4_deleteEntry_82 : decode cJ4_deleteEntry 82 = .ok (.getfield 124, 3) := dk_180 0 124 (dk_at dksJ4_deleteEntry_3 10 rfl rfl)
theorem dJ4_deleteEntry_85 : decode cJ4_deleteEntry 85 = .ok (.putfield 124, 3) := dk_181 0 124 (dk_at dksJ4_deleteEntry_3 13 rfl rfl)
theorem dJ4_deleteEntry_88 : decode cJ4_deleteEntry 88 = .ok (.aload_n 1, 1) := dk_43 (dk_at dksJ4_deleteEntry_3 16 rfl rfl)
theorem dJ4_deleteEntry_89 : decode cJ4_deleteEntry 89 = .ok (.getfield 124, 3) := dk_180 0 124 (dk_at dksJ4_deleteEntry_3 17 rfl rfl)
theorem dJ4_deleteEntry_92 : decode cJ4_deleteEntry 92 = .ok (.ifnonnull 11, 3) := dk_199 0 11 (dk_at dksJ4_deleteEntry_3 20 rfl rfl)
theorem dJ4_deleteEntry_95 : decode cJ4_deleteEntry 95 = .ok (.aload_n 0, 1) := dk_42 (dk_at dksJ4_deleteEntry_3 23 rfl rfl)
theorem dJ4_deleteEntry_96 : decode cJ4_deleteEntry 96 = .ok (.aload_n 2, 1) := dk_44 (dk_at dksJ4_deleteEntry_4 0 rfl rfl)
theorem dJ4_deleteEntry_97 : decode cJ4_deleteEntry 97 = .ok (.putfield 101, 3) := dk_181 0 101 (dk_at dksJ4_deleteEntry_4 1 rfl rfl)
theorem dJ4_deleteEntry_100 : decode cJ4_deleteEntry 100 = .ok (.goto 33, 3) := dk_167 0 33 (dk_at dksJ4_deleteEntry_4 4 rfl rfl)
theorem dJ4_deleteEntry_103 : decode cJ4_deleteEntry 103 = .ok (.aload_n 1, 1) := dk_43 (dk_at dksJ4_deleteEntry_4 7 rfl rfl)
theorem dJ4_deleteEntry_104 : decode cJ4_deleteEntry 104 = .ok (.aload_n 1, 1) := dk_43 (dk_at dksJ4_deleteEntry_4 8 rfl rfl)
theorem dJ4_deleteEntry_105 : decode cJ4_deleteEntry 105 = .ok (.getfield 124, 3) := dk_180 0 124 (dk_at dksJ4_deleteEntry_4 9 rfl rfl)
theorem dJ4_deleteEntry_108 : decode cJ4_deleteEntry 108 = .ok (.getfield 111, 3) := dk_180 0 111 (dk_at dksJ4_deleteEntry_4 12 rfl rfl)
theorem dJ4_deleteEntry_111 : decode cJ4_deleteEntry 111 = .ok (.if_acmp .ne 14, 3) := dk_166 0 14 (dk_at dksJ4_deleteEntry_4 15 rfl rfl)
theorem dJ4_deleteEntry_114 : decode cJ4_deleteEntry 114 = .ok (.aload_n 1, 1) := dk_43 (dk_at dksJ4_deleteEntry_4 18 rfl rfl)
theorem dJ4_deleteEntry_115 : decode cJ4_deleteEntry 115 = .ok (.getfield 124, 3) := dk_180 0 124 (dk_at dksJ4_deleteEntry_4 19 rfl rfl)
theorem dJ4_deleteEntry_118 : decode cJ4_deleteEntry 118 = .ok (.aload_n 2, 1) := dk_44 (dk_at dksJ4_deleteEntry_4 22 rfl rfl)
theorem dJ4_deleteEntry_119 : decode cJ4_deleteEntry 119 = .ok (.putfield 111, 3) := dk_181 0 111 (dk_at dksJ4_deleteEntry_5 0 rfl rfl)
theorem dJ4_deleteEntry_122 : decode cJ4_deleteEntry 122 = .ok (.goto 11, 3) := dk_167 0 11 (dk_at dksJ4_deleteEntry_5 3 rfl rfl)
theorem dJ4_deleteEntry_125 : decode cJ4_deleteEntry 125 = .ok (.aload_n 1, 1) := dk_43 (dk_at dksJ4_deleteEntry_5 6 rfl rfl)
theorem dJ4_deleteEntry_126 : decode cJ4_deleteEntry 126 = .ok (.getfield 124, 3) := dk_180 0 124 (dk_at dksJ4_deleteEntry_5 7 rfl rfl)
theorem dJ4_deleteEntry_129 : decode cJ4_deleteEntry 129 = .ok (.aload_n 2, 1) := dk_44 (dk_at dksJ4_deleteEntry_5 10 rfl rfl)
theorem dJ4_deleteEntry_130 : decode cJ4_deleteEntry 130 = .ok (.putfield 114, 3) := dk_181 0 114 (dk_at dksJ4_deleteEntry_5 11 rfl rfl)
theorem dJ4_deleteEntry_133 : decode cJ4_deleteEntry 133 = .ok (.aload_n 1, 1) := dk_43 (dk_at dksJ4_deleteEntry_5 14 rfl rfl)
theorem dJ4_deleteEntry_134 : decode cJ4_deleteEntry 134 = .ok (.aload_n 1, 1) := dk_43 (dk_at dksJ4_deleteEntry_5 15 rfl rfl)
theorem dJ4_deleteEntry_135 : decode cJ4_deleteEntry 135 = .ok (.aload_n 1, 1) := dk_43 (dk_at dksJ4_deleteEntry_5 16 rfl rfl)
theorem dJ4_deleteEntry_136 : decode cJ4_deleteEntry 136 = .ok (.aconst_null, 1) := dk_1 (dk_at dksJ4_deleteEntry_5 17 rfl rfl)
theorem dJ4_deleteEntry_137 : decode cJ4_deleteEntry 137 = .ok (.dup_x1, 1) := dk_90 (dk_at dksJ4_deleteEntry_5 18 rfl rfl)
theorem dJ4_deleteEntry_138 : decode cJ4_deleteEntry 138 = .ok (.putfield 124, 3) := dk_181 0 124 (dk_at dksJ4_deleteEntry_5 19 rfl rfl)
theorem dJ4_deleteEntry_141 : decode cJ4_deleteEntry 141 = .ok (.dup_x1, 1) := dk_90 (dk_at dksJ4_deleteEntry_5 22 rfl rfl)
theorem dJ4_deleteEntry_142 : decode cJ4_deleteEntry 142 = .ok (.putfield 114, 3) := dk_181 0 114 (dk_at dksJ4_deleteEntry_6 0 rfl rfl)
theorem dJ4_deleteEntry_145 : decode cJ4_deleteEntry 145 = .ok (.putfield 111, 3) := dk_181 0 111 (dk_at dksJ4_deleteEntry_6 3 rfl rfl)
theorem dJ4_deleteEntry_148 : decode cJ4_deleteEntry 148 = .ok (.aload_n 1, 1) := dk_43 (dk_at dksJ4_deleteEntry_6 6 rfl rfl)
theorem dJ4_deleteEntry_149 : decode cJ4_deleteEntry 149 = .ok (.getfield 290, 3) := dk_180 1 34 (dk_at dksJ4_deleteEntry_6 7 rfl rfl)
theorem dJ4_deleteEntry_152 : decode cJ4_deleteEntry 152 = .ok (.iconst 1, 1) := dk_4 (dk_at dksJ4_deleteEntry_6 10 rfl rfl)
theorem dJ4_deleteEntry_153 : decode cJ4_deleteEntry 153 = .ok (.if_icmp .ne 92, 3) := dk_160 0 92 (dk_at dksJ4_deleteEntry_6 11 rfl rfl)
theorem dJ4_deleteEntry_156 : decode cJ4_deleteEntry 156 = .ok (.aload_n 0, 1) := dk_42 (dk_at dksJ4_deleteEntry_6 14 rfl rfl)
theorem dJ4_deleteEntry_157 : decode cJ4_deleteEntry 157 = .ok (.aload_n 2, 1) := dk_44 (dk_at dksJ4_deleteEntry_6 15 rfl rfl)
theorem dJ4_deleteEntry_158 : decode cJ4_deleteEntry 158 = .ok (.invokevirtual 317, 3) := dk_182 1 61 (dk_at dksJ4_deleteEntry_6 16 rfl rfl)
theorem dJ4_deleteEntry_161 : decode cJ4_deleteEntry 161 = .ok (.goto 84, 3) := dk_167 0 84 (dk_at dksJ4_deleteEntry_6 19 rfl rfl)
theorem dJ4_deleteEntry_164 : decode cJ4_deleteEntry 164 = .ok (.aload_n 1, 1) := dk_43 (dk_at dksJ4_deleteEntry_6 22 rfl rfl)
theorem dJ4_deleteEntry_165 : decode cJ4_deleteEntry 165 = .ok (.getfield 124, 3) := dk_180 0 124 (dk_at dksJ4_deleteEntry_7 0 rfl rfl)
theorem dJ4_deleteEntry_168 : decode cJ4_deleteEntry 168 = .ok (.ifnonnull 11, 3) := dk_199 0 11 (dk_at dksJ4_deleteEntry_7 3 rfl rfl)
theorem dJ4_deleteEntry_171 : decode cJ4_deleteEntry 171 = .ok (.aload_n 0, 1) := dk_42 (dk_at dksJ4_deleteEntry_7 6 rfl rfl)
theorem dJ4_deleteEntry_172 : decode cJ4_deleteEntry 172 = .ok (.aconst_null, 1) := dk_1 (dk_at dksJ4_deleteEntry_7 7 rfl rfl)
theorem dJ4_deleteEntry_173 : decode cJ4_deleteEntry 173 = .ok (.putfield 101, 3) := dk_181 0 101 (dk_at dksJ4_deleteEntry_7 8 rfl rfl)
theorem dJ4_deleteEntry_176 : decode cJ4_deleteEntry 176 = .ok (.goto 69, 3) := dk_167 0 69 (dk_at dksJ4_deleteEntry_7 11 rfl rfl)
theorem dJ4_deleteEntry_179 : decode cJ4_deleteEntry 179 = .ok (.aload_n 1, 1) := dk_43 (dk_at dksJ4_deleteEntry_7 14 rfl rfl)
theorem dJ4_deleteEntry_180 : decode cJ4_deleteEntry 180 = .ok (.getfield 290, 3) := dk_180 1 34 (dk_at dksJ4_deleteEntry_7 15 rfl rfl)
theorem dJ4_deleteEntry_183 : decode cJ4_deleteEntry 183 = .ok (.iconst 1, 1) := dk_4 (dk_at dksJ4_deleteEntry_7 18 rfl rfl)
theorem dJ4_deleteEntry_184 : decode cJ4_deleteEntry 184 = .ok (.if_icmp .ne 8, 3) := dk_160 0 8 (dk_at dksJ4_deleteEntry_7 19 rfl rfl)
theorem dJ4_deleteEntry_187 : decode cJ4_deleteEntry 187 = .ok (.aload_n 0, 1) := dk_42 (dk_at dksJ4_deleteEntry_7 22 rfl rfl)
theorem dJ4_deleteEntry_188 : decode cJ4_deleteEntry 188 = .ok (.aload_n 1, 1) := dk_43 (dk_at dksJ4_deleteEntry_7 23 rfl rfl)
theorem dJ4_deleteEntry_189 : decode cJ4_deleteEntry 189 = .ok (.invokevirtual 317, 3) := dk_182 1 61 (dk_at dksJ4_deleteEntry_8 0 rfl rfl)
theorem dJ4_deleteEntry_192 : decode cJ4_deleteEntry 192 = .ok (.aload_n 1, 1) := dk_43 (dk_at dksJ4_deleteEntry_8 3 rfl rfl)
theorem dJ4_deleteEntry_193 : decode cJ4_deleteEntry 193 = .ok (.getfield 124, 3) := dk_180 0 124 (dk_at dksJ4_deleteEntry_8 4 rfl rfl)
theorem dJ4_deleteEntry_196 : decode cJ4_deleteEntry 196 = .ok (.ifnull 49, 3) := dk_198 0 49 (dk_at dksJ4_deleteEntry_8 7 rfl rfl)
theorem dJ4_deleteEntry_199 : decode cJ4_deleteEntry 199 = .ok (.aload_n 1, 1) := dk_43 (dk_at dksJ4_deleteEntry_8 10 rfl rfl)
theorem dJ4_deleteEntry_200 : decode cJ4_deleteEntry 200 = .ok (.aload_n 1, 1) := dk_43 (dk_at dksJ4_deleteEntry_8 11 rfl rfl)
theorem dJ4_deleteEntry_201 : decode cJ4_deleteEntry 201 = .ok (.getfield 124, 3) := dk_180 0 124 (dk_at dksJ4_deleteEntry_8 12 rfl rfl)
theorem dJ4_deleteEntry_204 : decode cJ4_deleteEntry 204 = .ok (.getfield 111, 3) := dk_180 0 111 (dk_at dksJ4_deleteEntry_8 15 rfl rfl)
theorem dJ4_deleteEntry_207 : decode cJ4_deleteEntry 207 = .ok (.if_acmp .ne 14, 3) := dk_166 0 14 (dk_at dksJ4_deleteEntry_8 18 rfl rfl)
theorem dJ4_deleteEntry_210 : decode cJ4_deleteEntry 210 = .ok (.aload_n 1, 1) := dk_43 (dk_at dksJ4_deleteEntry_8 21 rfl rfl)
theorem dJ4_deleteEntry_211 : decode cJ4_deleteEntry 211 = .ok (.getfield 124, 3) := dk_180 0 124 (dk_at dksJ4_deleteEntry_9 0 rfl rfl)
theorem dJ4_deleteEntry_214 : decode cJ4_deleteEntry 214 = .ok (.aconst_null, 1) := dk_1 (dk_at dksJ4_deleteEntry_9 3 rfl rfl)
theorem dJ4_deleteEntry_215 : decode cJ4_deleteEntry 215 = .ok (.putfield 111, 3) := dk_181 0 111 (dk_at dksJ4_deleteEntry_9 4 rfl rfl)
theorem dJ4_deleteEntry_218 : decode cJ4_deleteEntry 218 = .ok (.goto 22, 3) := dk_167 0 22 (dk_at dksJ4_deleteEntry_9 7 rfl rfl)
theorem dJ4_deleteEntry_221 : decode cJ4_deleteEntry 221 = .ok (.aload_n 1, 1) := dk_43 (dk_at dksJ4_deleteEntry_9 10 rfl rfl)
theorem dJ4_deleteEntry_222 : decode cJ4_deleteEntry 222 = .ok (.aload_n 1, 1) := dk_43 (dk_at dksJ4_deleteEntry_9 11 rfl rfl)
theorem dJ4_deleteEntry_223 : decode cJ4_deleteEntry 223 = .ok (.getfield 124, 3) := dk_180 0 124 (dk_at dksJ4_deleteEntry_9 12 rfl rfl)
theorem dJ4_deleteEntry_226 : decode cJ4_deleteEntry 226 = .ok (.getfield 114, 3) := dk_180 0 114 (dk_at dksJ4_deleteEntry_9 15 rfl rfl)
theorem dJ4_deleteEntry_229 : decode cJ4_deleteEntry 229 = .ok (.if_acmp .ne 11, 3) := dk_166 0 11 (dk_at dksJ4_deleteEntry_9 18 rfl rfl)
theorem dJ4_deleteEntry_232 : decode cJ4_deleteEntry 232 = .ok (.aload_n 1, 1) := dk_43 (dk_at dksJ4_deleteEntry_9 21 rfl rfl)
theorem dJ4_deleteEntry_233 : decode cJ4_deleteEntry 233 = .ok (.getfield 124, 3) := dk_180 0 124 (dk_at dksJ4_deleteEntry_10 0 rfl rfl)
theorem dJ4_deleteEntry_236 : decode cJ4_deleteEntry 236 = .ok (.aconst_null, 1) := dk_1 (dk_at dksJ4_deleteEntry_10 3 rfl rfl)
theorem dJ4_deleteEntry_237 : decode cJ4_deleteEntry 237 = .ok (.putfield 114, 3) := dk_181 0 114 (dk_at dksJ4_deleteEntry_10 4 rfl rfl)
theorem dJ4_deleteEntry_240 : decode cJ4_deleteEntry 240 = .ok (.aload_n 1, 1) := dk_43 (dk_at dksJ4_deleteEntry_10 7 rfl rfl)
theorem dJ4_deleteEntry_241 : decode cJ4_deleteEntry 241 = .ok (.aconst_null, 1) := dk_1 (dk_at dksJ4_deleteEntry_10 8 rfl rfl)
theorem dJ4_deleteEntry_242 : decode cJ4_deleteEntry 242 = .ok (.putfield 124, 3) := dk_181 0 124 (dk_at dksJ4_deleteEntry_10 9 rfl rfl)
theorem dJ4_deleteEntry_245 : decode cJ4_deleteEntry 245 = .ok (.return_, 1) := dk_177 (dk_at dksJ4_deleteEntry_10 12 rfl rfl)
def fJ4_deleteEntry_b245 (e : Nat → Nat) (N : Nat) (m : Mm) : Rs (Unit) := rt_ () m
def fJ4_deleteEntry_b133 (e : Nat → Nat) (N : Nat) (m : Mm) (v0 : Option Nat) (v1 : Option Nat) (v2 : Option Nat) : Rs (Unit) := pr_ m v1 16 4 none (fun m1 => pr_ m1 v1 16 3 none (fun m2 => pr_ m2 v1 16 2 none (fun m3 => gi_ m3 v1 16 5 (fun x1 => if x1 = 1 then (ck_ m3 v0 15 (bd_ (fJ4_fixAfterDeletion e N m3 v0 v2) (fun _ m4 => fJ4_deleteEntry_b245 e N m4))) else (fJ4_deleteEntry_b245 e N m3)))))
def fJ4_deleteEntry_b240 (e : Nat → Nat) (N : Nat) (m : Mm) (v1 : Option Nat) : Rs (Unit) := pr_ m v1 16 4 none (fun m1 => fJ4_deleteEntry_b245 e N m1)
def fJ4_deleteEntry_b192 (e : Nat → Nat) (N : Nat) (m : Mm) (v1 : Option Nat) : Rs (Unit) := gr_ m v1 16 4 (fun x1 => if x1 = none then (fJ4_deleteEntry_b245 e N m) else (gr_ m v1 16 4 (fun x2 => gr_ m x2 16 2 (fun x3 => if v1 = x3 then (gr_ m v1 16 4 (fun x4 => pr_ m x4 16 2 none (fun m1 => fJ4_deleteEntry_b240 e N m1 v1))) else (gr_ m v1 16 4 (fun x5 => gr_ m x5 16 3 (fun x6 => if v1 = x6 then (gr_ m v1 16 4 (fun x7 => pr_ m x7 16 3 none (fun m2 => fJ4_deleteEntry_b240 e N m2 v1))) else (fJ4_deleteEntry_b240 e N m v1))))))))
def fJ4_deleteEntry_b75 (e : Nat → Nat) (N : Nat) (m : Mm) (v0 : Option Nat) (v1 : Option Nat) (s0 : Option Nat) : Rs (Unit) := if s0 = none then (gr_ m v1 16 4 (fun x1 => if x1 = none then (pr_ m v0 15 3 none (fun m1 => fJ4_deleteEntry_b245 e N m1)) else (gi_ m v1 16 5 (fun x2 => if x2 = 1 then (ck_ m v0 15 (bd_ (fJ4_fixAfterDeletion e N m v0 v1) (fun _ m2 => fJ4_deleteEntry_b192 e N m2 v1))) else (fJ4_deleteEntry_b192 e N m v1))))) else (gr_ m v1 16 4 (fun x3 => pr_ m s0 16 4 x3 (fun m3 => gr_ m3 v1 16 4 (fun x4 => if x4 = none then (pr_ m3 v0 15 3 s0 (fun m4 => fJ4_deleteEntry_b133 e N m4 v0 v1 s0)) else (gr_ m3 v1 16 4 (fun x5 => gr_ m3 x5 16 2 (fun x6 => if v1 = x6 then (gr_ m3 v1 16 4 (fun x7 => pr_ m3 x7 16 2 s0 (fun m5 => fJ4_deleteEntry_b133 e N m5 v0 v1 s0))) else (gr_ m3 v1 16 4 (fun x8 => pr_ m3 x8 16 3 s0 (fun m6 => fJ4_deleteEntry_b133 e N m6 v0 v1 s0))))))))))
def fJ4_deleteEntry_b57 (e : Nat → Nat) (N : Nat) (m : Mm) (v0 : Option Nat) (v1 : Option Nat) : Rs (Unit) := gr_ m v1 16 2 (fun x1 => if x1 = none then (gr_ m v1 16 3 (fun x2 => fJ4_deleteEntry_b75 e N m v0 v1 x2)) else (gr_ m v1 16 2 (fun x3 => fJ4_deleteEntry_b75 e N m v0 v1 x3)))
def fJ4_deleteEntry (e : Nat → Nat) (N : Nat) (m : Mm) (v0 : Option Nat) (v1 : Option Nat) : Rs (Unit) := gi_ m v0 15 5 (fun x1 => pi_ m v0 15 5 (x1 + 1) (fun m1 => gi_ m1 v0 15 4 (fun x2 => pi_ m1 v0 15 4 (x2 - 1) (fun m2 => gr_ m2 v1 16 2 (fun x3 => if x3 = none then (fJ4_deleteEntry_b57 e N m2 v0 v1) else (gr_ m2 v1 16 3 (fun x4 => if x4 = none then (fJ4_deleteEntry_b57 e N m2 v0 v1) else (bd_ (fJ4_successor e N m2 v1) (fun x5 m3 => gr_ m3 x5 16 0 (fun x6 => pr_ m3 v1 16 0 x6 (fun m4 => gr_ m4 x5 16 1 (fun x7 => pr_ m4 v1 16 1 x7 (fun m5 => fJ4_deleteEntry_b57 e N m5 v0 x5)))))))))))))
abbrev cJ26_removeAscending : ByteArray := prog_90_method_5_code
def yJ26_removeAscending : MethodName := ⟨RJ26, "removeAscending", "()V"⟩
def dkwJ26_removeAscending_4 : List UInt8 := [180, 0, 13, 180, 0, 19, 181, 0, 25, 177]
abbrev dktJ26_removeAscending_4 : List UInt8 := dkwJ26_removeAscending_4 ++ []
def dkwJ26_removeAscending_3 : List UInt8 := [42, 180, 0, 1, 180, 0, 13, 42, 180, 0, 28, 182, 0, 69, 42, 1, 181, 0, 28, 42, 42, 180, 0, 1]
abbrev dktJ26_removeAscending_3 : List UInt8 := dkwJ26_removeAscending_3 ++ dktJ26_removeAscending_4
def dkwJ26_removeAscending_2 : List UInt8 := [180, 0, 63, 198, 0, 21, 42, 180, 0, 28, 180, 0, 66, 198, 0, 11, 42, 42, 180, 0, 28, 181, 0, 32]
abbrev dktJ26_removeAscending_2 : List UInt8 := dkwJ26_removeAscending_2 ++ dktJ26_removeAscending_3
def dkwJ26_removeAscending_1 : List UInt8 := [180, 0, 19, 42, 180, 0, 25, 159, 0, 11, 187, 0, 50, 89, 183, 0, 52, 191, 42, 180, 0, 28]
abbrev dktJ26_removeAscending_1 : List UInt8 := dkwJ26_removeAscending_1 ++ dktJ26_removeAscending_2
def dkwJ26_removeAscending_0 : List UInt8 := [42, 180, 0, 28, 199, 0, 11, 187, 0, 60, 89, 183, 0, 62, 191, 42, 180, 0, 1, 180, 0, 13]
abbrev dktJ26_removeAscending_0 : List UInt8 := dkwJ26_removeAscending_0 ++ dktJ26_removeAscending_1
theorem dksJ26_removeAscending_0 : cJ26_removeAscending.data.toList.drop 0 = dktJ26_removeAscending_0 := by decide +kernel
theorem dksJ26_removeAscending_1 : cJ26_removeAscending.data.toList.drop 22 = dktJ26_removeAscending_1 := dk_seg dksJ26_removeAscending_0 22 rfl rfl
theorem dksJ26_removeAscending_2 : cJ26_removeAscending.data.toList.drop 44 = dktJ26_removeAscending_2 := dk_seg dksJ26_removeAscending_1 22 rfl rfl
theorem dksJ26_removeAscending_3 : cJ26_removeAscending.data.toList.drop 68 = dktJ26_removeAscending_3 := dk_seg dksJ26_removeAscending_2 24 rfl rfl
theorem dksJ26_removeAscending_4 : cJ26_removeAscending.data.toList.drop 92 = dktJ26_removeAscending_4 := dk_seg dksJ26_removeAscending_3 24 rfl rfl
theorem dJ26_removeAscending_0 : decode cJ26_removeAscending 0 = .ok (.aload_n 0, 1) := dk_42 (dk_at dksJ26_removeAscending_0 0 rfl rfl)
theorem dJ26_removeAscending_1 : decode cJ26_removeAscending 1 = .ok (.getfield 28, 3) := dk_180 0 28 (dk_at dksJ26_removeAscending_0 1 rfl rfl)
theorem dJ26_removeAscending_4 : decode cJ26_removeAscending 4 = .ok (.ifnonnull 11, 3) := dk_199 0 11 (dk_at dksJ26_removeAscending_0 4 rfl rfl)
theorem dJ26_removeAscending_7 : decode cJ26_removeAscending 7 = .ok (.new 60, 3) := dk_187 0 60 (dk_at dksJ26_removeAscending_0 7 rfl rfl)
theorem dJ26_removeAscending_10 : decode cJ26_removeAscending 10 = .ok (.dup, 1) := dk_89 (dk_at dksJ26_removeAscending_0 10 rfl rfl)
theorem dJ26_removeAscending_11 : decode cJ26_removeAscending 11 = .ok (.invokespecial 62, 3) := dk_183 0 62 (dk_at dksJ26_removeAscending_0 11 rfl rfl)
theorem dJ26_removeAscending_14 : decode cJ26_removeAscending 14 = .ok (.athrow, 1) := dk_191 (dk_at dksJ26_removeAscending_0 14 rfl rfl)
theorem dJ26_removeAscending_15 : decode cJ26_removeAscending 15 = .ok (.aload_n 0, 1) := dk_42 (dk_at dksJ26_removeAscending_0 15 rfl rfl)
theorem dJ26_removeAscending_16 : decode cJ26_removeAscending 16 = .ok (.getfield 1, 3) := dk_180 0 1 (dk_at dksJ26_removeAscending_0 16 rfl rfl)
theorem dJ26_removeAscending_19 : decode cJ26_removeAscending 19 = .ok (.getfield 13, 3) := dk_180 0 13 (dk_at dksJ26_removeAscending_0 19 rfl rfl)
theorem dJ26_removeAscending_22 : decode cJ26_removeAscending 22 = .ok (.getfield 19, 3) := dk_180 0 19 (dk_at dksJ26_removeAscending_1 0 rfl rfl)
theorem dJ26_removeAscending_25 : decode cJ26_removeAscending 25 = .ok (.aload_n 0, 1) := dk_42 (dk_at dksJ26_removeAscending_1 3 rfl rfl)
theorem dJ26_removeAscending_26 : decode cJ26_removeAscending 26 = .ok (.getfield 25, 3) := dk_180 0 25 (dk_at dksJ26_removeAscending_1 4 rfl rfl)
theorem dJ26_removeAscending_29 : decode cJ26_removeAscending 29 = .ok (.if_icmp .eq 11, 3) := dk_159 0 11 (dk_at dksJ26_removeAscending_1 7 rfl rfl)
theorem dJ26_removeAscending_32 : decode cJ26_removeAscending 32 = .ok (.new 50, 3) := dk_187 0 50 (dk_at dksJ26_removeAscending_1 10 rfl rfl)
theorem dJ26_removeAscending_35 : decode cJ26_removeAscending 35 = .ok (.dup, 1) := dk_89 (dk_at dksJ26_removeAscending_1 13 rfl rfl)
theorem dJ26_removeAscending_36 : decode cJ26_removeAscending 36 = .ok (.invokespecial 52, 3) := dk_183 0 52 (dk_at dksJ26_removeAscending_1 14 rfl rfl)
theorem dJ26_removeAscending_39 : decode cJ26_removeAscending 39 = .ok (.athrow, 1) := dk_191 (dk_at dksJ26_removeAscending_1 17 rfl rfl)
theorem dJ26_removeAscending_40 : decode cJ26_removeAscending 40 = .ok (.aload_n 0, 1) := dk_42 (dk_at dksJ26_removeAscending_1 18 rfl rfl)
theorem dJ26_removeAscending_41 : decode cJ26_removeAscending 41 = .ok (.getfield 28, 3) := dk_180 0 28 (dk_at dksJ26_removeAscending_1 19 rfl rfl)
theorem dJ26_removeAscending_44 : decode cJ26_removeAscending 44 = .ok (.getfield 63, 3) := dk_180 0 63 (dk_at dksJ26_removeAscending_2 0 rfl rfl)
theorem dJ26_removeAscending_47 : decode cJ26_removeAscending 47 = .ok (.ifnull 21, 3) := dk_198 0 21 (dk_at dksJ26_removeAscending_2 3 rfl rfl)
theorem dJ26_removeAscending_50 : decode cJ26_removeAscending 50 = .ok (.aload_n 0, 1) := dk_42 (dk_at dksJ26_removeAscending_2 6 rfl rfl)
theorem dJ26_removeAscending_51 : decode cJ26_removeAscending 51 = .ok (.getfield 28, 3) := dk_180 0 28 (dk_at dksJ26_removeAscending_2 7 rfl rfl)
theorem dJ26_removeAscending_54 : decode cJ26_removeAscending 54 = .ok (.getfield 66, 3) := dk_180 0 66 (dk_at dksJ26_removeAscending_2 10 rfl rfl)
theorem dJ26_removeAscending_57 : decode cJ26_removeAscending 57 = .ok (.ifnull 11, 3) := dk_198 0 11 (dk_at dksJ26_removeAscending_2 13 rfl rfl)
theorem dJ26_removeAscending_60 : decode cJ26_removeAscending 60 = .ok (.aload_n 0, 1) := dk_42 (dk_at dksJ26_removeAscending_2 16 rfl rfl)
theorem dJ26_removeAscending_61 : decode cJ26_removeAscending 61 = .ok (.aload_n 0, 1) := dk_42 (dk_at dksJ26_removeAscending_2 17 rfl rfl)
theorem dJ26_removeAscending_62 : decode cJ26_removeAscending 62 = .ok (.getfield 28, 3) := dk_180 0 28 (dk_at dksJ26_removeAscending_2 18 rfl rfl)
theorem dJ26_removeAscending_65 : decode cJ26_removeAscending 65 = .ok (.putfield 32, 3) := dk_181 0 32 (dk_at dksJ26_removeAscending_2 21 rfl rfl)
theorem dJ26_removeAscending_68 : decode cJ26_removeAscending 68 = .ok (.aload_n 0, 1) := dk_42 (dk_at dksJ26_removeAscending_3 0 rfl rfl)
theorem dJ26_removeAscending_69 : decode cJ26_removeAscending 69 = .ok (.getfield 1, 3) := dk_180 0 1 (dk_at dksJ26_removeAscending_3 1 rfl rfl)
theorem dJ26_removeAscending_72 : decode cJ26_removeAscending 72 = .ok (.getfield 13, 3) := dk_180 0 13 (dk_at dksJ26_removeAscending_3 4 rfl rfl)
theorem dJ26_removeAscending_75 : decode cJ26_removeAscending 75 = .ok (.aload_n 0, 1) := dk_42 (dk_at dksJ26_removeAscending_3 7 rfl rfl)
theorem dJ26_removeAscending_76 : decode cJ26_removeAscending 76 = .ok (.getfield 28, 3) := dk_180 0 28 (dk_at dksJ26_removeAscending_3 8 rfl rfl)
theorem dJ26_removeAscending_79 : decode cJ26_removeAscending 79 = .ok (.invokevirtual 69, 3) := dk_182 0 69 (dk_at dksJ26_removeAscending_3 11 rfl rfl)
theorem dJ26_removeAscending_82 : decode cJ26_removeAscending 82 = .ok (.aload_n 0, 1) := dk_42 (dk_at dksJ26_removeAscending_3 14 rfl rfl)
theorem dJ26_removeAscending_83 : decode cJ26_removeAscending 83 = .ok (.aconst_null, 1) := dk_1 (dk_at dksJ26_removeAscending_3 15 rfl rfl)
theorem dJ26_removeAscending_84 : decode cJ26_removeAscending 84 = .ok (.putfield 28, 3) := dk_181 0 28 (dk_at dksJ26_removeAscending_3 16 rfl rfl)
theorem dJ26_removeAscending_87 : decode cJ26_removeAscending 87 = .ok (.aload_n 0, 1) := dk_42 (dk_at dksJ26_removeAscending_3 19 rfl rfl)
theorem dJ26_removeAscending_88 : decode cJ26_removeAscending 88 = .ok (.aload_n 0, 1) := dk_42 (dk_at dksJ26_removeAscending_3 20 rfl rfl)
theorem dJ26_removeAscending_89 : decode cJ26_removeAscending 89 = .ok (.getfield 1, 3) := dk_180 0 1 (dk_at dksJ26_removeAscending_3 21 rfl rfl)
theorem dJ26_removeAscending_92 : decode cJ26_removeAscending 92 = .ok (.getfield 13, 3) := dk_180 0 13 (dk_at dksJ26_removeAscending_4 0 rfl rfl)
theorem dJ26_removeAscending_95 : decode cJ26_removeAscending 95 = .ok (.getfield 19, 3) := dk_180 0 19 (dk_at dksJ26_removeAscending_4 3 rfl rfl)
theorem dJ26_removeAscending_98 : decode cJ26_removeAscending 98 = .ok (.putfield 25, 3) := dk_181 0 25 (dk_at dksJ26_removeAscending_4 6 rfl rfl)
theorem dJ26_removeAscending_101 : decode cJ26_removeAscending 101 = .ok (.return_, 1) := dk_177 (dk_at dksJ26_removeAscending_4 9 rfl rfl)
def fJ26_removeAscending_t23_b68 (e : Nat → Nat) (N : Nat) (m : Mm) (v0 : Option Nat) : Rs (Unit) := gr_ m v0 23 4 (fun x1 => gr_ m x1 21 0 (fun x2 => gr_ m v0 23 0 (fun x3 => ck_ m x2 15 (bd_ (fJ4_deleteEntry e N m x2 x3) (fun _ m1 => pr_ m1 v0 23 0 none (fun m2 => gr_ m2 v0 23 4 (fun x4 => gr_ m2 x4 21 0 (fun x5 => gi_ m2 x5 15 5 (fun x6 => pi_ m2 v0 23 3 x6 (fun m3 => rt_ () m3))))))))))
def fJ26_removeAscending_t23 (e : Nat → Nat) (N : Nat) (m : Mm) (v0 : Option Nat) : Rs (Unit) := gr_ m v0 23 0 (fun x1 => if x1 = none then (none) else (gr_ m v0 23 4 (fun x2 => gr_ m x2 21 0 (fun x3 => gi_ m x3 15 5 (fun x4 => gi_ m v0 23 3 (fun x5 => if x4 = x5 then (gr_ m v0 23 0 (fun x6 => gr_ m x6 16 2 (fun x7 => if x7 = none then (fJ26_removeAscending_t23_b68 e N m v0) else (gr_ m v0 23 0 (fun x8 => gr_ m x8 16 3 (fun x9 => if x9 = none then (fJ26_removeAscending_t23_b68 e N m v0) else (gr_ m v0 23 0 (fun x10 => pr_ m v0 23 1 x10 (fun m1 => fJ26_removeAscending_t23_b68 e N m1 v0))))))))) else (none)))))))
abbrev cJ27_remove : ByteArray := prog_89_method_3_code
def yJ27_remove : MethodName := ⟨RJ27, "remove", "()V"⟩
theorem dJ27_remove_0 : decode cJ27_remove 0 = .ok (.aload_n 0, 1) := by decide +kernel
theorem dJ27_remove_1 : decode cJ27_remove 1 = .ok (.invokevirtual 13, 3) := by decide +kernel
theorem dJ27_remove_4 : decode cJ27_remove 4 = .ok (.return_, 1) := by decide +kernel
def fJ27_remove (e : Nat → Nat) (N : Nat) (m : Mm) (v0 : Option Nat) : Rs (Unit) := ck_ m v0 23 (bd_ (fJ26_removeAscending_t23 e N m v0) (fun _ m1 => rt_ () m1))
def fJ26_init_t23_b45 (e : Nat → Nat) (N : Nat) (m : Mm) (s0 : Option Nat) (s1 : Option Nat) : Rs (Unit) := pr_ m s0 23 2 s1 (fun m1 => rt_ () m1)
def fJ26_init_t23 (e : Nat → Nat) (N : Nat) (m : Mm) (v0 : Option Nat) (v1 : Option Nat) (v2 : Option Nat) (v3 : Option Nat) : Rs (Unit) := pr_ m v0 23 4 v1 (fun m1 => ok_ v0 (gr_ m1 v1 21 0 (fun x1 => gi_ m1 x1 15 5 (fun x2 => pi_ m1 v0 23 3 x2 (fun m2 => pr_ m2 v0 23 0 none (fun m3 => pr_ m3 v0 23 1 v2 (fun m4 => if v3 = none then (fJ26_init_t23_b45 e N m4 v0 (some (e 3))) else (gr_ m4 v3 16 0 (fun x3 => fJ26_init_t23_b45 e N m4 v0 x3)))))))))
abbrev cJ27_init : ByteArray := prog_89_method_1_code
def yJ27_init : MethodName := ⟨RJ27, "<init>", "(Ljava/util/TreeMap$NavigableSubMap;Ljava/util/TreeMap$Entry;Ljava/util/TreeMap$Entry;)V"⟩
def dkwJ27_init_0 : List UInt8 := [42, 43, 44, 45, 183, 0, 1, 177]
abbrev dktJ27_init_0 : List UInt8 := dkwJ27_init_0 ++ []
theorem dksJ27_init_0 : cJ27_init.data.toList.drop 0 = dktJ27_init_0 := by decide +kernel
theorem dJ27_init_0 : decode cJ27_init 0 = .ok (.aload_n 0, 1) := dk_42 (dk_at dksJ27_init_0 0 rfl rfl)
theorem dJ27_init_1 : decode cJ27_init 1 = .ok (.aload_n 1, 1) := dk_43 (dk_at dksJ27_init_0 1 rfl rfl)
theorem dJ27_init_2 : decode cJ27_init 2 = .ok (.aload_n 2, 1) := dk_44 (dk_at dksJ27_init_0 2 rfl rfl)
theorem dJ27_init_3 : decode cJ27_init 3 = .ok (.aload_n 3, 1) := dk_45 (dk_at dksJ27_init_0 3 rfl rfl)
theorem dJ27_init_4 : decode cJ27_init 4 = .ok (.invokespecial 1, 3) := dk_183 0 1 (dk_at dksJ27_init_0 4 rfl rfl)
theorem dJ27_init_7 : decode cJ27_init 7 = .ok (.return_, 1) := dk_177 (dk_at dksJ27_init_0 7 rfl rfl)
def fJ27_init (e : Nat → Nat) (N : Nat) (m : Mm) (v0 : Option Nat) (v1 : Option Nat) (v2 : Option Nat) (v3 : Option Nat) : Rs (Unit) := ok_ v0 (bd_ (fJ26_init_t23 e N m v0 v1 v2 v3) (fun _ m1 => rt_ () m1))
abbrev cJ41_iterator : ByteArray := prog_81_method_2_code
def yJ41_iterator : MethodName := ⟨RJ41, "iterator", "()Ljava/util/Iterator;"⟩
def dkwJ41_iterator_1 : List UInt8 := [183, 0, 24, 176]
abbrev dktJ41_iterator_1 : List UInt8 := dkwJ41_iterator_1 ++ []
def dkwJ41_iterator_0 : List UInt8 := [187, 0, 13, 89, 42, 180, 0, 1, 42, 180, 0, 1, 182, 0, 15, 42, 180, 0, 1, 182, 0, 21]
abbrev dktJ41_iterator_0 : List UInt8 := dkwJ41_iterator_0 ++ dktJ41_iterator_1
theorem dksJ41_iterator_0 : cJ41_iterator.data.toList.drop 0 = dktJ41_iterator_0 := by decide +kernel
theorem dksJ41_iterator_1 : cJ41_iterator.data.toList.drop 22 = dktJ41_iterator_1 := dk_seg dksJ41_iterator_0 22 rfl rfl
theorem dJ41_iterator_0 : decode cJ41_iterator 0 = .ok (.new 13, 3) := dk_187 0 13 (dk_at dksJ41_iterator_0 0 rfl rfl)
theorem dJ41_iterator_3 : decode cJ41_iterator 3 = .ok (.dup, 1) := dk_89 (dk_at dksJ41_iterator_0 3 rfl rfl)
theorem dJ41_iterator_4 : decode cJ41_iterator 4 = .ok (.aload_n 0, 1) := dk_42 (dk_at dksJ41_iterator_0 4 rfl rfl)
theorem dJ41_iterator_5 : decode cJ41_iterator 5 = .ok (.getfield 1, 3) := dk_180 0 1 (dk_at dksJ41_iterator_0 5 rfl rfl)
theorem dJ41_iterator_8 : decode cJ41_iterator 8 = .ok (.aload_n 0, 1) := dk_42 (dk_at dksJ41_iterator_0 8 rfl rfl)
theorem dJ41_iterator_9 : decode cJ41_iterator 9 = .ok (.getfield 1, 3) := dk_180 0 1 (dk_at dksJ41_iterator_0 9 rfl rfl)
theorem dJ41_iterator_12 : decode cJ41_iterator 12 = .ok (.invokevirtual 15, 3) := dk_182 0 15 (dk_at dksJ41_iterator_0 12 rfl rfl)
theorem dJ41_iterator_15 : decode cJ41_iterator 15 = .ok (.aload_n 0, 1) := dk_42 (dk_at dksJ41_iterator_0 15 rfl rfl)
theorem dJ41_iterator_16 : decode cJ41_iterator 16 = .ok (.getfield 1, 3) := dk_180 0 1 (dk_at dksJ41_iterator_0 16 rfl rfl)
theorem dJ41_iterator_19 : decode cJ41_iterator 19 = .ok (.invokevirtual 21, 3) := dk_182 0 21 (dk_at dksJ41_iterator_0 19 rfl rfl)
theorem dJ41_iterator_22 : decode cJ41_iterator 22 = .ok (.invokespecial 24, 3) := dk_183 0 24 (dk_at dksJ41_iterator_1 0 rfl rfl)
theorem dJ41_iterator_25 : decode cJ41_iterator 25 = .ok (.areturn, 1) := dk_176 (dk_at dksJ41_iterator_1 3 rfl rfl)
def fJ41_iterator (e : Nat → Nat) (N : Nat) (m : Mm) (v0 : Option Nat) : Rs (Option Nat) := nw_ m 23 5 (fun x1 m1 => gr_ m1 v0 22 3 (fun x2 => gr_ m1 v0 22 3 (fun x3 => ck_ m1 x3 21 (bd_ (fJ38_absLowest_t21 e N m1 x3) (fun x4 m2 => gr_ m2 v0 22 3 (fun x5 => ck_ m2 x5 21 (bd_ (fJ38_absHighFence_t21 e N m2 x5) (fun x6 m3 => bd_ (fJ27_init e N m3 (some x1) x2 x4 x6) (fun _ m4 => rt_ (some x1) m4)))))))))
abbrev cJ0_clear : ByteArray := prog_53_method_15_code
def yJ0_clear : MethodName := ⟨RJ0, "clear", "()V"⟩
def dkwJ0_clear_1 : List UInt8 := [185, 0, 73, 1, 0, 167, 255, 234, 177]
abbrev dktJ0_clear_1 : List UInt8 := dkwJ0_clear_1 ++ []
def dkwJ0_clear_0 : List UInt8 := [42, 182, 0, 13, 76, 43, 185, 0, 17, 1, 0, 153, 0, 19, 43, 185, 0, 23, 1, 0, 87, 43]
abbrev dktJ0_clear_0 : List UInt8 := dkwJ0_clear_0 ++ dktJ0_clear_1
theorem dksJ0_clear_0 : cJ0_clear.data.toList.drop 0 = dktJ0_clear_0 := by decide +kernel
theorem dksJ0_clear_1 : cJ0_clear.data.toList.drop 22 = dktJ0_clear_1 := dk_seg dksJ0_clear_0 22 rfl rfl
theorem dJ0_clear_0 : decode cJ0_clear 0 = .ok (.aload_n 0, 1) := dk_42 (dk_at dksJ0_clear_0 0 rfl rfl)
theorem dJ0_clear_1 : decode cJ0_clear 1 = .ok (.invokevirtual 13, 3) := dk_182 0 13 (dk_at dksJ0_clear_0 1 rfl rfl)
theorem dJ0_clear_4 : decode cJ0_clear 4 = .ok (.astore_n 1, 1) := dk_76 (dk_at dksJ0_clear_0 4 rfl rfl)
theorem dJ0_clear_5 : decode cJ0_clear 5 = .ok (.aload_n 1, 1) := dk_43 (dk_at dksJ0_clear_0 5 rfl rfl)
theorem dJ0_clear_6 : decode cJ0_clear 6 = .ok (.invokeinterface 17 1, 5) := by decide +kernel
theorem dJ0_clear_11 : decode cJ0_clear 11 = .ok (.ifCond .eq 19, 3) := dk_153 0 19 (dk_at dksJ0_clear_0 11 rfl rfl)
theorem dJ0_clear_14 : decode cJ0_clear 14 = .ok (.aload_n 1, 1) := dk_43 (dk_at dksJ0_clear_0 14 rfl rfl)
theorem dJ0_clear_15 : decode cJ0_clear 15 = .ok (.invokeinterface 23 1, 5) := by decide +kernel
theorem dJ0_clear_20 : decode cJ0_clear 20 = .ok (.pop, 1) := dk_87 (dk_at dksJ0_clear_0 20 rfl rfl)
theorem dJ0_clear_21 : decode cJ0_clear 21 = .ok (.aload_n 1, 1) := dk_43 (dk_at dksJ0_clear_0 21 rfl rfl)
theorem dJ0_clear_22 : decode cJ0_clear 22 = .ok (.invokeinterface 73 1, 5) := by decide +kernel
theorem dJ0_clear_27 : decode cJ0_clear 27 = .ok (.goto (-22), 3) := dk_167 255 234 (dk_at dksJ0_clear_1 5 rfl rfl)
theorem dJ0_clear_30 : decode cJ0_clear 30 = .ok (.return_, 1) := dk_177 (dk_at dksJ0_clear_1 8 rfl rfl)
def fJ0_clear_t22_b5 (e : Nat → Nat) (N : Nat) : Nat → Mm → Option Nat → Rs (Unit)
  | 0, _, _ => none
  | F + 1, m, v1 => ck_ m v1 23 (bd_ (fJ26_hasNext_t23 e N m v1) (fun x1 m1 => if x1 = 0 then (rt_ () m1) else (ck_ m1 v1 23 (bd_ (fJ27_next e N m1 v1) (fun x2 m2 => ck_ m2 v1 23 (bd_ (fJ27_remove e N m2 v1) (fun _ m3 => fJ0_clear_t22_b5 e N F m3 v1)))))))
def fJ0_clear_t22 (e : Nat → Nat) (N : Nat) (m : Mm) (v0 : Option Nat) : Rs (Unit) := ck_ m v0 22 (bd_ (fJ41_iterator e N m v0) (fun x1 m1 => fJ0_clear_t22_b5 e N N m1 x1))
abbrev cJ3_clear : ByteArray := prog_55_method_10_code
def yJ3_clear : MethodName := ⟨RJ3, "clear", "()V"⟩
def dkwJ3_clear_0 : List UInt8 := [42, 182, 0, 7, 185, 0, 59, 1, 0, 177]
abbrev dktJ3_clear_0 : List UInt8 := dkwJ3_clear_0 ++ []
theorem dksJ3_clear_0 : cJ3_clear.data.toList.drop 0 = dktJ3_clear_0 := by decide +kernel
theorem dJ3_clear_0 : decode cJ3_clear 0 = .ok (.aload_n 0, 1) := dk_42 (dk_at dksJ3_clear_0 0 rfl rfl)
theorem dJ3_clear_1 : decode cJ3_clear 1 = .ok (.invokevirtual 7, 3) := dk_182 0 7 (dk_at dksJ3_clear_0 1 rfl rfl)
theorem dJ3_clear_4 : decode cJ3_clear 4 = .ok (.invokeinterface 59 1, 5) := by decide +kernel
theorem dJ3_clear_9 : decode cJ3_clear 9 = .ok (.return_, 1) := dk_177 (dk_at dksJ3_clear_0 9 rfl rfl)
def fJ3_clear_t21 (e : Nat → Nat) (N : Nat) (m : Mm) (v0 : Option Nat) : Rs (Unit) := ck_ m v0 21 (bd_ (fJ39_entrySet e N m v0) (fun x1 m1 => ck_ m1 x1 22 (bd_ (fJ0_clear_t22 e N m1 x1) (fun _ m2 => rt_ () m2))))
abbrev cX3_comes : ByteArray := prog_7_method_5_code
def yX3_comes : MethodName := ⟨RX3, "comes", "(II)V"⟩
def dkwX3_comes_2 : List UInt8 := [182, 0, 84, 87, 177]
abbrev dktX3_comes_2 : List UInt8 := dkwX3_comes_2 ++ []
def dkwX3_comes_1 : List UInt8 := [185, 0, 75, 1, 0, 42, 180, 0, 25, 42, 27, 28, 182, 0, 80, 184, 0, 58, 28, 184, 0, 58]
abbrev dktX3_comes_1 : List UInt8 := dkwX3_comes_1 ++ dktX3_comes_2
def dkwX3_comes_0 : List UInt8 := [42, 180, 0, 35, 27, 185, 0, 46, 2, 0, 192, 0, 52, 180, 0, 68, 153, 0, 13, 42, 27, 182, 0, 71]
abbrev dktX3_comes_0 : List UInt8 := dkwX3_comes_0 ++ dktX3_comes_1
theorem dksX3_comes_0 : cX3_comes.data.toList.drop 0 = dktX3_comes_0 := by decide +kernel
theorem dksX3_comes_1 : cX3_comes.data.toList.drop 24 = dktX3_comes_1 := dk_seg dksX3_comes_0 24 rfl rfl
theorem dksX3_comes_2 : cX3_comes.data.toList.drop 46 = dktX3_comes_2 := dk_seg dksX3_comes_1 22 rfl rfl
theorem dX3_comes_0 : decode cX3_comes 0 = .ok (.aload_n 0, 1) := dk_42 (dk_at dksX3_comes_0 0 rfl rfl)
theorem dX3_comes_1 : decode cX3_comes 1 = .ok (.getfield 35, 3) := dk_180 0 35 (dk_at dksX3_comes_0 1 rfl rfl)
theorem dX3_comes_4 : decode cX3_comes 4 = .ok (.iload_n 1, 1) := dk_27 (dk_at dksX3_comes_0 4 rfl rfl)
theorem dX3_comes_5 : decode cX3_comes 5 = .ok (.invokeinterface 46 2, 5) := by decide +kernel
theorem dX3_comes_10 : decode cX3_comes 10 = .ok (.checkcast 52, 3) := dk_192 0 52 (dk_at dksX3_comes_0 10 rfl rfl)
theorem dX3_comes_13 : decode cX3_comes 13 = .ok (.getfield 68, 3) := dk_180 0 68 (dk_at dksX3_comes_0 13 rfl rfl)
theorem dX3_comes_16 : decode cX3_comes 16 = .ok (.ifCond .eq 13, 3) := dk_153 0 13 (dk_at dksX3_comes_0 16 rfl rfl)
theorem dX3_comes_19 : decode cX3_comes 19 = .ok (.aload_n 0, 1) := dk_42 (dk_at dksX3_comes_0 19 rfl rfl)
theorem dX3_comes_20 : decode cX3_comes 20 = .ok (.iload_n 1, 1) := dk_27 (dk_at dksX3_comes_0 20 rfl rfl)
theorem dX3_comes_21 : decode cX3_comes 21 = .ok (.invokevirtual 71, 3) := dk_182 0 71 (dk_at dksX3_comes_0 21 rfl rfl)
theorem dX3_comes_24 : decode cX3_comes 24 = .ok (.invokeinterface 75 1, 5) := by decide +kernel
theorem dX3_comes_29 : decode cX3_comes 29 = .ok (.aload_n 0, 1) := dk_42 (dk_at dksX3_comes_1 5 rfl rfl)
theorem dX3_comes_30 : decode cX3_comes 30 = .ok (.getfield 25, 3) := dk_180 0 25 (dk_at dksX3_comes_1 6 rfl rfl)
theorem dX3_comes_33 : decode cX3_comes 33 = .ok (.aload_n 0, 1) := dk_42 (dk_at dksX3_comes_1 9 rfl rfl)
theorem dX3_comes_34 : decode cX3_comes 34 = .ok (.iload_n 1, 1) := dk_27 (dk_at dksX3_comes_1 10 rfl rfl)
theorem dX3_comes_35 : decode cX3_comes 35 = .ok (.iload_n 2, 1) := dk_28 (dk_at dksX3_comes_1 11 rfl rfl)
theorem dX3_comes_36 : decode cX3_comes 36 = .ok (.invokevirtual 80, 3) := dk_182 0 80 (dk_at dksX3_comes_1 12 rfl rfl)
theorem dX3_comes_39 : decode cX3_comes 39 = .ok (.invokestatic 58, 3) := dk_184 0 58 (dk_at dksX3_comes_1 15 rfl rfl)
theorem dX3_comes_42 : decode cX3_comes 42 = .ok (.iload_n 2, 1) := dk_28 (dk_at dksX3_comes_1 18 rfl rfl)
theorem dX3_comes_43 : decode cX3_comes 43 = .ok (.invokestatic 58, 3) := dk_184 0 58 (dk_at dksX3_comes_1 19 rfl rfl)
theorem dX3_comes_46 : decode cX3_comes 46 = .ok (.invokevirtual 84, 3) := dk_182 0 84 (dk_at dksX3_comes_2 0 rfl rfl)
theorem dX3_comes_49 : decode cX3_comes 49 = .ok (.pop, 1) := dk_87 (dk_at dksX3_comes_2 3 rfl rfl)
theorem dX3_comes_50 : decode cX3_comes 50 = .ok (.return_, 1) := dk_177 (dk_at dksX3_comes_2 4 rfl rfl)
def fX3_comes_b29 (e : Nat → Nat) (N : Nat) (m : Mm) (v0 : Option Nat) (v1 : Int32) (v2 : Int32) : Rs (Unit) := gr_ m v0 3 7 (fun x1 => ck_ m v0 3 (bd_ (fX3_place e N m v0 v1 v2) (fun x2 m1 => bd_ (fJ21_valueOf e N m1 x2) (fun x3 m2 => bd_ (fJ21_valueOf e N m2 v2) (fun x4 m3 => ck_ m3 x1 15 (bd_ (fJ4_put e N m3 x1 x3 x4) (fun x5 m4 => rt_ () m4)))))))
def fX3_comes (e : Nat → Nat) (N : Nat) (m : Mm) (v0 : Option Nat) (v1 : Int32) (v2 : Int32) : Rs (Unit) := gr_ m v0 3 1 (fun x1 => ck_ m x1 13 (bd_ (fJ2_get e N m x1 v1) (fun x2 m1 => cc_ m1 x2 [5] (gi_ m1 x2 5 0 (fun x3 => if x3 = 0 then (fX3_comes_b29 e N m1 v0 v1 v2) else (ck_ m1 v0 3 (bd_ (fX3_valuesOf e N m1 v0 v1) (fun x4 m2 => ck_ m2 x4 21 (bd_ (fJ3_clear_t21 e N m2 x4) (fun _ m3 => fX3_comes_b29 e N m3 v0 v1 v2))))))))))
abbrev cX14_does : ByteArray := prog_11_method_2_code
def yX14_does : MethodName := ⟨RX14, "does", "(LMasterTree$Change;LMasterTree$Entry;)V"⟩
def dkwX14_does_2 : List UInt8 := [25, 4, 4, 46, 182, 0, 44, 167, 255, 224, 177]
abbrev dktX14_does_2 : List UInt8 := dkwX14_does_2 ++ []
def dkwX14_does_1 : List UInt8 := [185, 0, 32, 1, 0, 153, 0, 29, 45, 185, 0, 38, 1, 0, 192, 0, 42, 58, 4, 44, 25, 4, 3, 46]
abbrev dktX14_does_1 : List UInt8 := dkwX14_does_1 ++ dktX14_does_2
def dkwX14_does_0 : List UInt8 := [44, 43, 181, 0, 7, 44, 43, 180, 0, 13, 181, 0, 19, 43, 180, 0, 22, 185, 0, 26, 1, 0, 78, 45]
abbrev dktX14_does_0 : List UInt8 := dkwX14_does_0 ++ dktX14_does_1
theorem dksX14_does_0 : cX14_does.data.toList.drop 0 = dktX14_does_0 := by decide +kernel
theorem dksX14_does_1 : cX14_does.data.toList.drop 24 = dktX14_does_1 := dk_seg dksX14_does_0 24 rfl rfl
theorem dksX14_does_2 : cX14_does.data.toList.drop 48 = dktX14_does_2 := dk_seg dksX14_does_1 24 rfl rfl
theorem dX14_does_0 : decode cX14_does 0 = .ok (.aload_n 2, 1) := dk_44 (dk_at dksX14_does_0 0 rfl rfl)
theorem dX14_does_1 : decode cX14_does 1 = .ok (.aload_n 1, 1) := dk_43 (dk_at dksX14_does_0 1 rfl rfl)
theorem dX14_does_2 : decode cX14_does 2 = .ok (.putfield 7, 3) := dk_181 0 7 (dk_at dksX14_does_0 2 rfl rfl)
theorem dX14_does_5 : decode cX14_does 5 = .ok (.aload_n 2, 1) := dk_44 (dk_at dksX14_does_0 5 rfl rfl)
theorem dX14_does_6 : decode cX14_does 6 = .ok (.aload_n 1, 1) := dk_43 (dk_at dksX14_does_0 6 rfl rfl)
theorem dX14_does_7 : decode cX14_does 7 = .ok (.getfield 13, 3) := dk_180 0 13 (dk_at dksX14_does_0 7 rfl rfl)
theorem dX14_does_10 : decode cX14_does 10 = .ok (.putfield 19, 3) := dk_181 0 19 (dk_at dksX14_does_0 10 rfl rfl)
theorem dX14_does_13 : decode cX14_does 13 = .ok (.aload_n 1, 1) := dk_43 (dk_at dksX14_does_0 13 rfl rfl)
theorem dX14_does_14 : decode cX14_does 14 = .ok (.getfield 22, 3) := dk_180 0 22 (dk_at dksX14_does_0 14 rfl rfl)
theorem dX14_does_17 : decode cX14_does 17 = .ok (.invokeinterface 26 1, 5) := by decide +kernel
theorem dX14_does_22 : decode cX14_does 22 = .ok (.astore_n 3, 1) := dk_78 (dk_at dksX14_does_0 22 rfl rfl)
theorem dX14_does_23 : decode cX14_does 23 = .ok (.aload_n 3, 1) := dk_45 (dk_at dksX14_does_0 23 rfl rfl)
theorem dX14_does_24 : decode cX14_does 24 = .ok (.invokeinterface 32 1, 5) := by decide +kernel
theorem dX14_does_29 : decode cX14_does 29 = .ok (.ifCond .eq 29, 3) := dk_153 0 29 (dk_at dksX14_does_1 5 rfl rfl)
theorem dX14_does_32 : decode cX14_does 32 = .ok (.aload_n 3, 1) := dk_45 (dk_at dksX14_does_1 8 rfl rfl)
theorem dX14_does_33 : decode cX14_does 33 = .ok (.invokeinterface 38 1, 5) := by decide +kernel
theorem dX14_does_38 : decode cX14_does 38 = .ok (.checkcast 42, 3) := dk_192 0 42 (dk_at dksX14_does_1 14 rfl rfl)
theorem dX14_does_41 : decode cX14_does 41 = .ok (.astore 4, 2) := dk_58 4 (dk_at dksX14_does_1 17 rfl rfl)
theorem dX14_does_43 : decode cX14_does 43 = .ok (.aload_n 2, 1) := dk_44 (dk_at dksX14_does_1 19 rfl rfl)
theorem dX14_does_44 : decode cX14_does 44 = .ok (.aload 4, 2) := dk_25 4 (dk_at dksX14_does_1 20 rfl rfl)
theorem dX14_does_46 : decode cX14_does 46 = .ok (.iconst 0, 1) := dk_3 (dk_at dksX14_does_1 22 rfl rfl)
theorem dX14_does_47 : decode cX14_does 47 = .ok (.iaload, 1) := dk_46 (dk_at dksX14_does_1 23 rfl rfl)
theorem dX14_does_48 : decode cX14_does 48 = .ok (.aload 4, 2) := dk_25 4 (dk_at dksX14_does_2 0 rfl rfl)
theorem dX14_does_50 : decode cX14_does 50 = .ok (.iconst 1, 1) := dk_4 (dk_at dksX14_does_2 2 rfl rfl)
theorem dX14_does_51 : decode cX14_does 51 = .ok (.iaload, 1) := dk_46 (dk_at dksX14_does_2 3 rfl rfl)
theorem dX14_does_52 : decode cX14_does 52 = .ok (.invokevirtual 44, 3) := dk_182 0 44 (dk_at dksX14_does_2 4 rfl rfl)
theorem dX14_does_55 : decode cX14_does 55 = .ok (.goto (-32), 3) := dk_167 255 224 (dk_at dksX14_does_2 7 rfl rfl)
theorem dX14_does_58 : decode cX14_does 58 = .ok (.return_, 1) := dk_177 (dk_at dksX14_does_2 10 rfl rfl)
def fX14_does_b23 (e : Nat → Nat) (N : Nat) : Nat → Mm → Option Nat → Option Nat → Rs (Unit)
  | 0, _, _, _ => none
  | F + 1, m, v2, v3 => ck_ m v3 14 (bd_ (fJ34_hasNext e N m v3) (fun x1 m1 => if x1 = 0 then (rt_ () m1) else (ck_ m1 v3 14 (bd_ (fJ34_next e N m1 v3) (fun x2 m2 => cc_ m2 x2 [200] (ai_ m2 x2 200 0 (fun x3 => ai_ m2 x2 200 1 (fun x4 => ck_ m2 v2 3 (bd_ (fX3_comes e N m2 v2 x3 x4) (fun _ m3 => fX14_does_b23 e N F m3 v2 v3))))))))))
def fX14_does (e : Nat → Nat) (N : Nat) (m : Mm) (v0 : Option Nat) (v1 : Option Nat) (v2 : Option Nat) : Rs (Unit) := pr_ m v2 3 3 v1 (fun m1 => gi_ m1 v1 7 6 (fun x1 => pi_ m1 v2 3 5 x1 (fun m2 => gr_ m2 v1 7 8 (fun x2 => ck_ m2 x2 13 (bd_ (fJ2_iterator e N m2 x2) (fun x3 m3 => fX14_does_b23 e N N m3 v2 x3))))))
abbrev cX20_does : ByteArray := prog_12_method_2_code
def yX20_does : MethodName := ⟨RX20, "does", "(LMasterTree$Change;LMasterTree$Entry;)V"⟩
def dkwX20_does_0 : List UInt8 := [44, 43, 180, 0, 7, 43, 180, 0, 13, 182, 0, 16, 177]
abbrev dktX20_does_0 : List UInt8 := dkwX20_does_0 ++ []
theorem dksX20_does_0 : cX20_does.data.toList.drop 0 = dktX20_does_0 := by decide +kernel
theorem dX20_does_0 : decode cX20_does 0 = .ok (.aload_n 2, 1) := dk_44 (dk_at dksX20_does_0 0 rfl rfl)
theorem dX20_does_1 : decode cX20_does 1 = .ok (.aload_n 1, 1) := dk_43 (dk_at dksX20_does_0 1 rfl rfl)
theorem dX20_does_2 : decode cX20_does 2 = .ok (.getfield 7, 3) := dk_180 0 7 (dk_at dksX20_does_0 2 rfl rfl)
theorem dX20_does_5 : decode cX20_does 5 = .ok (.aload_n 1, 1) := dk_43 (dk_at dksX20_does_0 5 rfl rfl)
theorem dX20_does_6 : decode cX20_does 6 = .ok (.getfield 13, 3) := dk_180 0 13 (dk_at dksX20_does_0 6 rfl rfl)
theorem dX20_does_9 : decode cX20_does 9 = .ok (.invokevirtual 16, 3) := dk_182 0 16 (dk_at dksX20_does_0 9 rfl rfl)
theorem dX20_does_12 : decode cX20_does 12 = .ok (.return_, 1) := dk_177 (dk_at dksX20_does_0 12 rfl rfl)
def fX20_does (e : Nat → Nat) (N : Nat) (m : Mm) (v0 : Option Nat) (v1 : Option Nat) (v2 : Option Nat) : Rs (Unit) := gi_ m v1 7 5 (fun x1 => gi_ m v1 7 6 (fun x2 => ck_ m v2 3 (bd_ (fX3_comes e N m v2 x1 x2) (fun _ m1 => rt_ () m1))))
abbrev cJ4_remove : ByteArray := prog_79_method_34_code
def yJ4_remove : MethodName := ⟨RJ4, "remove", "(Ljava/lang/Object;)Ljava/lang/Object;"⟩
def dkwJ4_remove_0 : List UInt8 := [42, 43, 182, 0, 50, 77, 44, 199, 0, 5, 1, 176, 44, 180, 0, 58, 78, 42, 44, 182, 0, 174, 45, 176]
abbrev dktJ4_remove_0 : List UInt8 := dkwJ4_remove_0 ++ []
theorem dksJ4_remove_0 : cJ4_remove.data.toList.drop 0 = dktJ4_remove_0 := by decide +kernel
theorem dJ4_remove_0 : decode cJ4_remove 0 = .ok (.aload_n 0, 1) := dk_42 (dk_at dksJ4_remove_0 0 rfl rfl)
theorem dJ4_remove_1 : decode cJ4_remove 1 = .ok (.aload_n 1, 1) := dk_43 (dk_at dksJ4_remove_0 1 rfl rfl)
theorem dJ4_remove_2 : decode cJ4_remove 2 = .ok (.invokevirtual 50, 3) := dk_182 0 50 (dk_at dksJ4_remove_0 2 rfl rfl)
theorem dJ4_remove_5 : decode cJ4_remove 5 = .ok (.astore_n 2, 1) := dk_77 (dk_at dksJ4_remove_0 5 rfl rfl)
theorem dJ4_remove_6 : decode cJ4_remove 6 = .ok (.aload_n 2, 1) := dk_44 (dk_at dksJ4_remove_0 6 rfl rfl)
theorem dJ4_remove_7 : decode cJ4_remove 7 = .ok (.ifnonnull 5, 3) := dk_199 0 5 (dk_at dksJ4_remove_0 7 rfl rfl)
theorem dJ4_remove_10 : decode cJ4_remove 10 = .ok (.aconst_null, 1) := dk_1 (dk_at dksJ4_remove_0 10 rfl rfl)
theorem dJ4_remove_11 : decode cJ4_remove 11 = .ok (.areturn, 1) := dk_176 (dk_at dksJ4_remove_0 11 rfl rfl)
theorem dJ4_remove_12 : decode cJ4_remove 12 = .ok (.aload_n 2, 1) := dk_44 (dk_at dksJ4_remove_0 12 rfl rfl)
theorem dJ4_remove_13 : decode cJ4_remove 13 = .ok (.getfield 58, 3) := dk_180 0 58 (dk_at dksJ4_remove_0 13 rfl rfl)
theorem dJ4_remove_16 : decode cJ4_remove 16 = .ok (.astore_n 3, 1) := dk_78 (dk_at dksJ4_remove_0 16 rfl rfl)
theorem dJ4_remove_17 : decode cJ4_remove 17 = .ok (.aload_n 0, 1) := dk_42 (dk_at dksJ4_remove_0 17 rfl rfl)
theorem dJ4_remove_18 : decode cJ4_remove 18 = .ok (.aload_n 2, 1) := dk_44 (dk_at dksJ4_remove_0 18 rfl rfl)
theorem dJ4_remove_19 : decode cJ4_remove 19 = .ok (.invokevirtual 174, 3) := dk_182 0 174 (dk_at dksJ4_remove_0 19 rfl rfl)
theorem dJ4_remove_22 : decode cJ4_remove 22 = .ok (.aload_n 3, 1) := dk_45 (dk_at dksJ4_remove_0 22 rfl rfl)
theorem dJ4_remove_23 : decode cJ4_remove 23 = .ok (.areturn, 1) := dk_176 (dk_at dksJ4_remove_0 23 rfl rfl)
def fJ4_remove (e : Nat → Nat) (N : Nat) (m : Mm) (v0 : Option Nat) (v1 : Option Nat) : Rs (Option Nat) := ck_ m v0 15 (bd_ (fJ4_getEntry e N m v0 v1) (fun x1 m1 => if x1 = none then (rt_ none m1) else (gr_ m1 x1 16 1 (fun x2 => ck_ m1 v0 15 (bd_ (fJ4_deleteEntry e N m1 v0 x1) (fun _ m2 => rt_ x2 m2))))))
abbrev cX18_does : ByteArray := prog_13_method_2_code
def yX18_does : MethodName := ⟨RX18, "does", "(LMasterTree$Change;LMasterTree$Entry;)V"⟩
def dkwX18_does_0 : List UInt8 := [44, 180, 0, 7, 44, 43, 180, 0, 13, 43, 180, 0, 19, 182, 0, 22, 184, 0, 26, 182, 0, 32, 87, 177]
abbrev dktX18_does_0 : List UInt8 := dkwX18_does_0 ++ []
theorem dksX18_does_0 : cX18_does.data.toList.drop 0 = dktX18_does_0 := by decide +kernel
theorem dX18_does_0 : decode cX18_does 0 = .ok (.aload_n 2, 1) := dk_44 (dk_at dksX18_does_0 0 rfl rfl)
theorem dX18_does_1 : decode cX18_does 1 = .ok (.getfield 7, 3) := dk_180 0 7 (dk_at dksX18_does_0 1 rfl rfl)
theorem dX18_does_4 : decode cX18_does 4 = .ok (.aload_n 2, 1) := dk_44 (dk_at dksX18_does_0 4 rfl rfl)
theorem dX18_does_5 : decode cX18_does 5 = .ok (.aload_n 1, 1) := dk_43 (dk_at dksX18_does_0 5 rfl rfl)
theorem dX18_does_6 : decode cX18_does 6 = .ok (.getfield 13, 3) := dk_180 0 13 (dk_at dksX18_does_0 6 rfl rfl)
theorem dX18_does_9 : decode cX18_does 9 = .ok (.aload_n 1, 1) := dk_43 (dk_at dksX18_does_0 9 rfl rfl)
theorem dX18_does_10 : decode cX18_does 10 = .ok (.getfield 19, 3) := dk_180 0 19 (dk_at dksX18_does_0 10 rfl rfl)
theorem dX18_does_13 : decode cX18_does 13 = .ok (.invokevirtual 22, 3) := dk_182 0 22 (dk_at dksX18_does_0 13 rfl rfl)
theorem dX18_does_16 : decode cX18_does 16 = .ok (.invokestatic 26, 3) := dk_184 0 26 (dk_at dksX18_does_0 16 rfl rfl)
theorem dX18_does_19 : decode cX18_does 19 = .ok (.invokevirtual 32, 3) := dk_182 0 32 (dk_at dksX18_does_0 19 rfl rfl)
theorem dX18_does_22 : decode cX18_does 22 = .ok (.pop, 1) := dk_87 (dk_at dksX18_does_0 22 rfl rfl)
theorem dX18_does_23 : decode cX18_does 23 = .ok (.return_, 1) := dk_177 (dk_at dksX18_does_0 23 rfl rfl)
def fX18_does (e : Nat → Nat) (N : Nat) (m : Mm) (v0 : Option Nat) (v1 : Option Nat) (v2 : Option Nat) : Rs (Unit) := gr_ m v2 3 7 (fun x1 => gi_ m v1 7 5 (fun x2 => gi_ m v1 7 6 (fun x3 => ck_ m v2 3 (bd_ (fX3_place e N m v2 x2 x3) (fun x4 m1 => bd_ (fJ21_valueOf e N m1 x4) (fun x5 m2 => ck_ m2 x1 15 (bd_ (fJ4_remove e N m2 x1 x5) (fun x6 m3 => rt_ () m3))))))))
abbrev cX21_does : ByteArray := prog_14_method_2_code
def yX21_does : MethodName := ⟨RX21, "does", "(LMasterTree$Change;LMasterTree$Entry;)V"⟩
def dkwX21_does_1 : List UInt8 := [182, 0, 28, 177]
abbrev dktX21_does_1 : List UInt8 := dkwX21_does_1 ++ []
def dkwX21_does_0 : List UInt8 := [44, 43, 180, 0, 7, 182, 0, 13, 185, 0, 19, 1, 0, 44, 43, 180, 0, 7, 43, 180, 0, 25]
abbrev dktX21_does_0 : List UInt8 := dkwX21_does_0 ++ dktX21_does_1
theorem dksX21_does_0 : cX21_does.data.toList.drop 0 = dktX21_does_0 := by decide +kernel
theorem dksX21_does_1 : cX21_does.data.toList.drop 22 = dktX21_does_1 := dk_seg dksX21_does_0 22 rfl rfl
theorem dX21_does_0 : decode cX21_does 0 = .ok (.aload_n 2, 1) := dk_44 (dk_at dksX21_does_0 0 rfl rfl)
theorem dX21_does_1 : decode cX21_does 1 = .ok (.aload_n 1, 1) := dk_43 (dk_at dksX21_does_0 1 rfl rfl)
theorem dX21_does_2 : decode cX21_does 2 = .ok (.getfield 7, 3) := dk_180 0 7 (dk_at dksX21_does_0 2 rfl rfl)
theorem dX21_does_5 : decode cX21_does 5 = .ok (.invokevirtual 13, 3) := dk_182 0 13 (dk_at dksX21_does_0 5 rfl rfl)
theorem dX21_does_8 : decode cX21_does 8 = .ok (.invokeinterface 19 1, 5) := by decide +kernel
theorem dX21_does_13 : decode cX21_does 13 = .ok (.aload_n 2, 1) := dk_44 (dk_at dksX21_does_0 13 rfl rfl)
theorem dX21_does_14 : decode cX21_does 14 = .ok (.aload_n 1, 1) := dk_43 (dk_at dksX21_does_0 14 rfl rfl)
theorem dX21_does_15 : decode cX21_does 15 = .ok (.getfield 7, 3) := dk_180 0 7 (dk_at dksX21_does_0 15 rfl rfl)
theorem dX21_does_18 : decode cX21_does 18 = .ok (.aload_n 1, 1) := dk_43 (dk_at dksX21_does_0 18 rfl rfl)
theorem dX21_does_19 : decode cX21_does 19 = .ok (.getfield 25, 3) := dk_180 0 25 (dk_at dksX21_does_0 19 rfl rfl)
theorem dX21_does_22 : decode cX21_does 22 = .ok (.invokevirtual 28, 3) := dk_182 0 28 (dk_at dksX21_does_1 0 rfl rfl)
theorem dX21_does_25 : decode cX21_does 25 = .ok (.return_, 1) := dk_177 (dk_at dksX21_does_1 3 rfl rfl)
def fX21_does (e : Nat → Nat) (N : Nat) (m : Mm) (v0 : Option Nat) (v1 : Option Nat) (v2 : Option Nat) : Rs (Unit) := gi_ m v1 7 5 (fun x1 => ck_ m v2 3 (bd_ (fX3_valuesOf e N m v2 x1) (fun x2 m1 => ck_ m1 x2 21 (bd_ (fJ3_clear_t21 e N m1 x2) (fun _ m2 => gi_ m2 v1 7 5 (fun x3 => gi_ m2 v1 7 6 (fun x4 => ck_ m2 v2 3 (bd_ (fX3_comes e N m2 v2 x3 x4) (fun _ m3 => rt_ () m3)))))))))
abbrev cX16_does : ByteArray := prog_15_method_2_code
def yX16_does : MethodName := ⟨RX16, "does", "(LMasterTree$Change;LMasterTree$Entry;)V"⟩
def dkwX16_does_0 : List UInt8 := [44, 43, 180, 0, 7, 181, 0, 13, 177]
abbrev dktX16_does_0 : List UInt8 := dkwX16_does_0 ++ []
theorem dksX16_does_0 : cX16_does.data.toList.drop 0 = dktX16_does_0 := by decide +kernel
theorem dX16_does_0 : decode cX16_does 0 = .ok (.aload_n 2, 1) := dk_44 (dk_at dksX16_does_0 0 rfl rfl)
theorem dX16_does_1 : decode cX16_does 1 = .ok (.aload_n 1, 1) := dk_43 (dk_at dksX16_does_0 1 rfl rfl)
theorem dX16_does_2 : decode cX16_does 2 = .ok (.getfield 7, 3) := dk_180 0 7 (dk_at dksX16_does_0 2 rfl rfl)
theorem dX16_does_5 : decode cX16_does 5 = .ok (.putfield 13, 3) := dk_181 0 13 (dk_at dksX16_does_0 5 rfl rfl)
theorem dX16_does_8 : decode cX16_does 8 = .ok (.return_, 1) := dk_177 (dk_at dksX16_does_0 8 rfl rfl)
def fX16_does (e : Nat → Nat) (N : Nat) (m : Mm) (v0 : Option Nat) (v1 : Option Nat) (v2 : Option Nat) : Rs (Unit) := gi_ m v1 7 5 (fun x1 => pi_ m v2 3 5 x1 (fun m1 => rt_ () m1))
abbrev cX17_does : ByteArray := prog_16_method_2_code
def yX17_does : MethodName := ⟨RX17, "does", "(LMasterTree$Change;LMasterTree$Entry;)V"⟩
def dkwX17_does_0 : List UInt8 := [44, 43, 180, 0, 7, 181, 0, 13, 177]
abbrev dktX17_does_0 : List UInt8 := dkwX17_does_0 ++ []
theorem dksX17_does_0 : cX17_does.data.toList.drop 0 = dktX17_does_0 := by decide +kernel
theorem dX17_does_0 : decode cX17_does 0 = .ok (.aload_n 2, 1) := dk_44 (dk_at dksX17_does_0 0 rfl rfl)
theorem dX17_does_1 : decode cX17_does 1 = .ok (.aload_n 1, 1) := dk_43 (dk_at dksX17_does_0 1 rfl rfl)
theorem dX17_does_2 : decode cX17_does 2 = .ok (.getfield 7, 3) := dk_180 0 7 (dk_at dksX17_does_0 2 rfl rfl)
theorem dX17_does_5 : decode cX17_does 5 = .ok (.putfield 13, 3) := dk_181 0 13 (dk_at dksX17_does_0 5 rfl rfl)
theorem dX17_does_8 : decode cX17_does 8 = .ok (.return_, 1) := dk_177 (dk_at dksX17_does_0 8 rfl rfl)
def fX17_does (e : Nat → Nat) (N : Nat) (m : Mm) (v0 : Option Nat) (v1 : Option Nat) (v2 : Option Nat) : Rs (Unit) := gi_ m v1 7 5 (fun x1 => pi_ m v2 3 6 x1 (fun m1 => rt_ () m1))
abbrev cX19_does : ByteArray := prog_17_method_2_code
def yX19_does : MethodName := ⟨RX19, "does", "(LMasterTree$Change;LMasterTree$Entry;)V"⟩
def dkwX19_does_0 : List UInt8 := [44, 180, 0, 7, 43, 180, 0, 13, 184, 0, 19, 43, 180, 0, 25, 184, 0, 19, 182, 0, 28, 87, 177]
abbrev dktX19_does_0 : List UInt8 := dkwX19_does_0 ++ []
theorem dksX19_does_0 : cX19_does.data.toList.drop 0 = dktX19_does_0 := by decide +kernel
theorem dX19_does_0 : decode cX19_does 0 = .ok (.aload_n 2, 1) := dk_44 (dk_at dksX19_does_0 0 rfl rfl)
theorem dX19_does_1 : decode cX19_does 1 = .ok (.getfield 7, 3) := dk_180 0 7 (dk_at dksX19_does_0 1 rfl rfl)
theorem dX19_does_4 : decode cX19_does 4 = .ok (.aload_n 1, 1) := dk_43 (dk_at dksX19_does_0 4 rfl rfl)
theorem dX19_does_5 : decode cX19_does 5 = .ok (.getfield 13, 3) := dk_180 0 13 (dk_at dksX19_does_0 5 rfl rfl)
theorem dX19_does_8 : decode cX19_does 8 = .ok (.invokestatic 19, 3) := dk_184 0 19 (dk_at dksX19_does_0 8 rfl rfl)
theorem dX19_does_11 : decode cX19_does 11 = .ok (.aload_n 1, 1) := dk_43 (dk_at dksX19_does_0 11 rfl rfl)
theorem dX19_does_12 : decode cX19_does 12 = .ok (.getfield 25, 3) := dk_180 0 25 (dk_at dksX19_does_0 12 rfl rfl)
theorem dX19_does_15 : decode cX19_does 15 = .ok (.invokestatic 19, 3) := dk_184 0 19 (dk_at dksX19_does_0 15 rfl rfl)
theorem dX19_does_18 : decode cX19_does 18 = .ok (.invokevirtual 28, 3) := dk_182 0 28 (dk_at dksX19_does_0 18 rfl rfl)
theorem dX19_does_21 : decode cX19_does 21 = .ok (.pop, 1) := dk_87 (dk_at dksX19_does_0 21 rfl rfl)
theorem dX19_does_22 : decode cX19_does 22 = .ok (.return_, 1) := dk_177 (dk_at dksX19_does_0 22 rfl rfl)
def fX19_does (e : Nat → Nat) (N : Nat) (m : Mm) (v0 : Option Nat) (v1 : Option Nat) (v2 : Option Nat) : Rs (Unit) := gr_ m v2 3 8 (fun x1 => gi_ m v1 7 5 (fun x2 => bd_ (fJ21_valueOf e N m x2) (fun x3 m1 => gi_ m1 v1 7 6 (fun x4 => bd_ (fJ21_valueOf e N m1 x4) (fun x5 m2 => ck_ m2 x1 15 (bd_ (fJ4_put e N m2 x1 x3 x5) (fun x6 m3 => rt_ () m3)))))))
abbrev cX22_does : ByteArray := prog_18_method_2_code
def yX22_does : MethodName := ⟨RX22, "does", "(LMasterTree$Change;LMasterTree$Entry;)V"⟩
theorem dX22_does_0 : decode cX22_does 0 = .ok (.return_, 1) := by decide +kernel
def fX22_does (e : Nat → Nat) (N : Nat) (m : Mm) (v0 : Option Nat) (v1 : Option Nat) (v2 : Option Nat) : Rs (Unit) := rt_ () m
abbrev cX15_does : ByteArray := prog_19_method_2_code
def yX15_does : MethodName := ⟨RX15, "does", "(LMasterTree$Change;LMasterTree$Entry;)V"⟩
def dkwX15_does_0 : List UInt8 := [44, 4, 181, 0, 7, 177]
abbrev dktX15_does_0 : List UInt8 := dkwX15_does_0 ++ []
theorem dksX15_does_0 : cX15_does.data.toList.drop 0 = dktX15_does_0 := by decide +kernel
theorem dX15_does_0 : decode cX15_does 0 = .ok (.aload_n 2, 1) := dk_44 (dk_at dksX15_does_0 0 rfl rfl)
theorem dX15_does_1 : decode cX15_does 1 = .ok (.iconst 1, 1) := dk_4 (dk_at dksX15_does_0 1 rfl rfl)
theorem dX15_does_2 : decode cX15_does 2 = .ok (.putfield 7, 3) := dk_181 0 7 (dk_at dksX15_does_0 2 rfl rfl)
theorem dX15_does_5 : decode cX15_does 5 = .ok (.return_, 1) := dk_177 (dk_at dksX15_does_0 5 rfl rfl)
def fX15_does (e : Nat → Nat) (N : Nat) (m : Mm) (v0 : Option Nat) (v1 : Option Nat) (v2 : Option Nat) : Rs (Unit) := pz_ m v2 3 4 1 (fun m1 => rt_ () m1)
abbrev cJ4_clear : ByteArray := prog_79_method_35_code
def yJ4_clear : MethodName := ⟨RJ4, "clear", "()V"⟩
def dkwJ4_clear_0 : List UInt8 := [42, 89, 180, 0, 13, 4, 96, 181, 0, 13, 42, 3, 181, 0, 7, 42, 1, 181, 0, 101, 177]
abbrev dktJ4_clear_0 : List UInt8 := dkwJ4_clear_0 ++ []
theorem dksJ4_clear_0 : cJ4_clear.data.toList.drop 0 = dktJ4_clear_0 := by decide +kernel
theorem dJ4_clear_0 : decode cJ4_clear 0 = .ok (.aload_n 0, 1) := dk_42 (dk_at dksJ4_clear_0 0 rfl rfl)
theorem dJ4_clear_1 : decode cJ4_clear 1 = .ok (.dup, 1) := dk_89 (dk_at dksJ4_clear_0 1 rfl rfl)
theorem dJ4_clear_2 : decode cJ4_clear 2 = .ok (.getfield 13, 3) := dk_180 0 13 (dk_at dksJ4_clear_0 2 rfl rfl)
theorem dJ4_clear_5 : decode cJ4_clear 5 = .ok (.iconst 1, 1) := dk_4 (dk_at dksJ4_clear_0 5 rfl rfl)
theorem dJ4_clear_6 : decode cJ4_clear 6 = .ok (.iadd, 1) := dk_96 (dk_at dksJ4_clear_0 6 rfl rfl)
theorem dJ4_clear_7 : decode cJ4_clear 7 = .ok (.putfield 13, 3) := dk_181 0 13 (dk_at dksJ4_clear_0 7 rfl rfl)
theorem dJ4_clear_10 : decode cJ4_clear 10 = .ok (.aload_n 0, 1) := dk_42 (dk_at dksJ4_clear_0 10 rfl rfl)
theorem dJ4_clear_11 : decode cJ4_clear 11 = .ok (.iconst 0, 1) := dk_3 (dk_at dksJ4_clear_0 11 rfl rfl)
theorem dJ4_clear_12 : decode cJ4_clear 12 = .ok (.putfield 7, 3) := dk_181 0 7 (dk_at dksJ4_clear_0 12 rfl rfl)
theorem dJ4_clear_15 : decode cJ4_clear 15 = .ok (.aload_n 0, 1) := dk_42 (dk_at dksJ4_clear_0 15 rfl rfl)
theorem dJ4_clear_16 : decode cJ4_clear 16 = .ok (.aconst_null, 1) := dk_1 (dk_at dksJ4_clear_0 16 rfl rfl)
theorem dJ4_clear_17 : decode cJ4_clear 17 = .ok (.putfield 101, 3) := dk_181 0 101 (dk_at dksJ4_clear_0 17 rfl rfl)
theorem dJ4_clear_20 : decode cJ4_clear 20 = .ok (.return_, 1) := dk_177 (dk_at dksJ4_clear_0 20 rfl rfl)
def fJ4_clear (e : Nat → Nat) (N : Nat) (m : Mm) (v0 : Option Nat) : Rs (Unit) := gi_ m v0 15 5 (fun x1 => pi_ m v0 15 5 (x1 + 1) (fun m1 => pi_ m1 v0 15 4 0 (fun m2 => pr_ m2 v0 15 3 none (fun m3 => rt_ () m3))))
abbrev cX3_does : ByteArray := prog_7_method_7_code
def yX3_does : MethodName := ⟨RX3, "does", "()V"⟩
def dkwX3_does_3 : List UInt8 := [182, 0, 116, 167, 255, 228, 177]
abbrev dktX3_does_3 : List UInt8 := dkwX3_does_3 ++ []
def dkwX3_does_2 : List UInt8 := [185, 0, 100, 1, 0, 153, 0, 25, 43, 185, 0, 106, 1, 0, 192, 0, 110, 77, 44, 180, 0, 112, 44, 42]
abbrev dktX3_does_2 : List UInt8 := dkwX3_does_2 ++ dktX3_does_3
def dkwX3_does_1 : List UInt8 := [182, 0, 95, 42, 180, 0, 29, 182, 0, 95, 42, 180, 0, 12, 185, 0, 96, 1, 0, 76, 43]
abbrev dktX3_does_1 : List UInt8 := dkwX3_does_1 ++ dktX3_does_2
def dkwX3_does_0 : List UInt8 := [42, 1, 181, 0, 38, 42, 3, 181, 0, 42, 42, 3, 181, 0, 92, 42, 2, 181, 0, 18, 42, 180, 0, 25]
abbrev dktX3_does_0 : List UInt8 := dkwX3_does_0 ++ dktX3_does_1
theorem dksX3_does_0 : cX3_does.data.toList.drop 0 = dktX3_does_0 := by decide +kernel
theorem dksX3_does_1 : cX3_does.data.toList.drop 24 = dktX3_does_1 := dk_seg dksX3_does_0 24 rfl rfl
theorem dksX3_does_2 : cX3_does.data.toList.drop 45 = dktX3_does_2 := dk_seg dksX3_does_1 21 rfl rfl
theorem dksX3_does_3 : cX3_does.data.toList.drop 69 = dktX3_does_3 := dk_seg dksX3_does_2 24 rfl rfl
theorem dX3_does_0 : decode cX3_does 0 = .ok (.aload_n 0, 1) := dk_42 (dk_at dksX3_does_0 0 rfl rfl)
theorem dX3_does_1 : decode cX3_does 1 = .ok (.aconst_null, 1) := dk_1 (dk_at dksX3_does_0 1 rfl rfl)
theorem dX3_does_2 : decode cX3_does 2 = .ok (.putfield 38, 3) := dk_181 0 38 (dk_at dksX3_does_0 2 rfl rfl)
theorem dX3_does_5 : decode cX3_does 5 = .ok (.aload_n 0, 1) := dk_42 (dk_at dksX3_does_0 5 rfl rfl)
theorem dX3_does_6 : decode cX3_does 6 = .ok (.iconst 0, 1) := dk_3 (dk_at dksX3_does_0 6 rfl rfl)
theorem dX3_does_7 : decode cX3_does 7 = .ok (.putfield 42, 3) := dk_181 0 42 (dk_at dksX3_does_0 7 rfl rfl)
theorem dX3_does_10 : decode cX3_does 10 = .ok (.aload_n 0, 1) := dk_42 (dk_at dksX3_does_0 10 rfl rfl)
theorem dX3_does_11 : decode cX3_does 11 = .ok (.iconst 0, 1) := dk_3 (dk_at dksX3_does_0 11 rfl rfl)
theorem dX3_does_12 : decode cX3_does 12 = .ok (.putfield 92, 3) := dk_181 0 92 (dk_at dksX3_does_0 12 rfl rfl)
theorem dX3_does_15 : decode cX3_does 15 = .ok (.aload_n 0, 1) := dk_42 (dk_at dksX3_does_0 15 rfl rfl)
theorem dX3_does_16 : decode cX3_does 16 = .ok (.iconst (-1), 1) := dk_2 (dk_at dksX3_does_0 16 rfl rfl)
theorem dX3_does_17 : decode cX3_does 17 = .ok (.putfield 18, 3) := dk_181 0 18 (dk_at dksX3_does_0 17 rfl rfl)
theorem dX3_does_20 : decode cX3_does 20 = .ok (.aload_n 0, 1) := dk_42 (dk_at dksX3_does_0 20 rfl rfl)
theorem dX3_does_21 : decode cX3_does 21 = .ok (.getfield 25, 3) := dk_180 0 25 (dk_at dksX3_does_0 21 rfl rfl)
theorem dX3_does_24 : decode cX3_does 24 = .ok (.invokevirtual 95, 3) := dk_182 0 95 (dk_at dksX3_does_1 0 rfl rfl)
theorem dX3_does_27 : decode cX3_does 27 = .ok (.aload_n 0, 1) := dk_42 (dk_at dksX3_does_1 3 rfl rfl)
theorem dX3_does_28 : decode cX3_does 28 = .ok (.getfield 29, 3) := dk_180 0 29 (dk_at dksX3_does_1 4 rfl rfl)
theorem dX3_does_31 : decode cX3_does 31 = .ok (.invokevirtual 95, 3) := dk_182 0 95 (dk_at dksX3_does_1 7 rfl rfl)
theorem dX3_does_34 : decode cX3_does 34 = .ok (.aload_n 0, 1) := dk_42 (dk_at dksX3_does_1 10 rfl rfl)
theorem dX3_does_35 : decode cX3_does 35 = .ok (.getfield 12, 3) := dk_180 0 12 (dk_at dksX3_does_1 11 rfl rfl)
theorem dX3_does_38 : decode cX3_does 38 = .ok (.invokeinterface 96 1, 5) := by decide +kernel
theorem dX3_does_43 : decode cX3_does 43 = .ok (.astore_n 1, 1) := dk_76 (dk_at dksX3_does_1 19 rfl rfl)
theorem dX3_does_44 : decode cX3_does 44 = .ok (.aload_n 1, 1) := dk_43 (dk_at dksX3_does_1 20 rfl rfl)
theorem dX3_does_45 : decode cX3_does 45 = .ok (.invokeinterface 100 1, 5) := by decide +kernel
theorem dX3_does_50 : decode cX3_does 50 = .ok (.ifCond .eq 25, 3) := dk_153 0 25 (dk_at dksX3_does_2 5 rfl rfl)
theorem dX3_does_53 : decode cX3_does 53 = .ok (.aload_n 1, 1) := dk_43 (dk_at dksX3_does_2 8 rfl rfl)
theorem dX3_does_54 : decode cX3_does 54 = .ok (.invokeinterface 106 1, 5) := by decide +kernel
theorem dX3_does_59 : decode cX3_does 59 = .ok (.checkcast 110, 3) := dk_192 0 110 (dk_at dksX3_does_2 14 rfl rfl)
theorem dX3_does_62 : decode cX3_does 62 = .ok (.astore_n 2, 1) := dk_77 (dk_at dksX3_does_2 17 rfl rfl)
theorem dX3_does_63 : decode cX3_does 63 = .ok (.aload_n 2, 1) := dk_44 (dk_at dksX3_does_2 18 rfl rfl)
theorem dX3_does_64 : decode cX3_does 64 = .ok (.getfield 112, 3) := dk_180 0 112 (dk_at dksX3_does_2 19 rfl rfl)
theorem dX3_does_67 : decode cX3_does 67 = .ok (.aload_n 2, 1) := dk_44 (dk_at dksX3_does_2 22 rfl rfl)
theorem dX3_does_68 : decode cX3_does 68 = .ok (.aload_n 0, 1) := dk_42 (dk_at dksX3_does_2 23 rfl rfl)
theorem dX3_does_69 : decode cX3_does 69 = .ok (.invokevirtual 116, 3) := dk_182 0 116 (dk_at dksX3_does_3 0 rfl rfl)
theorem dX3_does_72 : decode cX3_does 72 = .ok (.goto (-28), 3) := dk_167 255 228 (dk_at dksX3_does_3 3 rfl rfl)
theorem dX3_does_75 : decode cX3_does 75 = .ok (.return_, 1) := dk_177 (dk_at dksX3_does_3 6 rfl rfl)
def fX3_does_b44 (e : Nat → Nat) (N : Nat) : Nat → Mm → Option Nat → Option Nat → Rs (Unit)
  | 0, _, _, _ => none
  | F + 1, m, v0, v1 => ck_ m v1 14 (bd_ (fJ34_hasNext e N m v1) (fun x1 m1 => if x1 = 0 then (rt_ () m1) else (ck_ m1 v1 14 (bd_ (fJ34_next e N m1 v1) (fun x2 m2 => cc_ m2 x2 [7] (gr_ m2 x2 7 3 (fun x3 => bd_ (cs_ m2 x3 403 (fX14_does e N m2 x3 x2 v0) (cs_ m2 x3 404 (fX20_does e N m2 x3 x2 v0) (cs_ m2 x3 405 (fX18_does e N m2 x3 x2 v0) (cs_ m2 x3 406 (fX21_does e N m2 x3 x2 v0) (cs_ m2 x3 407 (fX16_does e N m2 x3 x2 v0) (cs_ m2 x3 408 (fX17_does e N m2 x3 x2 v0) (cs_ m2 x3 409 (fX19_does e N m2 x3 x2 v0) (cs_ m2 x3 410 (fX22_does e N m2 x3 x2 v0) (cs_ m2 x3 411 (fX15_does e N m2 x3 x2 v0) none))))))))) (fun _ m3 => fX3_does_b44 e N F m3 v0 v1))))))))
def fX3_does (e : Nat → Nat) (N : Nat) (m : Mm) (v0 : Option Nat) : Rs (Unit) := pr_ m v0 3 3 none (fun m1 => pz_ m1 v0 3 4 0 (fun m2 => pi_ m2 v0 3 5 0 (fun m3 => pi_ m3 v0 3 6 (-1) (fun m4 => gr_ m4 v0 3 7 (fun x1 => ck_ m4 x1 15 (bd_ (fJ4_clear e N m4 x1) (fun _ m5 => gr_ m5 v0 3 8 (fun x2 => ck_ m5 x2 15 (bd_ (fJ4_clear e N m5 x2) (fun _ m6 => gr_ m6 v0 3 2 (fun x3 => ck_ m6 x3 13 (bd_ (fJ2_iterator e N m6 x3) (fun x4 m7 => fX3_does_b44 e N N m7 v0 x4)))))))))))))
def fJ0_init_t13 (e : Nat → Nat) (N : Nat) (m : Mm) (v0 : Option Nat) : Rs (Unit) := ok_ v0 (rt_ () m)
abbrev cJ1_init : ByteArray := prog_54_method_1_code
def yJ1_init : MethodName := ⟨RJ1, "<init>", "()V"⟩
def dkwJ1_init_0 : List UInt8 := [42, 183, 0, 1, 42, 3, 181, 0, 7, 177]
abbrev dktJ1_init_0 : List UInt8 := dkwJ1_init_0 ++ []
theorem dksJ1_init_0 : cJ1_init.data.toList.drop 0 = dktJ1_init_0 := by decide +kernel
theorem dJ1_init_0 : decode cJ1_init 0 = .ok (.aload_n 0, 1) := dk_42 (dk_at dksJ1_init_0 0 rfl rfl)
theorem dJ1_init_1 : decode cJ1_init 1 = .ok (.invokespecial 1, 3) := dk_183 0 1 (dk_at dksJ1_init_0 1 rfl rfl)
theorem dJ1_init_4 : decode cJ1_init 4 = .ok (.aload_n 0, 1) := dk_42 (dk_at dksJ1_init_0 4 rfl rfl)
theorem dJ1_init_5 : decode cJ1_init 5 = .ok (.iconst 0, 1) := dk_3 (dk_at dksJ1_init_0 5 rfl rfl)
theorem dJ1_init_6 : decode cJ1_init 6 = .ok (.putfield 7, 3) := dk_181 0 7 (dk_at dksJ1_init_0 6 rfl rfl)
theorem dJ1_init_9 : decode cJ1_init 9 = .ok (.return_, 1) := dk_177 (dk_at dksJ1_init_0 9 rfl rfl)
def fJ1_init_t13 (e : Nat → Nat) (N : Nat) (m : Mm) (v0 : Option Nat) : Rs (Unit) := ok_ v0 (bd_ (fJ0_init_t13 e N m v0) (fun _ m1 => pi_ m1 v0 13 0 0 (fun m2 => rt_ () m2)))
theorem wX3_place {l : Launch} {g : GG} {E : Me_} (C : Cx_ l g E "MasterTree$Entry" cX3_place 3 13) (hret : (eT_ E).sig.returnType = (Option.some Jvm.ClassFile.FieldType.int)) (h0 : ∀ x ∈ (eC_ E).exceptionTable.toList, False) (hin : (eT_ E).name = "place") (N : Nat) : ∀ (m : Mm) (v0 : Option Nat) (v1 : Int32) (v2 : Int32) (k n : Nat), Sm_ l g E 3 en_i (fX3_place (gE_ g) N m v0 v1 v2) k n 0 [(0, vr_ v0), (1, vi_ v1), (2, vi_ v2)] [] m := by
  intro m v0 v1 v2 k n
  unfold fX3_place
  refine s_sipush C 1000 rfl dX3_place_0 3 rfl ?_
  refine s_iload_n C rfl 1 rfl dX3_place_3 4 rfl ?_
  refine s_imul C dX3_place_4 5 rfl ?_
  refine s_aload_n C rfl 0 rfl dX3_place_5 6 rfl ?_
  refine x_gr C 2 (RX3, TX3, 9) rfl 1 (Nat.le_of_ble_eq_true rfl) q247 (Or.inl rfl) rfl 3 rfl dX3_place_6 9 rfl (fun x1 => ?_)
  refine s_iload_n C rfl 1 rfl dX3_place_9 10 rfl ?_
  refine x_ck (fun hb_ hb0_ => ?_)
  refine x_callF (enc := en_r) C 12 1 [vi_ v1] 13 (ctJ2_get C.2.2.2.2.2.2.2.2.1 N m x1 v1) hb_ hb0_ rfl rfl rfl fw_3 q1613 q891 q893 q84 q895 hx2 (Nat.le_of_ble_eq_true rfl) (Nat.le_of_ble_eq_true rfl) rfl (Nat.le_of_ble_eq_true rfl) dX3_place_10 15 rfl rfl hen_r (kk_r (fun x2 m1 k1 n1 => ?_)) (kx_n he_r)
  refine x_cc C "MasterTree$Attribute" [5] (fun k hk => by rw [List.mem_singleton.mp hk]; exact ⟨rfl, Or.inr rfl⟩) q1614 dX3_place_15 18 rfl ?_
  refine s_iload_n C rfl 2 rfl dX3_place_18 19 rfl ?_
  refine x_ck (fun hb_ hb0_ => ?_)
  refine x_callV (enc := en_i) C 10 1 [vi_ v2] 5 (ctX5_key C.2.2.2.2.2.2.2.2.1 N m1 x2 v2) hb_ hb0_ rfl rfl q1615 q1616 q1617 q98 q1618 hdX5_key (Nat.le_of_ble_eq_true rfl) (Nat.le_of_ble_eq_true rfl) rfl (Nat.le_of_ble_eq_true rfl) dX3_place_19 22 rfl rfl hen_i (kk_i (fun x3 m2 k1 n1 => ?_)) (kx_n he_i)
  refine s_iadd C dX3_place_22 23 rfl ?_
  exact x_iret C hret rfl dX3_place_23
theorem hdX3_place : ((⟨"MasterTree$Entry", "place", "(II)I"⟩ : MethodName)).cls ≠ "java/lang/invoke/MethodHandle" ∧ ((⟨"MasterTree$Entry", "place", "(II)I"⟩ : MethodName)).cls ≠ "java/lang/invoke/VarHandle" ∧ (parseMethodDescriptor ((⟨"MasterTree$Entry", "place", "(II)I"⟩ : MethodName)).desc).map (fun d => d.parameters.length) = some 2 := ⟨by decide +kernel, by decide +kernel, by decide +kernel⟩
theorem ctX3_place {l : Launch} {g : GG} (hst : l.stackTraces = false) (N : Nat) (m : Mm) (v0 : Option Nat) (v1 : Int32) (v2 : Int32) : ∀ v m' k n, fX3_place (gE_ g) N m v0 v1 v2 = some (v, m', k, n) → Ct_ l g (⟨"MasterTree$Entry", "place", "(II)I"⟩ : MethodName) (ws_ (⟨"MasterTree$Entry", "place", "(II)I"⟩ : MethodName) cX3_place 3 (Option.some Jvm.ClassFile.FieldType.int)) 13 [vr_ v0, vi_ v1, vi_ v2] m (en_i v) m' k n :=
  Ct_of (by decide +kernel) rfl hst (Nat.le_of_ble_eq_true rfl) rfl (fun E C hret h0 hin => wX3_place C hret h0 hin N m v0 v1 v2 0 0)
theorem wJ3_init_t21 {l : Launch} {g : GG} {E : Me_} (C : Cx_ l g E "java/util/AbstractMap" cJ3_init 1 10) (hret : (eT_ E).sig.returnType = (Option.none : Option Jvm.ClassFile.FieldType)) (h0 : ∀ x ∈ (eC_ E).exceptionTable.toList, False) (hin : (eT_ E).name = "<init>") (N : Nat) : ∀ (m : Mm) (v0 : Option Nat) (k n : Nat), Sm_ l g E 1 en_v (fJ3_init_t21 (gE_ g) N m v0) k n 0 [(0, vr_ v0)] [] m := by
  intro m v0 k n
  unfold fJ3_init_t21
  refine s_aload_n C rfl 0 rfl dJ3_init_0 1 rfl ?_
  refine x_ok (fun hb_ => ?_)
  refine x_obj C hb_ q203 q152 q153 (by decide) (Nat.le_of_ble_eq_true rfl) dJ3_init_1 4 rfl ?_
  exact x_vret C hret rfl dJ3_init_4
theorem hdJ3_init_t21 : ((⟨"java/util/AbstractMap", "<init>", "()V"⟩ : MethodName)).cls ≠ "java/lang/invoke/MethodHandle" ∧ ((⟨"java/util/AbstractMap", "<init>", "()V"⟩ : MethodName)).cls ≠ "java/lang/invoke/VarHandle" ∧ (parseMethodDescriptor ((⟨"java/util/AbstractMap", "<init>", "()V"⟩ : MethodName)).desc).map (fun d => d.parameters.length) = some 0 := ⟨by decide +kernel, by decide +kernel, by decide +kernel⟩
theorem ctJ3_init_t21 {l : Launch} {g : GG} (hst : l.stackTraces = false) (N : Nat) (m : Mm) (v0 : Option Nat) : ∀ v m' k n, fJ3_init_t21 (gE_ g) N m v0 = some (v, m', k, n) → Ct_ l g (⟨"java/util/AbstractMap", "<init>", "()V"⟩ : MethodName) (ws_ (⟨"java/util/AbstractMap", "<init>", "()V"⟩ : MethodName) cJ3_init 1 (Option.none : Option Jvm.ClassFile.FieldType)) 10 [vr_ v0] m (en_v v) m' k n :=
  Ct_of (by decide +kernel) rfl hst (Nat.le_of_ble_eq_true rfl) rfl (fun E C hret h0 hin => wJ3_init_t21 C hret h0 hin N m v0 0 0)
theorem wJ38_init_t21_b58 {l : Launch} {g : GG} {E : Me_} (C : Cx_ l g E "java/util/TreeMap$NavigableSubMap" cJ38_init 8 14) (hret : (eT_ E).sig.returnType = (Option.none : Option Jvm.ClassFile.FieldType)) (h0 : ∀ x ∈ (eC_ E).exceptionTable.toList, False) (hin : (eT_ E).name = "<init>") (N : Nat) : ∀ (m : Mm) (v0 : Option Nat) (v1 : Option Nat) (v2 : Int32) (v3 : Option Nat) (v4 : Int32) (v5 : Int32) (v6 : Option Nat) (v7 : Int32) (k n : Nat), Sm_ l g E 8 en_v (fJ38_init_t21_b58 (gE_ g) N m v0 v1 v2 v3 v4 v5 v6 v7) k n 58 [(0, vr_ v0), (1, vr_ v1), (2, vi_ v2), (3, vr_ v3), (4, vi_ v4), (5, vi_ v5), (6, vr_ v6), (7, vi_ v7)] [] m := by
  intro m v0 v1 v2 v3 v4 v5 v6 v7 k n
  unfold fJ38_init_t21_b58
  refine s_aload_n C rfl 0 rfl dJ38_init_58 59 rfl ?_
  refine s_aload_n C rfl 1 rfl dJ38_init_59 60 rfl ?_
  refine x_prF C hin 20 (RJ39, TJ39, 12) rfl 0 (Nat.le_of_ble_eq_true rfl) rfl q2012 rfl rfl trivial 21 rfl dJ38_init_60 63 rfl (fun m1 => ?_)
  refine s_aload_n C rfl 0 rfl dJ38_init_63 64 rfl ?_
  refine s_iload_n C rfl 2 rfl dJ38_init_64 65 rfl ?_
  refine x_pzF C hin 20 (RJ39, TJ39, 12) rfl 3 (Nat.le_of_ble_eq_true rfl) rfl q2016 rfl rfl (Or.inl rfl) 21 rfl dJ38_init_65 68 rfl (fun m2 => ?_)
  refine s_aload_n C rfl 0 rfl dJ38_init_68 69 rfl ?_
  refine s_aload_n C rfl 3 rfl dJ38_init_69 70 rfl ?_
  refine x_prF C hin 20 (RJ39, TJ39, 12) rfl 1 (Nat.le_of_ble_eq_true rfl) rfl q2014 rfl rfl trivial 21 rfl dJ38_init_70 73 rfl (fun m3 => ?_)
  refine s_aload_n C rfl 0 rfl dJ38_init_73 74 rfl ?_
  refine s_iload C 4 rfl dJ38_init_74 76 rfl ?_
  refine x_pzF C hin 20 (RJ39, TJ39, 12) rfl 5 (Nat.le_of_ble_eq_true rfl) rfl q2020 rfl rfl (Or.inl rfl) 21 rfl dJ38_init_76 79 rfl (fun m4 => ?_)
  refine s_aload_n C rfl 0 rfl dJ38_init_79 80 rfl ?_
  refine s_iload C 5 rfl dJ38_init_80 82 rfl ?_
  refine x_pzF C hin 20 (RJ39, TJ39, 12) rfl 4 (Nat.le_of_ble_eq_true rfl) rfl q2018 rfl rfl (Or.inl rfl) 21 rfl dJ38_init_82 85 rfl (fun m5 => ?_)
  refine s_aload_n C rfl 0 rfl dJ38_init_85 86 rfl ?_
  refine s_aload C 6 rfl dJ38_init_86 88 rfl ?_
  refine x_prF C hin 20 (RJ39, TJ39, 12) rfl 2 (Nat.le_of_ble_eq_true rfl) rfl q2015 rfl rfl trivial 21 rfl dJ38_init_88 91 rfl (fun m6 => ?_)
  refine s_aload_n C rfl 0 rfl dJ38_init_91 92 rfl ?_
  refine s_iload C 7 rfl dJ38_init_92 94 rfl ?_
  refine x_pzF C hin 20 (RJ39, TJ39, 12) rfl 6 (Nat.le_of_ble_eq_true rfl) rfl q2021 rfl rfl (Or.inl rfl) 21 rfl dJ38_init_94 97 rfl (fun m7 => ?_)
  exact x_vret C hret rfl dJ38_init_97
theorem wJ38_init_t21_b44 {l : Launch} {g : GG} {E : Me_} (C : Cx_ l g E "java/util/TreeMap$NavigableSubMap" cJ38_init 8 14) (hret : (eT_ E).sig.returnType = (Option.none : Option Jvm.ClassFile.FieldType)) (h0 : ∀ x ∈ (eC_ E).exceptionTable.toList, False) (hin : (eT_ E).name = "<init>") (N : Nat) : ∀ (m : Mm) (v0 : Option Nat) (v1 : Option Nat) (v2 : Int32) (v3 : Option Nat) (v4 : Int32) (v5 : Int32) (v6 : Option Nat) (v7 : Int32) (k n : Nat), Sm_ l g E 8 en_v (fJ38_init_t21_b44 (gE_ g) N m v0 v1 v2 v3 v4 v5 v6 v7) k n 44 [(0, vr_ v0), (1, vr_ v1), (2, vi_ v2), (3, vr_ v3), (4, vi_ v4), (5, vi_ v5), (6, vr_ v6), (7, vi_ v7)] [] m := by
  intro m v0 v1 v2 v3 v4 v5 v6 v7 k n
  unfold fJ38_init_t21_b44
  refine s_iload C 5 rfl dJ38_init_44 46 rfl ?_
  refine s_if_ne C dJ38_init_46 58 rfl 49 rfl (fun c_ => ?_) (fun c_ => ?_)
  · refine s_aload_n C rfl 1 rfl dJ38_init_49 50 rfl ?_
    refine s_aload C 6 rfl dJ38_init_50 52 rfl ?_
    refine s_aload C 6 rfl dJ38_init_52 54 rfl ?_
    refine x_ck (fun hb_ hb0_ => ?_)
    refine x_callV (enc := en_i) C 13 2 [vr_ v6, vr_ v6] 15 (ctJ4_compare C.2.2.2.2.2.2.2.2.1 N m v1 v6 v6) hb_ hb0_ rfl rfl q1337 q1039 q1040 q87 q1041 hdJ4_compare (Nat.le_of_ble_eq_true rfl) (Nat.le_of_ble_eq_true rfl) rfl (Nat.le_of_ble_eq_true rfl) dJ38_init_54 57 rfl rfl hen_i (kk_i (fun x1 m1 k1 n1 => ?_)) (kx_n he_i)
    refine s_pop C rfl dJ38_init_57 58 rfl ?_
    exact wJ38_init_t21_b58 C hret h0 hin N _ _ _ _ _ _ _ _ _ _ _
  · exact wJ38_init_t21_b58 C hret h0 hin N _ _ _ _ _ _ _ _ _ _ _
theorem wJ38_init_t21_b33 {l : Launch} {g : GG} {E : Me_} (C : Cx_ l g E "java/util/TreeMap$NavigableSubMap" cJ38_init 8 14) (hret : (eT_ E).sig.returnType = (Option.none : Option Jvm.ClassFile.FieldType)) (h0 : ∀ x ∈ (eC_ E).exceptionTable.toList, False) (hin : (eT_ E).name = "<init>") (N : Nat) : ∀ (m : Mm) (v0 : Option Nat) (v1 : Option Nat) (v2 : Int32) (v3 : Option Nat) (v4 : Int32) (v5 : Int32) (v6 : Option Nat) (v7 : Int32) (k n : Nat), Sm_ l g E 8 en_v (fJ38_init_t21_b33 (gE_ g) N m v0 v1 v2 v3 v4 v5 v6 v7) k n 33 [(0, vr_ v0), (1, vr_ v1), (2, vi_ v2), (3, vr_ v3), (4, vi_ v4), (5, vi_ v5), (6, vr_ v6), (7, vi_ v7)] [] m := by
  intro m v0 v1 v2 v3 v4 v5 v6 v7 k n
  unfold fJ38_init_t21_b33
  refine s_iload_n C rfl 2 rfl dJ38_init_33 34 rfl ?_
  refine s_if_ne C dJ38_init_34 44 rfl 37 rfl (fun c_ => ?_) (fun c_ => ?_)
  · refine s_aload_n C rfl 1 rfl dJ38_init_37 38 rfl ?_
    refine s_aload_n C rfl 3 rfl dJ38_init_38 39 rfl ?_
    refine s_aload_n C rfl 3 rfl dJ38_init_39 40 rfl ?_
    refine x_ck (fun hb_ hb0_ => ?_)
    refine x_callV (enc := en_i) C 13 2 [vr_ v3, vr_ v3] 15 (ctJ4_compare C.2.2.2.2.2.2.2.2.1 N m v1 v3 v3) hb_ hb0_ rfl rfl q1337 q1039 q1040 q87 q1041 hdJ4_compare (Nat.le_of_ble_eq_true rfl) (Nat.le_of_ble_eq_true rfl) rfl (Nat.le_of_ble_eq_true rfl) dJ38_init_40 43 rfl rfl hen_i (kk_i (fun x1 m1 k1 n1 => ?_)) (kx_n he_i)
    refine s_pop C rfl dJ38_init_43 44 rfl ?_
    exact wJ38_init_t21_b44 C hret h0 hin N _ _ _ _ _ _ _ _ _ _ _
  · exact wJ38_init_t21_b44 C hret h0 hin N _ _ _ _ _ _ _ _ _ _ _
theorem wJ38_init_t21 {l : Launch} {g : GG} {E : Me_} (C : Cx_ l g E "java/util/TreeMap$NavigableSubMap" cJ38_init 8 14) (hret : (eT_ E).sig.returnType = (Option.none : Option Jvm.ClassFile.FieldType)) (h0 : ∀ x ∈ (eC_ E).exceptionTable.toList, False) (hin : (eT_ E).name = "<init>") (N : Nat) : ∀ (m : Mm) (v0 : Option Nat) (v1 : Option Nat) (v2 : Int32) (v3 : Option Nat) (v4 : Int32) (v5 : Int32) (v6 : Option Nat) (v7 : Int32) (k n : Nat), Sm_ l g E 8 en_v (fJ38_init_t21 (gE_ g) N m v0 v1 v2 v3 v4 v5 v6 v7) k n 0 [(0, vr_ v0), (1, vr_ v1), (2, vi_ v2), (3, vr_ v3), (4, vi_ v4), (5, vi_ v5), (6, vr_ v6), (7, vi_ v7)] [] m := by
  intro m v0 v1 v2 v3 v4 v5 v6 v7 k n
  unfold fJ38_init_t21
  refine s_aload_n C rfl 0 rfl dJ38_init_0 1 rfl ?_
  refine x_ok (fun hb0_ => ?_)
  refine x_callI (enc := en_v) C 10 0 [] (ctJ3_init_t21 C.2.2.2.2.2.2.2.2.1 N m v0) hb0_ rfl q2007 q201 q86 q202 rfl hdJ3_init_t21 (Nat.le_of_ble_eq_true rfl) (Nat.le_of_ble_eq_true rfl) rfl (Nat.le_of_ble_eq_true rfl) dJ38_init_1 4 rfl rfl hen_v (kk_v (fun m1 k1 n1 => ?_)) (kx_n he_v)
  refine s_iload_n C rfl 2 rfl dJ38_init_4 5 rfl ?_
  refine s_if_ne C dJ38_init_5 33 rfl 8 rfl (fun c_ => ?_) (fun c_ => ?_)
  · refine s_iload C 5 rfl dJ38_init_8 10 rfl ?_
    refine s_if_ne C dJ38_init_10 33 rfl 13 rfl (fun c_ => ?_) (fun c_ => ?_)
    · refine s_aload_n C rfl 1 rfl dJ38_init_13 14 rfl ?_
      refine s_aload_n C rfl 3 rfl dJ38_init_14 15 rfl ?_
      refine s_aload C 6 rfl dJ38_init_15 17 rfl ?_
      refine x_ck (fun hb_ hb0_ => ?_)
      refine x_callV (enc := en_i) C 13 2 [vr_ v3, vr_ v6] 15 (ctJ4_compare C.2.2.2.2.2.2.2.2.1 N m1 v1 v3 v6) hb_ hb0_ rfl rfl q1337 q1039 q1040 q87 q1041 hdJ4_compare (Nat.le_of_ble_eq_true rfl) (Nat.le_of_ble_eq_true rfl) rfl (Nat.le_of_ble_eq_true rfl) dJ38_init_17 20 rfl rfl hen_i (kk_i (fun x1 m2 k1 n1 => ?_)) (kx_n he_i)
      refine s_if_le C dJ38_init_20 58 rfl 23 rfl (fun c_ => ?_) (fun c_ => ?_)
      · exact Sm_none
      · exact wJ38_init_t21_b58 C hret h0 hin N _ _ _ _ _ _ _ _ _ _ _
    · exact wJ38_init_t21_b33 C hret h0 hin N _ _ _ _ _ _ _ _ _ _ _
  · exact wJ38_init_t21_b33 C hret h0 hin N _ _ _ _ _ _ _ _ _ _ _
theorem hdJ38_init_t21 : ((⟨"java/util/TreeMap$NavigableSubMap", "<init>", "(Ljava/util/TreeMap;ZLjava/lang/Object;ZZLjava/lang/Object;Z)V"⟩ : MethodName)).cls ≠ "java/lang/invoke/MethodHandle" ∧ ((⟨"java/util/TreeMap$NavigableSubMap", "<init>", "(Ljava/util/TreeMap;ZLjava/lang/Object;ZZLjava/lang/Object;Z)V"⟩ : MethodName)).cls ≠ "java/lang/invoke/VarHandle" ∧ (parseMethodDescriptor ((⟨"java/util/TreeMap$NavigableSubMap", "<init>", "(Ljava/util/TreeMap;ZLjava/lang/Object;ZZLjava/lang/Object;Z)V"⟩ : MethodName)).desc).map (fun d => d.parameters.length) = some 7 := ⟨by decide +kernel, by decide +kernel, by decide +kernel⟩
theorem ctJ38_init_t21 {l : Launch} {g : GG} (hst : l.stackTraces = false) (N : Nat) (m : Mm) (v0 : Option Nat) (v1 : Option Nat) (v2 : Int32) (v3 : Option Nat) (v4 : Int32) (v5 : Int32) (v6 : Option Nat) (v7 : Int32) : ∀ v m' k n, fJ38_init_t21 (gE_ g) N m v0 v1 v2 v3 v4 v5 v6 v7 = some (v, m', k, n) → Ct_ l g (⟨"java/util/TreeMap$NavigableSubMap", "<init>", "(Ljava/util/TreeMap;ZLjava/lang/Object;ZZLjava/lang/Object;Z)V"⟩ : MethodName) (ws_ (⟨"java/util/TreeMap$NavigableSubMap", "<init>", "(Ljava/util/TreeMap;ZLjava/lang/Object;ZZLjava/lang/Object;Z)V"⟩ : MethodName) cJ38_init 8 (Option.none : Option Jvm.ClassFile.FieldType)) 14 [vr_ v0, vr_ v1, vi_ v2, vr_ v3, vi_ v4, vi_ v5, vr_ v6, vi_ v7] m (en_v v) m' k n :=
  Ct_of (by decide +kernel) rfl hst (Nat.le_of_ble_eq_true rfl) rfl (fun E C hret h0 hin => wJ38_init_t21 C hret h0 hin N m v0 v1 v2 v3 v4 v5 v6 v7 0 0)
theorem wJ39_init {l : Launch} {g : GG} {E : Me_} (C : Cx_ l g E "java/util/TreeMap$AscendingSubMap" cJ39_init 8 15) (hret : (eT_ E).sig.returnType = (Option.none : Option Jvm.ClassFile.FieldType)) (h0 : ∀ x ∈ (eC_ E).exceptionTable.toList, False) (hin : (eT_ E).name = "<init>") (N : Nat) : ∀ (m : Mm) (v0 : Option Nat) (v1 : Option Nat) (v2 : Int32) (v3 : Option Nat) (v4 : Int32) (v5 : Int32) (v6 : Option Nat) (v7 : Int32) (k n : Nat), Sm_ l g E 8 en_v (fJ39_init (gE_ g) N m v0 v1 v2 v3 v4 v5 v6 v7) k n 0 [(0, vr_ v0), (1, vr_ v1), (2, vi_ v2), (3, vr_ v3), (4, vi_ v4), (5, vi_ v5), (6, vr_ v6), (7, vi_ v7)] [] m := by
  intro m v0 v1 v2 v3 v4 v5 v6 v7 k n
  unfold fJ39_init
  refine s_aload_n C rfl 0 rfl dJ39_init_0 1 rfl ?_
  refine s_aload_n C rfl 1 rfl dJ39_init_1 2 rfl ?_
  refine s_iload_n C rfl 2 rfl dJ39_init_2 3 rfl ?_
  refine s_aload_n C rfl 3 rfl dJ39_init_3 4 rfl ?_
  refine s_iload C 4 rfl dJ39_init_4 6 rfl ?_
  refine s_iload C 5 rfl dJ39_init_6 8 rfl ?_
  refine s_aload C 6 rfl dJ39_init_8 10 rfl ?_
  refine s_iload C 7 rfl dJ39_init_10 12 rfl ?_
  refine x_ok (fun hb0_ => ?_)
  refine x_callI (enc := en_v) C 14 7 [vr_ v1, vi_ v2, vr_ v3, vi_ v4, vi_ v5, vr_ v6, vi_ v7] (ctJ38_init_t21 C.2.2.2.2.2.2.2.2.1 N m v0 v1 v2 v3 v4 v5 v6 v7) hb0_ rfl q2004 q2005 q131 q2006 rfl hdJ38_init_t21 (Nat.le_of_ble_eq_true rfl) (Nat.le_of_ble_eq_true rfl) rfl (Nat.le_of_ble_eq_true rfl) dJ39_init_12 15 rfl rfl hen_v (kk_v (fun m1 k1 n1 => ?_)) (kx_n he_v)
  exact x_vret C hret rfl dJ39_init_15
theorem hdJ39_init : ((⟨"java/util/TreeMap$AscendingSubMap", "<init>", "(Ljava/util/TreeMap;ZLjava/lang/Object;ZZLjava/lang/Object;Z)V"⟩ : MethodName)).cls ≠ "java/lang/invoke/MethodHandle" ∧ ((⟨"java/util/TreeMap$AscendingSubMap", "<init>", "(Ljava/util/TreeMap;ZLjava/lang/Object;ZZLjava/lang/Object;Z)V"⟩ : MethodName)).cls ≠ "java/lang/invoke/VarHandle" ∧ (parseMethodDescriptor ((⟨"java/util/TreeMap$AscendingSubMap", "<init>", "(Ljava/util/TreeMap;ZLjava/lang/Object;ZZLjava/lang/Object;Z)V"⟩ : MethodName)).desc).map (fun d => d.parameters.length) = some 7 := ⟨by decide +kernel, by decide +kernel, by decide +kernel⟩
theorem ctJ39_init {l : Launch} {g : GG} (hst : l.stackTraces = false) (N : Nat) (m : Mm) (v0 : Option Nat) (v1 : Option Nat) (v2 : Int32) (v3 : Option Nat) (v4 : Int32) (v5 : Int32) (v6 : Option Nat) (v7 : Int32) : ∀ v m' k n, fJ39_init (gE_ g) N m v0 v1 v2 v3 v4 v5 v6 v7 = some (v, m', k, n) → Ct_ l g (⟨"java/util/TreeMap$AscendingSubMap", "<init>", "(Ljava/util/TreeMap;ZLjava/lang/Object;ZZLjava/lang/Object;Z)V"⟩ : MethodName) (ws_ (⟨"java/util/TreeMap$AscendingSubMap", "<init>", "(Ljava/util/TreeMap;ZLjava/lang/Object;ZZLjava/lang/Object;Z)V"⟩ : MethodName) cJ39_init 8 (Option.none : Option Jvm.ClassFile.FieldType)) 15 [vr_ v0, vr_ v1, vi_ v2, vr_ v3, vi_ v4, vi_ v5, vr_ v6, vi_ v7] m (en_v v) m' k n :=
  Ct_of (by decide +kernel) rfl hst (Nat.le_of_ble_eq_true rfl) rfl (fun E C hret h0 hin => wJ39_init C hret h0 hin N m v0 v1 v2 v3 v4 v5 v6 v7 0 0)
theorem wJ4_subMap_2 {l : Launch} {g : GG} {E : Me_} (C : Cx_ l g E "java/util/TreeMap" cJ4_subMap_2 5 16) (hret : (eT_ E).sig.returnType = (Option.some (Jvm.ClassFile.FieldType.object "java/util/NavigableMap"))) (h0 : ∀ x ∈ (eC_ E).exceptionTable.toList, False) (hin : (eT_ E).name = "subMap") (N : Nat) : ∀ (m : Mm) (v0 : Option Nat) (v1 : Option Nat) (v2 : Int32) (v3 : Option Nat) (v4 : Int32) (k n : Nat), Sm_ l g E 5 en_r (fJ4_subMap_2 (gE_ g) N m v0 v1 v2 v3 v4) k n 0 [(0, vr_ v0), (1, vr_ v1), (2, vi_ v2), (3, vr_ v3), (4, vi_ v4)] [] m := by
  intro m v0 v1 v2 v3 v4 k n
  unfold fJ4_subMap_2
  refine x_nw C 20 (RJ39, TJ39, 12) rfl q1999 q2000 q132 21 12 rfl rfl dJ4_subMap_2_0 3 rfl (fun x1 m1 => ?_)
  refine s_dup C rfl dJ4_subMap_2_3 4 rfl ?_
  refine s_aload_n C rfl 0 rfl dJ4_subMap_2_4 5 rfl ?_
  refine s_iconst C 0 rfl dJ4_subMap_2_5 6 rfl ?_
  refine s_aload_n C rfl 1 rfl dJ4_subMap_2_6 7 rfl ?_
  refine s_iload_n C rfl 2 rfl dJ4_subMap_2_7 8 rfl ?_
  refine s_iconst C 0 rfl dJ4_subMap_2_8 9 rfl ?_
  refine s_aload_n C rfl 3 rfl dJ4_subMap_2_9 10 rfl ?_
  refine s_iload C 4 rfl dJ4_subMap_2_10 12 rfl ?_
  refine x_callI (enc := en_v) C 15 7 [vr_ v0, vi_ 0, vr_ v1, vi_ v2, vi_ 0, vr_ v3, vi_ v4] (ctJ39_init C.2.2.2.2.2.2.2.2.1 N m1 (some x1) v0 0 v1 v2 0 v3 v4) (fun h => by cases h) rfl q2001 q2002 q132 q2003 rfl hdJ39_init (Nat.le_of_ble_eq_true rfl) (Nat.le_of_ble_eq_true rfl) rfl (Nat.le_of_ble_eq_true rfl) dJ4_subMap_2_12 15 rfl rfl hen_v (kk_v (fun m2 k1 n1 => ?_)) (kx_n he_v)
  exact x_aret C hret (Or.inl ⟨_, rfl⟩) rfl dJ4_subMap_2_15
theorem hdJ4_subMap_2 : ((⟨"java/util/TreeMap", "subMap", "(Ljava/lang/Object;ZLjava/lang/Object;Z)Ljava/util/NavigableMap;"⟩ : MethodName)).cls ≠ "java/lang/invoke/MethodHandle" ∧ ((⟨"java/util/TreeMap", "subMap", "(Ljava/lang/Object;ZLjava/lang/Object;Z)Ljava/util/NavigableMap;"⟩ : MethodName)).cls ≠ "java/lang/invoke/VarHandle" ∧ (parseMethodDescriptor ((⟨"java/util/TreeMap", "subMap", "(Ljava/lang/Object;ZLjava/lang/Object;Z)Ljava/util/NavigableMap;"⟩ : MethodName)).desc).map (fun d => d.parameters.length) = some 4 := ⟨by decide +kernel, by decide +kernel, by decide +kernel⟩
theorem ctJ4_subMap_2 {l : Launch} {g : GG} (hst : l.stackTraces = false) (N : Nat) (m : Mm) (v0 : Option Nat) (v1 : Option Nat) (v2 : Int32) (v3 : Option Nat) (v4 : Int32) : ∀ v m' k n, fJ4_subMap_2 (gE_ g) N m v0 v1 v2 v3 v4 = some (v, m', k, n) → Ct_ l g (⟨"java/util/TreeMap", "subMap", "(Ljava/lang/Object;ZLjava/lang/Object;Z)Ljava/util/NavigableMap;"⟩ : MethodName) (ws_ (⟨"java/util/TreeMap", "subMap", "(Ljava/lang/Object;ZLjava/lang/Object;Z)Ljava/util/NavigableMap;"⟩ : MethodName) cJ4_subMap_2 5 (Option.some (Jvm.ClassFile.FieldType.object "java/util/NavigableMap"))) 16 [vr_ v0, vr_ v1, vi_ v2, vr_ v3, vi_ v4] m (en_r v) m' k n :=
  Ct_of (by decide +kernel) rfl hst (Nat.le_of_ble_eq_true rfl) rfl (fun E C hret h0 hin => wJ4_subMap_2 C hret h0 hin N m v0 v1 v2 v3 v4 0 0)
theorem wJ4_subMap {l : Launch} {g : GG} {E : Me_} (C : Cx_ l g E "java/util/TreeMap" cJ4_subMap 3 17) (hret : (eT_ E).sig.returnType = (Option.some (Jvm.ClassFile.FieldType.object "java/util/SortedMap"))) (h0 : ∀ x ∈ (eC_ E).exceptionTable.toList, False) (hin : (eT_ E).name = "subMap") (N : Nat) : ∀ (m : Mm) (v0 : Option Nat) (v1 : Option Nat) (v2 : Option Nat) (k n : Nat), Sm_ l g E 3 en_r (fJ4_subMap (gE_ g) N m v0 v1 v2) k n 0 [(0, vr_ v0), (1, vr_ v1), (2, vr_ v2)] [] m := by
  intro m v0 v1 v2 k n
  unfold fJ4_subMap
  refine s_aload_n C rfl 0 rfl dJ4_subMap_0 1 rfl ?_
  refine s_aload_n C rfl 1 rfl dJ4_subMap_1 2 rfl ?_
  refine s_iconst C 1 rfl dJ4_subMap_2 3 rfl ?_
  refine s_aload_n C rfl 2 rfl dJ4_subMap_3 4 rfl ?_
  refine s_iconst C 0 rfl dJ4_subMap_4 5 rfl ?_
  refine x_ck (fun hb_ hb0_ => ?_)
  refine x_callV (enc := en_r) C 16 4 [vr_ v1, vi_ 1, vr_ v2, vi_ 0] 15 (ctJ4_subMap_2 C.2.2.2.2.2.2.2.2.1 N m v0 v1 1 v2 0) hb_ hb0_ rfl rfl q1995 q1996 q1997 q87 q1998 hdJ4_subMap_2 (Nat.le_of_ble_eq_true rfl) (Nat.le_of_ble_eq_true rfl) rfl (Nat.le_of_ble_eq_true rfl) dJ4_subMap_5 8 rfl rfl hen_r (kk_r (fun x1 m1 k1 n1 => ?_)) (kx_n he_r)
  exact x_aret C hret (Or.inl ⟨_, rfl⟩) rfl dJ4_subMap_8
theorem hdJ4_subMap : ((⟨"java/util/TreeMap", "subMap", "(Ljava/lang/Object;Ljava/lang/Object;)Ljava/util/SortedMap;"⟩ : MethodName)).cls ≠ "java/lang/invoke/MethodHandle" ∧ ((⟨"java/util/TreeMap", "subMap", "(Ljava/lang/Object;Ljava/lang/Object;)Ljava/util/SortedMap;"⟩ : MethodName)).cls ≠ "java/lang/invoke/VarHandle" ∧ (parseMethodDescriptor ((⟨"java/util/TreeMap", "subMap", "(Ljava/lang/Object;Ljava/lang/Object;)Ljava/util/SortedMap;"⟩ : MethodName)).desc).map (fun d => d.parameters.length) = some 2 := ⟨by decide +kernel, by decide +kernel, by decide +kernel⟩
theorem ctJ4_subMap {l : Launch} {g : GG} (hst : l.stackTraces = false) (N : Nat) (m : Mm) (v0 : Option Nat) (v1 : Option Nat) (v2 : Option Nat) : ∀ v m' k n, fJ4_subMap (gE_ g) N m v0 v1 v2 = some (v, m', k, n) → Ct_ l g (⟨"java/util/TreeMap", "subMap", "(Ljava/lang/Object;Ljava/lang/Object;)Ljava/util/SortedMap;"⟩ : MethodName) (ws_ (⟨"java/util/TreeMap", "subMap", "(Ljava/lang/Object;Ljava/lang/Object;)Ljava/util/SortedMap;"⟩ : MethodName) cJ4_subMap 3 (Option.some (Jvm.ClassFile.FieldType.object "java/util/SortedMap"))) 17 [vr_ v0, vr_ v1, vr_ v2] m (en_r v) m' k n :=
  Ct_of (by decide +kernel) rfl hst (Nat.le_of_ble_eq_true rfl) rfl (fun E C hret h0 hin => wJ4_subMap C hret h0 hin N m v0 v1 v2 0 0)
theorem wX3_valuesOf {l : Launch} {g : GG} {E : Me_} (C : Cx_ l g E "MasterTree$Entry" cX3_valuesOf 2 18) (hret : (eT_ E).sig.returnType = (Option.some (Jvm.ClassFile.FieldType.object "java/util/Map"))) (h0 : ∀ x ∈ (eC_ E).exceptionTable.toList, False) (hin : (eT_ E).name = "valuesOf") (N : Nat) : ∀ (m : Mm) (v0 : Option Nat) (v1 : Int32) (k n : Nat), Sm_ l g E 2 en_r (fX3_valuesOf (gE_ g) N m v0 v1) k n 0 [(0, vr_ v0), (1, vi_ v1)] [] m := by
  intro m v0 v1 k n
  unfold fX3_valuesOf
  refine s_aload_n C rfl 0 rfl dX3_valuesOf_0 1 rfl ?_
  refine x_gr C 2 (RX3, TX3, 9) rfl 7 (Nat.le_of_ble_eq_true rfl) q267 (Or.inl rfl) rfl 3 rfl dX3_valuesOf_1 4 rfl (fun x1 => ?_)
  refine s_sipush C 1000 rfl dX3_valuesOf_4 7 rfl ?_
  refine s_iload_n C rfl 1 rfl dX3_valuesOf_7 8 rfl ?_
  refine s_imul C dX3_valuesOf_8 9 rfl ?_
  refine x_callS (enc := en_r) C 12 1 [vi_ (1000 * v1)] (ctJ21_valueOf C.2.2.2.2.2.2.2.2.1 N m (1000 * v1)) q1619 q1620 q108 q1621 hdJ21_valueOf (Nat.le_of_ble_eq_true rfl) (Nat.le_of_ble_eq_true rfl) rfl (Nat.le_of_ble_eq_true rfl) dX3_valuesOf_9 12 rfl rfl hen_r (kk_r (fun x2 m1 k1 n1 => ?_)) (kx_n he_r)
  refine s_sipush C 1000 rfl dX3_valuesOf_12 15 rfl ?_
  refine s_iload_n C rfl 1 rfl dX3_valuesOf_15 16 rfl ?_
  refine s_imul C dX3_valuesOf_16 17 rfl ?_
  refine s_sipush C 1000 rfl dX3_valuesOf_17 20 rfl ?_
  refine s_iadd C dX3_valuesOf_20 21 rfl ?_
  refine x_callS (enc := en_r) C 12 1 [vi_ ((1000 * v1) + 1000)] (ctJ21_valueOf C.2.2.2.2.2.2.2.2.1 N m1 ((1000 * v1) + 1000)) q1619 q1620 q108 q1621 hdJ21_valueOf (Nat.le_of_ble_eq_true rfl) (Nat.le_of_ble_eq_true rfl) rfl (Nat.le_of_ble_eq_true rfl) dX3_valuesOf_21 24 rfl rfl hen_r (kk_r (fun x3 m2 k1 n1 => ?_)) (kx_n he_r)
  refine x_ck (fun hb_ hb0_ => ?_)
  refine x_callV (enc := en_r) C 17 2 [vr_ x2, vr_ x3] 15 (ctJ4_subMap C.2.2.2.2.2.2.2.2.1 N m2 x1 x2 x3) hb_ hb0_ rfl rfl q1991 q1992 q1993 q87 q1994 hdJ4_subMap (Nat.le_of_ble_eq_true rfl) (Nat.le_of_ble_eq_true rfl) rfl (Nat.le_of_ble_eq_true rfl) dX3_valuesOf_24 27 rfl rfl hen_r (kk_r (fun x4 m3 k1 n1 => ?_)) (kx_n he_r)
  exact x_aret C hret (Or.inl ⟨_, rfl⟩) rfl dX3_valuesOf_27
theorem hdX3_valuesOf : ((⟨"MasterTree$Entry", "valuesOf", "(I)Ljava/util/Map;"⟩ : MethodName)).cls ≠ "java/lang/invoke/MethodHandle" ∧ ((⟨"MasterTree$Entry", "valuesOf", "(I)Ljava/util/Map;"⟩ : MethodName)).cls ≠ "java/lang/invoke/VarHandle" ∧ (parseMethodDescriptor ((⟨"MasterTree$Entry", "valuesOf", "(I)Ljava/util/Map;"⟩ : MethodName)).desc).map (fun d => d.parameters.length) = some 1 := ⟨by decide +kernel, by decide +kernel, by decide +kernel⟩
theorem ctX3_valuesOf {l : Launch} {g : GG} (hst : l.stackTraces = false) (N : Nat) (m : Mm) (v0 : Option Nat) (v1 : Int32) : ∀ v m' k n, fX3_valuesOf (gE_ g) N m v0 v1 = some (v, m', k, n) → Ct_ l g (⟨"MasterTree$Entry", "valuesOf", "(I)Ljava/util/Map;"⟩ : MethodName) (ws_ (⟨"MasterTree$Entry", "valuesOf", "(I)Ljava/util/Map;"⟩ : MethodName) cX3_valuesOf 2 (Option.some (Jvm.ClassFile.FieldType.object "java/util/Map"))) 18 [vr_ v0, vi_ v1] m (en_r v) m' k n :=
  Ct_of (by decide +kernel) rfl hst (Nat.le_of_ble_eq_true rfl) rfl (fun E C hret h0 hin => wX3_valuesOf C hret h0 hin N m v0 v1 0 0)
theorem wJ0_init_t22 {l : Launch} {g : GG} {E : Me_} (C : Cx_ l g E "java/util/AbstractCollection" cJ0_init 1 10) (hret : (eT_ E).sig.returnType = (Option.none : Option Jvm.ClassFile.FieldType)) (h0 : ∀ x ∈ (eC_ E).exceptionTable.toList, False) (hin : (eT_ E).name = "<init>") (N : Nat) : ∀ (m : Mm) (v0 : Option Nat) (k n : Nat), Sm_ l g E 1 en_v (fJ0_init_t22 (gE_ g) N m v0) k n 0 [(0, vr_ v0)] [] m := by
  intro m v0 k n
  unfold fJ0_init_t22
  refine s_aload_n C rfl 0 rfl dJ0_init_0 1 rfl ?_
  refine x_ok (fun hb_ => ?_)
  refine x_obj C hb_ q165 q152 q153 (by decide) (Nat.le_of_ble_eq_true rfl) dJ0_init_1 4 rfl ?_
  exact x_vret C hret rfl dJ0_init_4
theorem hdJ0_init_t22 : ((⟨"java/util/AbstractCollection", "<init>", "()V"⟩ : MethodName)).cls ≠ "java/lang/invoke/MethodHandle" ∧ ((⟨"java/util/AbstractCollection", "<init>", "()V"⟩ : MethodName)).cls ≠ "java/lang/invoke/VarHandle" ∧ (parseMethodDescriptor ((⟨"java/util/AbstractCollection", "<init>", "()V"⟩ : MethodName)).desc).map (fun d => d.parameters.length) = some 0 := ⟨by decide +kernel, by decide +kernel, by decide +kernel⟩
theorem ctJ0_init_t22 {l : Launch} {g : GG} (hst : l.stackTraces = false) (N : Nat) (m : Mm) (v0 : Option Nat) : ∀ v m' k n, fJ0_init_t22 (gE_ g) N m v0 = some (v, m', k, n) → Ct_ l g (⟨"java/util/AbstractCollection", "<init>", "()V"⟩ : MethodName) (ws_ (⟨"java/util/AbstractCollection", "<init>", "()V"⟩ : MethodName) cJ0_init 1 (Option.none : Option Jvm.ClassFile.FieldType)) 10 [vr_ v0] m (en_v v) m' k n :=
  Ct_of (by decide +kernel) rfl hst (Nat.le_of_ble_eq_true rfl) rfl (fun E C hret h0 hin => wJ0_init_t22 C hret h0 hin N m v0 0 0)
theorem wJ24_init_t22 {l : Launch} {g : GG} {E : Me_} (C : Cx_ l g E "java/util/AbstractSet" cJ24_init 1 11) (hret : (eT_ E).sig.returnType = (Option.none : Option Jvm.ClassFile.FieldType)) (h0 : ∀ x ∈ (eC_ E).exceptionTable.toList, False) (hin : (eT_ E).name = "<init>") (N : Nat) : ∀ (m : Mm) (v0 : Option Nat) (k n : Nat), Sm_ l g E 1 en_v (fJ24_init_t22 (gE_ g) N m v0) k n 0 [(0, vr_ v0)] [] m := by
  intro m v0 k n
  unfold fJ24_init_t22
  refine s_aload_n C rfl 0 rfl dJ24_init_0 1 rfl ?_
  refine x_ok (fun hb0_ => ?_)
  refine x_callI (enc := en_v) C 10 0 [] (ctJ0_init_t22 C.2.2.2.2.2.2.2.2.1 N m v0) hb0_ rfl q1007 q163 q82 q164 rfl hdJ0_init_t22 (Nat.le_of_ble_eq_true rfl) (Nat.le_of_ble_eq_true rfl) rfl (Nat.le_of_ble_eq_true rfl) dJ24_init_1 4 rfl rfl hen_v (kk_v (fun m1 k1 n1 => ?_)) (kx_n he_v)
  exact x_vret C hret rfl dJ24_init_4
theorem hdJ24_init_t22 : ((⟨"java/util/AbstractSet", "<init>", "()V"⟩ : MethodName)).cls ≠ "java/lang/invoke/MethodHandle" ∧ ((⟨"java/util/AbstractSet", "<init>", "()V"⟩ : MethodName)).cls ≠ "java/lang/invoke/VarHandle" ∧ (parseMethodDescriptor ((⟨"java/util/AbstractSet", "<init>", "()V"⟩ : MethodName)).desc).map (fun d => d.parameters.length) = some 0 := ⟨by decide +kernel, by decide +kernel, by decide +kernel⟩
theorem ctJ24_init_t22 {l : Launch} {g : GG} (hst : l.stackTraces = false) (N : Nat) (m : Mm) (v0 : Option Nat) : ∀ v m' k n, fJ24_init_t22 (gE_ g) N m v0 = some (v, m', k, n) → Ct_ l g (⟨"java/util/AbstractSet", "<init>", "()V"⟩ : MethodName) (ws_ (⟨"java/util/AbstractSet", "<init>", "()V"⟩ : MethodName) cJ24_init 1 (Option.none : Option Jvm.ClassFile.FieldType)) 11 [vr_ v0] m (en_v v) m' k n :=
  Ct_of (by decide +kernel) rfl hst (Nat.le_of_ble_eq_true rfl) rfl (fun E C hret h0 hin => wJ24_init_t22 C hret h0 hin N m v0 0 0)
theorem wJ40_init_t22 {l : Launch} {g : GG} {E : Me_} (C : Cx_ l g E "java/util/TreeMap$NavigableSubMap$EntrySetView" cJ40_init 2 12) (hret : (eT_ E).sig.returnType = (Option.none : Option Jvm.ClassFile.FieldType)) (h0 : ∀ x ∈ (eC_ E).exceptionTable.toList, False) (hin : (eT_ E).name = "<init>") (N : Nat) : ∀ (m : Mm) (v0 : Option Nat) (v1 : Option Nat) (k n : Nat), Sm_ l g E 2 en_v (fJ40_init_t22 (gE_ g) N m v0 v1) k n 0 [(0, vr_ v0), (1, vr_ v1)] [] m := by
  intro m v0 v1 k n
  unfold fJ40_init_t22
  refine s_aload_n C rfl 0 rfl dJ40_init_0 1 rfl ?_
  refine s_aload_n C rfl 1 rfl dJ40_init_1 2 rfl ?_
  refine x_prF C hin 21 (RJ41, TJ41, 4) rfl 2 (Nat.le_of_ble_eq_true rfl) rfl q2081 rfl rfl trivial 22 rfl dJ40_init_2 5 rfl (fun m1 => ?_)
  refine s_aload_n C rfl 0 rfl dJ40_init_5 6 rfl ?_
  refine x_ok (fun hb0_ => ?_)
  refine x_callI (enc := en_v) C 11 0 [] (ctJ24_init_t22 C.2.2.2.2.2.2.2.2.1 N m1 v0) hb0_ rfl q2077 q1005 q112 q1006 rfl hdJ24_init_t22 (Nat.le_of_ble_eq_true rfl) (Nat.le_of_ble_eq_true rfl) rfl (Nat.le_of_ble_eq_true rfl) dJ40_init_6 9 rfl rfl hen_v (kk_v (fun m2 k1 n1 => ?_)) (kx_n he_v)
  refine s_aload_n C rfl 0 rfl dJ40_init_9 10 rfl ?_
  refine s_iconst C (-1) rfl dJ40_init_10 11 rfl ?_
  refine x_pi C 21 (RJ41, TJ41, 4) rfl 0 (Nat.le_of_ble_eq_true rfl) rfl q2079 (Or.inl rfl) rfl trivial 22 rfl dJ40_init_11 14 rfl (fun m3 => ?_)
  exact x_vret C hret rfl dJ40_init_14
theorem hdJ40_init_t22 : ((⟨"java/util/TreeMap$NavigableSubMap$EntrySetView", "<init>", "(Ljava/util/TreeMap$NavigableSubMap;)V"⟩ : MethodName)).cls ≠ "java/lang/invoke/MethodHandle" ∧ ((⟨"java/util/TreeMap$NavigableSubMap$EntrySetView", "<init>", "(Ljava/util/TreeMap$NavigableSubMap;)V"⟩ : MethodName)).cls ≠ "java/lang/invoke/VarHandle" ∧ (parseMethodDescriptor ((⟨"java/util/TreeMap$NavigableSubMap$EntrySetView", "<init>", "(Ljava/util/TreeMap$NavigableSubMap;)V"⟩ : MethodName)).desc).map (fun d => d.parameters.length) = some 1 := ⟨by decide +kernel, by decide +kernel, by decide +kernel⟩
theorem ctJ40_init_t22 {l : Launch} {g : GG} (hst : l.stackTraces = false) (N : Nat) (m : Mm) (v0 : Option Nat) (v1 : Option Nat) : ∀ v m' k n, fJ40_init_t22 (gE_ g) N m v0 v1 = some (v, m', k, n) → Ct_ l g (⟨"java/util/TreeMap$NavigableSubMap$EntrySetView", "<init>", "(Ljava/util/TreeMap$NavigableSubMap;)V"⟩ : MethodName) (ws_ (⟨"java/util/TreeMap$NavigableSubMap$EntrySetView", "<init>", "(Ljava/util/TreeMap$NavigableSubMap;)V"⟩ : MethodName) cJ40_init 2 (Option.none : Option Jvm.ClassFile.FieldType)) 12 [vr_ v0, vr_ v1] m (en_v v) m' k n :=
  Ct_of (by decide +kernel) rfl hst (Nat.le_of_ble_eq_true rfl) rfl (fun E C hret h0 hin => wJ40_init_t22 C hret h0 hin N m v0 v1 0 0)
theorem wJ41_init {l : Launch} {g : GG} {E : Me_} (C : Cx_ l g E "java/util/TreeMap$AscendingSubMap$AscendingEntrySetView" cJ41_init 2 13) (hret : (eT_ E).sig.returnType = (Option.none : Option Jvm.ClassFile.FieldType)) (h0 : ∀ x ∈ (eC_ E).exceptionTable.toList, False) (hin : (eT_ E).name = "<init>") (N : Nat) : ∀ (m : Mm) (v0 : Option Nat) (v1 : Option Nat) (k n : Nat), Sm_ l g E 2 en_v (fJ41_init (gE_ g) N m v0 v1) k n 0 [(0, vr_ v0), (1, vr_ v1)] [] m := by
  intro m v0 v1 k n
  unfold fJ41_init
  refine s_aload_n C rfl 0 rfl dJ41_init_0 1 rfl ?_
  refine s_aload_n C rfl 1 rfl dJ41_init_1 2 rfl ?_
  refine x_prF C hin 21 (RJ41, TJ41, 4) rfl 3 (Nat.le_of_ble_eq_true rfl) rfl q2078 rfl rfl trivial 22 rfl dJ41_init_2 5 rfl (fun m1 => ?_)
  refine s_aload_n C rfl 0 rfl dJ41_init_5 6 rfl ?_
  refine s_aload_n C rfl 1 rfl dJ41_init_6 7 rfl ?_
  refine x_ok (fun hb0_ => ?_)
  refine x_callI (enc := en_v) C 12 1 [vr_ v1] (ctJ40_init_t22 C.2.2.2.2.2.2.2.2.1 N m1 v0 v1) hb0_ rfl q2074 q2075 q133 q2076 rfl hdJ40_init_t22 (Nat.le_of_ble_eq_true rfl) (Nat.le_of_ble_eq_true rfl) rfl (Nat.le_of_ble_eq_true rfl) dJ41_init_7 10 rfl rfl hen_v (kk_v (fun m2 k1 n1 => ?_)) (kx_n he_v)
  exact x_vret C hret rfl dJ41_init_10
theorem hdJ41_init : ((⟨"java/util/TreeMap$AscendingSubMap$AscendingEntrySetView", "<init>", "(Ljava/util/TreeMap$AscendingSubMap;)V"⟩ : MethodName)).cls ≠ "java/lang/invoke/MethodHandle" ∧ ((⟨"java/util/TreeMap$AscendingSubMap$AscendingEntrySetView", "<init>", "(Ljava/util/TreeMap$AscendingSubMap;)V"⟩ : MethodName)).cls ≠ "java/lang/invoke/VarHandle" ∧ (parseMethodDescriptor ((⟨"java/util/TreeMap$AscendingSubMap$AscendingEntrySetView", "<init>", "(Ljava/util/TreeMap$AscendingSubMap;)V"⟩ : MethodName)).desc).map (fun d => d.parameters.length) = some 1 := ⟨by decide +kernel, by decide +kernel, by decide +kernel⟩
theorem ctJ41_init {l : Launch} {g : GG} (hst : l.stackTraces = false) (N : Nat) (m : Mm) (v0 : Option Nat) (v1 : Option Nat) : ∀ v m' k n, fJ41_init (gE_ g) N m v0 v1 = some (v, m', k, n) → Ct_ l g (⟨"java/util/TreeMap$AscendingSubMap$AscendingEntrySetView", "<init>", "(Ljava/util/TreeMap$AscendingSubMap;)V"⟩ : MethodName) (ws_ (⟨"java/util/TreeMap$AscendingSubMap$AscendingEntrySetView", "<init>", "(Ljava/util/TreeMap$AscendingSubMap;)V"⟩ : MethodName) cJ41_init 2 (Option.none : Option Jvm.ClassFile.FieldType)) 13 [vr_ v0, vr_ v1] m (en_v v) m' k n :=
  Ct_of (by decide +kernel) rfl hst (Nat.le_of_ble_eq_true rfl) rfl (fun E C hret h0 hin => wJ41_init C hret h0 hin N m v0 v1 0 0)
theorem wJ39_entrySet_b26 {l : Launch} {g : GG} {E : Me_} (C : Cx_ l g E "java/util/TreeMap$AscendingSubMap" cJ39_entrySet 2 14) (hret : (eT_ E).sig.returnType = (Option.some (Jvm.ClassFile.FieldType.object "java/util/Set"))) (h0 : ∀ x ∈ (eC_ E).exceptionTable.toList, False) (hin : (eT_ E).name = "entrySet") (N : Nat) : ∀ (m : Mm) (s0 : Option Nat) (k n : Nat), Sm_ l g E 2 en_r (fJ39_entrySet_b26 (gE_ g) N m s0) k n 26 [] [vr_ s0] m := by
  intro m s0 k n
  unfold fJ39_entrySet_b26
  exact x_aret C hret (Or.inl ⟨_, rfl⟩) rfl dJ39_entrySet_26
theorem wJ39_entrySet {l : Launch} {g : GG} {E : Me_} (C : Cx_ l g E "java/util/TreeMap$AscendingSubMap" cJ39_entrySet 2 14) (hret : (eT_ E).sig.returnType = (Option.some (Jvm.ClassFile.FieldType.object "java/util/Set"))) (h0 : ∀ x ∈ (eC_ E).exceptionTable.toList, False) (hin : (eT_ E).name = "entrySet") (N : Nat) : ∀ (m : Mm) (v0 : Option Nat) (k n : Nat), Sm_ l g E 2 en_r (fJ39_entrySet (gE_ g) N m v0) k n 0 [(0, vr_ v0)] [] m := by
  intro m v0 k n
  unfold fJ39_entrySet
  refine s_aload_n C rfl 0 rfl dJ39_entrySet_0 1 rfl ?_
  refine x_gr C 20 (RJ39, TJ39, 12) rfl 8 (Nat.le_of_ble_eq_true rfl) q2022 (Or.inr q2023) rfl 21 rfl dJ39_entrySet_1 4 rfl (fun x1 => ?_)
  refine s_astore_n C rfl (Nat.le_of_ble_eq_true rfl) [0] rfl rfl dJ39_entrySet_4 5 rfl ?_
  refine s_aload_n C rfl 0 rfl dJ39_entrySet_5 6 rfl ?_
  refine s_ifnull C dJ39_entrySet_6 13 rfl 9 rfl (fun c_ => ?_) (fun c_ => ?_)
  · refine s_aload_n C rfl 1 rfl dJ39_entrySet_13 14 rfl ?_
    refine x_nw C 21 (RJ41, TJ41, 4) rfl q2069 q2070 q134 22 4 rfl rfl dJ39_entrySet_14 17 rfl (fun x2 m1 => ?_)
    refine s_dup C rfl dJ39_entrySet_17 18 rfl ?_
    refine s_aload_n C rfl 1 rfl dJ39_entrySet_18 19 rfl ?_
    refine x_callI (enc := en_v) C 13 1 [vr_ v0] (ctJ41_init C.2.2.2.2.2.2.2.2.1 N m1 (some x2) v0) (fun h => by cases h) rfl q2071 q2072 q134 q2073 rfl hdJ41_init (Nat.le_of_ble_eq_true rfl) (Nat.le_of_ble_eq_true rfl) rfl (Nat.le_of_ble_eq_true rfl) dJ39_entrySet_19 22 rfl rfl hen_v (kk_v (fun m2 k1 n1 => ?_)) (kx_n he_v)
    refine s_dup_x1 C rfl rfl dJ39_entrySet_22 23 rfl ?_
    refine x_pr C 20 (RJ39, TJ39, 12) rfl 8 (Nat.le_of_ble_eq_true rfl) rfl q2022 (Or.inr q2023) rfl trivial 21 rfl dJ39_entrySet_23 26 rfl (fun m3 => ?_)
    refine Sm_sub [] rfl ?_
    exact wJ39_entrySet_b26 C hret h0 hin N _ _ _ _
  · refine s_aload_n C rfl 0 rfl dJ39_entrySet_9 10 rfl ?_
    refine s_goto C (off := 16) 26 dJ39_entrySet_10 rfl ?_
    refine Sm_sub [] rfl ?_
    exact wJ39_entrySet_b26 C hret h0 hin N _ _ _ _
theorem hdJ39_entrySet : ((⟨"java/util/TreeMap$AscendingSubMap", "entrySet", "()Ljava/util/Set;"⟩ : MethodName)).cls ≠ "java/lang/invoke/MethodHandle" ∧ ((⟨"java/util/TreeMap$AscendingSubMap", "entrySet", "()Ljava/util/Set;"⟩ : MethodName)).cls ≠ "java/lang/invoke/VarHandle" ∧ (parseMethodDescriptor ((⟨"java/util/TreeMap$AscendingSubMap", "entrySet", "()Ljava/util/Set;"⟩ : MethodName)).desc).map (fun d => d.parameters.length) = some 0 := ⟨by decide +kernel, by decide +kernel, by decide +kernel⟩
theorem ctJ39_entrySet {l : Launch} {g : GG} (hst : l.stackTraces = false) (N : Nat) (m : Mm) (v0 : Option Nat) : ∀ v m' k n, fJ39_entrySet (gE_ g) N m v0 = some (v, m', k, n) → Ct_ l g (⟨"java/util/TreeMap$AscendingSubMap", "entrySet", "()Ljava/util/Set;"⟩ : MethodName) (ws_ (⟨"java/util/TreeMap$AscendingSubMap", "entrySet", "()Ljava/util/Set;"⟩ : MethodName) cJ39_entrySet 2 (Option.some (Jvm.ClassFile.FieldType.object "java/util/Set"))) 14 [vr_ v0] m (en_r v) m' k n :=
  Ct_of (by decide +kernel) rfl hst (Nat.le_of_ble_eq_true rfl) rfl (fun E C hret h0 hin => wJ39_entrySet C hret h0 hin N m v0 0 0)
theorem wJ26_hasNext_t23_b26 {l : Launch} {g : GG} {E : Me_} (C : Cx_ l g E "java/util/TreeMap$NavigableSubMap$SubMapIterator" cJ26_hasNext 1 10) (hret : (eT_ E).sig.returnType = (Option.some Jvm.ClassFile.FieldType.boolean)) (h0 : ∀ x ∈ (eC_ E).exceptionTable.toList, False) (hin : (eT_ E).name = "hasNext") (N : Nat) : ∀ (m : Mm) (s0 : Int32) (k n : Nat), Sm_ l g E 1 en_i (fJ26_hasNext_t23_b26 (gE_ g) N m s0) k n 26 [] [vi_ s0] m := by
  intro m s0 k n
  unfold fJ26_hasNext_t23_b26
  exact x_zret C hret rfl dJ26_hasNext_26
theorem wJ26_hasNext_t23_b25 {l : Launch} {g : GG} {E : Me_} (C : Cx_ l g E "java/util/TreeMap$NavigableSubMap$SubMapIterator" cJ26_hasNext 1 10) (hret : (eT_ E).sig.returnType = (Option.some Jvm.ClassFile.FieldType.boolean)) (h0 : ∀ x ∈ (eC_ E).exceptionTable.toList, False) (hin : (eT_ E).name = "hasNext") (N : Nat) : ∀ (m : Mm) (k n : Nat), Sm_ l g E 1 en_i (fJ26_hasNext_t23_b25 (gE_ g) N m) k n 25 [] [] m := by
  intro m k n
  unfold fJ26_hasNext_t23_b25
  refine s_iconst C 0 rfl dJ26_hasNext_25 26 rfl ?_
  exact wJ26_hasNext_t23_b26 C hret h0 hin N _ _ _ _
theorem wJ26_hasNext_t23 {l : Launch} {g : GG} {E : Me_} (C : Cx_ l g E "java/util/TreeMap$NavigableSubMap$SubMapIterator" cJ26_hasNext 1 10) (hret : (eT_ E).sig.returnType = (Option.some Jvm.ClassFile.FieldType.boolean)) (h0 : ∀ x ∈ (eC_ E).exceptionTable.toList, False) (hin : (eT_ E).name = "hasNext") (N : Nat) : ∀ (m : Mm) (v0 : Option Nat) (k n : Nat), Sm_ l g E 1 en_i (fJ26_hasNext_t23 (gE_ g) N m v0) k n 0 [(0, vr_ v0)] [] m := by
  intro m v0 k n
  unfold fJ26_hasNext_t23
  refine s_aload_n C rfl 0 rfl dJ26_hasNext_0 1 rfl ?_
  refine x_gr C 22 (RJ27, TJ27, 5) rfl 1 (Nat.le_of_ble_eq_true rfl) q1354 (Or.inl rfl) rfl 23 rfl dJ26_hasNext_1 4 rfl (fun x1 => ?_)
  refine s_ifnull C dJ26_hasNext_4 25 rfl 7 rfl (fun c_ => ?_) (fun c_ => ?_)
  · refine Sm_sub [] rfl ?_
    exact wJ26_hasNext_t23_b25 C hret h0 hin N _ _ _
  · refine s_aload_n C rfl 0 rfl dJ26_hasNext_7 8 rfl ?_
    refine x_gr C 22 (RJ27, TJ27, 5) rfl 1 (Nat.le_of_ble_eq_true rfl) q1354 (Or.inl rfl) rfl 23 rfl dJ26_hasNext_8 11 rfl (fun x2 => ?_)
    refine x_gr C 15 (RJ37, TJ37, 6) rfl 0 (Nat.le_of_ble_eq_true rfl) q1892 (Or.inl rfl) rfl 16 rfl dJ26_hasNext_11 14 rfl (fun x3 => ?_)
    refine s_aload_n C rfl 0 rfl dJ26_hasNext_14 15 rfl ?_
    refine x_gr C 22 (RJ27, TJ27, 5) rfl 2 (Nat.le_of_ble_eq_true rfl) q1355 (Or.inl rfl) rfl 23 rfl dJ26_hasNext_15 18 rfl (fun x4 => ?_)
    refine s_acmp_eq C dJ26_hasNext_18 25 rfl 21 rfl (fun c_ => ?_) (fun c_ => ?_)
    · refine Sm_sub [] rfl ?_
      exact wJ26_hasNext_t23_b25 C hret h0 hin N _ _ _
    · refine s_iconst C 1 rfl dJ26_hasNext_21 22 rfl ?_
      refine s_goto C (off := 4) 26 dJ26_hasNext_22 rfl ?_
      refine Sm_sub [] rfl ?_
      exact wJ26_hasNext_t23_b26 C hret h0 hin N _ _ _ _
theorem hdJ26_hasNext_t23 : ((⟨"java/util/TreeMap$NavigableSubMap$SubMapIterator", "hasNext", "()Z"⟩ : MethodName)).cls ≠ "java/lang/invoke/MethodHandle" ∧ ((⟨"java/util/TreeMap$NavigableSubMap$SubMapIterator", "hasNext", "()Z"⟩ : MethodName)).cls ≠ "java/lang/invoke/VarHandle" ∧ (parseMethodDescriptor ((⟨"java/util/TreeMap$NavigableSubMap$SubMapIterator", "hasNext", "()Z"⟩ : MethodName)).desc).map (fun d => d.parameters.length) = some 0 := ⟨by decide +kernel, by decide +kernel, by decide +kernel⟩
theorem ctJ26_hasNext_t23 {l : Launch} {g : GG} (hst : l.stackTraces = false) (N : Nat) (m : Mm) (v0 : Option Nat) : ∀ v m' k n, fJ26_hasNext_t23 (gE_ g) N m v0 = some (v, m', k, n) → Ct_ l g (⟨"java/util/TreeMap$NavigableSubMap$SubMapIterator", "hasNext", "()Z"⟩ : MethodName) (ws_ (⟨"java/util/TreeMap$NavigableSubMap$SubMapIterator", "hasNext", "()Z"⟩ : MethodName) cJ26_hasNext 1 (Option.some Jvm.ClassFile.FieldType.boolean)) 10 [vr_ v0] m (en_i v) m' k n :=
  Ct_of (by decide +kernel) rfl hst (Nat.le_of_ble_eq_true rfl) rfl (fun E C hret h0 hin => wJ26_hasNext_t23 C hret h0 hin N m v0 0 0)
theorem wJ26_nextEntry_t23_b20 {l : Launch} {g : GG} {E : Me_} (C : Cx_ l g E "java/util/TreeMap$NavigableSubMap$SubMapIterator" cJ26_nextEntry 2 11) (hret : (eT_ E).sig.returnType = (Option.some (Jvm.ClassFile.FieldType.object "java/util/TreeMap$Entry"))) (h0 : ∀ x ∈ (eC_ E).exceptionTable.toList, False) (hin : (eT_ E).name = "nextEntry") (N : Nat) : ∀ (m : Mm) (k n : Nat), Sm_ l g E 2 en_r (fJ26_nextEntry_t23_b20 (gE_ g) N m) k n 20 [] [] m := by
  intro m k n
  unfold fJ26_nextEntry_t23_b20
  exact Sm_none
theorem wJ26_nextEntry_t23 {l : Launch} {g : GG} {E : Me_} (C : Cx_ l g E "java/util/TreeMap$NavigableSubMap$SubMapIterator" cJ26_nextEntry 2 11) (hret : (eT_ E).sig.returnType = (Option.some (Jvm.ClassFile.FieldType.object "java/util/TreeMap$Entry"))) (h0 : ∀ x ∈ (eC_ E).exceptionTable.toList, False) (hin : (eT_ E).name = "nextEntry") (N : Nat) : ∀ (m : Mm) (v0 : Option Nat) (k n : Nat), Sm_ l g E 2 en_r (fJ26_nextEntry_t23 (gE_ g) N m v0) k n 0 [(0, vr_ v0)] [] m := by
  intro m v0 k n
  unfold fJ26_nextEntry_t23
  refine s_aload_n C rfl 0 rfl dJ26_nextEntry_0 1 rfl ?_
  refine x_gr C 22 (RJ27, TJ27, 5) rfl 1 (Nat.le_of_ble_eq_true rfl) q1354 (Or.inl rfl) rfl 23 rfl dJ26_nextEntry_1 4 rfl (fun x1 => ?_)
  refine s_astore_n C rfl (Nat.le_of_ble_eq_true rfl) [0] rfl rfl dJ26_nextEntry_4 5 rfl ?_
  refine s_aload_n C rfl 0 rfl dJ26_nextEntry_5 6 rfl ?_
  refine s_ifnull C dJ26_nextEntry_6 20 rfl 9 rfl (fun c_ => ?_) (fun c_ => ?_)
  · refine Sm_sub [] rfl ?_
    exact wJ26_nextEntry_t23_b20 C hret h0 hin N _ _ _
  · refine s_aload_n C rfl 0 rfl dJ26_nextEntry_9 10 rfl ?_
    refine x_gr C 15 (RJ37, TJ37, 6) rfl 0 (Nat.le_of_ble_eq_true rfl) q1892 (Or.inl rfl) rfl 16 rfl dJ26_nextEntry_10 13 rfl (fun x2 => ?_)
    refine s_aload_n C rfl 1 rfl dJ26_nextEntry_13 14 rfl ?_
    refine x_gr C 22 (RJ27, TJ27, 5) rfl 2 (Nat.le_of_ble_eq_true rfl) q1355 (Or.inl rfl) rfl 23 rfl dJ26_nextEntry_14 17 rfl (fun x3 => ?_)
    refine s_acmp_ne C dJ26_nextEntry_17 28 rfl 20 rfl (fun c_ => ?_) (fun c_ => ?_)
    · refine Sm_sub [] rfl ?_
      exact wJ26_nextEntry_t23_b20 C hret h0 hin N _ _ _
    · refine s_aload_n C rfl 1 rfl dJ26_nextEntry_28 29 rfl ?_
      refine x_gr C 22 (RJ27, TJ27, 5) rfl 4 (Nat.le_of_ble_eq_true rfl) q1357 (Or.inl rfl) rfl 23 rfl dJ26_nextEntry_29 32 rfl (fun x4 => ?_)
      refine x_gr C 20 (RJ39, TJ39, 12) rfl 0 (Nat.le_of_ble_eq_true rfl) q2011 (Or.inl rfl) rfl 21 rfl dJ26_nextEntry_32 35 rfl (fun x5 => ?_)
      refine x_giN C 14 (RJ4, TJ4, 9) rfl 5 (Nat.le_of_ble_eq_true rfl) q209 rfl rfl 15 rfl dJ26_nextEntry_35 38 rfl (fun x6 => ?_)
      refine s_aload_n C rfl 1 rfl dJ26_nextEntry_38 39 rfl ?_
      refine x_gi C 22 (RJ27, TJ27, 5) rfl 3 (Nat.le_of_ble_eq_true rfl) q1356 (Or.inl rfl) rfl 23 rfl dJ26_nextEntry_39 42 rfl (fun x7 => ?_)
      refine s_icmp_eq C dJ26_nextEntry_42 53 rfl 45 rfl (fun c_ => ?_) (fun c_ => ?_)
      · refine s_aload_n C rfl 1 rfl dJ26_nextEntry_53 54 rfl ?_
        refine s_aload_n C rfl 0 rfl dJ26_nextEntry_54 55 rfl ?_
        refine x_callS (enc := en_r) C 10 1 [vr_ x1] (ctJ4_successor C.2.2.2.2.2.2.2.2.1 N m x1) q1545 q1520 q87 q1521 hdJ4_successor (Nat.le_of_ble_eq_true rfl) (Nat.le_of_ble_eq_true rfl) rfl (Nat.le_of_ble_eq_true rfl) dJ26_nextEntry_55 58 rfl rfl hen_r (kk_r (fun x8 m1 k1 n1 => ?_)) (kx_n he_r)
        refine x_pr C 22 (RJ27, TJ27, 5) rfl 1 (Nat.le_of_ble_eq_true rfl) rfl q1354 (Or.inl rfl) rfl trivial 23 rfl dJ26_nextEntry_58 61 rfl (fun m2 => ?_)
        refine s_aload_n C rfl 1 rfl dJ26_nextEntry_61 62 rfl ?_
        refine s_aload_n C rfl 0 rfl dJ26_nextEntry_62 63 rfl ?_
        refine x_pr C 22 (RJ27, TJ27, 5) rfl 0 (Nat.le_of_ble_eq_true rfl) rfl q1353 (Or.inl rfl) rfl trivial 23 rfl dJ26_nextEntry_63 66 rfl (fun m3 => ?_)
        refine s_aload_n C rfl 0 rfl dJ26_nextEntry_66 67 rfl ?_
        exact x_aret C hret (Or.inl ⟨_, rfl⟩) rfl dJ26_nextEntry_67
      · exact Sm_none
theorem hdJ26_nextEntry_t23 : ((⟨"java/util/TreeMap$NavigableSubMap$SubMapIterator", "nextEntry", "()Ljava/util/TreeMap$Entry;"⟩ : MethodName)).cls ≠ "java/lang/invoke/MethodHandle" ∧ ((⟨"java/util/TreeMap$NavigableSubMap$SubMapIterator", "nextEntry", "()Ljava/util/TreeMap$Entry;"⟩ : MethodName)).cls ≠ "java/lang/invoke/VarHandle" ∧ (parseMethodDescriptor ((⟨"java/util/TreeMap$NavigableSubMap$SubMapIterator", "nextEntry", "()Ljava/util/TreeMap$Entry;"⟩ : MethodName)).desc).map (fun d => d.parameters.length) = some 0 := ⟨by decide +kernel, by decide +kernel, by decide +kernel⟩
theorem ctJ26_nextEntry_t23 {l : Launch} {g : GG} (hst : l.stackTraces = false) (N : Nat) (m : Mm) (v0 : Option Nat) : ∀ v m' k n, fJ26_nextEntry_t23 (gE_ g) N m v0 = some (v, m', k, n) → Ct_ l g (⟨"java/util/TreeMap$NavigableSubMap$SubMapIterator", "nextEntry", "()Ljava/util/TreeMap$Entry;"⟩ : MethodName) (ws_ (⟨"java/util/TreeMap$NavigableSubMap$SubMapIterator", "nextEntry", "()Ljava/util/TreeMap$Entry;"⟩ : MethodName) cJ26_nextEntry 2 (Option.some (Jvm.ClassFile.FieldType.object "java/util/TreeMap$Entry"))) 11 [vr_ v0] m (en_r v) m' k n :=
  Ct_of (by decide +kernel) rfl hst (Nat.le_of_ble_eq_true rfl) rfl (fun E C hret h0 hin => wJ26_nextEntry_t23 C hret h0 hin N m v0 0 0)
theorem wJ27_next_2 {l : Launch} {g : GG} {E : Me_} (C : Cx_ l g E "java/util/TreeMap$NavigableSubMap$SubMapEntryIterator" cJ27_next_2 1 12) (hret : (eT_ E).sig.returnType = (Option.some (Jvm.ClassFile.FieldType.object "java/util/Map$Entry"))) (h0 : ∀ x ∈ (eC_ E).exceptionTable.toList, False) (hin : (eT_ E).name = "next") (N : Nat) : ∀ (m : Mm) (v0 : Option Nat) (k n : Nat), Sm_ l g E 1 en_r (fJ27_next_2 (gE_ g) N m v0) k n 0 [(0, vr_ v0)] [] m := by
  intro m v0 k n
  unfold fJ27_next_2
  refine s_aload_n C rfl 0 rfl dJ27_next_2_0 1 rfl ?_
  refine x_ck (fun hb_ hb0_ => ?_)
  refine x_callU (enc := en_r) (owner := "java/util/TreeMap$NavigableSubMap$SubMapIterator") C 11 0 [] 23 (ctJ26_nextEntry_t23 C.2.2.2.2.2.2.2.2.1 N m v0) hb_ hb0_ rfl rfl q1539 q1540 q1542 q1543 q114 q1544 rfl ⟨by decide +kernel, by decide +kernel, by decide +kernel⟩ (Nat.le_of_ble_eq_true rfl) (Nat.le_of_ble_eq_true rfl) rfl (Nat.le_of_ble_eq_true rfl) dJ27_next_2_1 4 rfl rfl hen_r (kk_r (fun x1 m1 k1 n1 => ?_)) (kx_n he_r)
  exact x_aret C hret (Or.inl ⟨_, rfl⟩) rfl dJ27_next_2_4
theorem hdJ27_next_2 : ((⟨"java/util/TreeMap$NavigableSubMap$SubMapEntryIterator", "next", "()Ljava/util/Map$Entry;"⟩ : MethodName)).cls ≠ "java/lang/invoke/MethodHandle" ∧ ((⟨"java/util/TreeMap$NavigableSubMap$SubMapEntryIterator", "next", "()Ljava/util/Map$Entry;"⟩ : MethodName)).cls ≠ "java/lang/invoke/VarHandle" ∧ (parseMethodDescriptor ((⟨"java/util/TreeMap$NavigableSubMap$SubMapEntryIterator", "next", "()Ljava/util/Map$Entry;"⟩ : MethodName)).desc).map (fun d => d.parameters.length) = some 0 := ⟨by decide +kernel, by decide +kernel, by decide +kernel⟩
theorem ctJ27_next_2 {l : Launch} {g : GG} (hst : l.stackTraces = false) (N : Nat) (m : Mm) (v0 : Option Nat) : ∀ v m' k n, fJ27_next_2 (gE_ g) N m v0 = some (v, m', k, n) → Ct_ l g (⟨"java/util/TreeMap$NavigableSubMap$SubMapEntryIterator", "next", "()Ljava/util/Map$Entry;"⟩ : MethodName) (ws_ (⟨"java/util/TreeMap$NavigableSubMap$SubMapEntryIterator", "next", "()Ljava/util/Map$Entry;"⟩ : MethodName) cJ27_next_2 1 (Option.some (Jvm.ClassFile.FieldType.object "java/util/Map$Entry"))) 12 [vr_ v0] m (en_r v) m' k n :=
  Ct_of (by decide +kernel) rfl hst (Nat.le_of_ble_eq_true rfl) rfl (fun E C hret h0 hin => wJ27_next_2 C hret h0 hin N m v0 0 0)
theorem wJ27_next {l : Launch} {g : GG} {E : Me_} (C : Cx_ l g E "java/util/TreeMap$NavigableSubMap$SubMapEntryIterator" cJ27_next 1 13) (hret : (eT_ E).sig.returnType = (Option.some (Jvm.ClassFile.FieldType.object "java/lang/Object"))) (h0 : ∀ x ∈ (eC_ E).exceptionTable.toList, False) (hin : (eT_ E).name = "next") (N : Nat) : ∀ (m : Mm) (v0 : Option Nat) (k n : Nat), Sm_ l g E 1 en_r (fJ27_next (gE_ g) N m v0) k n 0 [(0, vr_ v0)] [] m := by
  intro m v0 k n
  unfold fJ27_next
  refine s_aload_n C rfl 0 rfl dJ27_next_0 1 rfl ?_
  refine x_ck (fun hb_ hb0_ => ?_)
  refine x_callV (enc := en_r) C 12 0 [] 23 (ctJ27_next_2 C.2.2.2.2.2.2.2.2.1 N m v0) hb_ hb0_ rfl rfl q1535 q1536 q1537 q115 q1538 hdJ27_next_2 (Nat.le_of_ble_eq_true rfl) (Nat.le_of_ble_eq_true rfl) rfl (Nat.le_of_ble_eq_true rfl) dJ27_next_1 4 rfl rfl hen_r (kk_r (fun x1 m1 k1 n1 => ?_)) (kx_n he_r)
  exact x_aret C hret (Or.inl ⟨_, rfl⟩) rfl dJ27_next_4
theorem hdJ27_next : ((⟨"java/util/TreeMap$NavigableSubMap$SubMapEntryIterator", "next", "()Ljava/lang/Object;"⟩ : MethodName)).cls ≠ "java/lang/invoke/MethodHandle" ∧ ((⟨"java/util/TreeMap$NavigableSubMap$SubMapEntryIterator", "next", "()Ljava/lang/Object;"⟩ : MethodName)).cls ≠ "java/lang/invoke/VarHandle" ∧ (parseMethodDescriptor ((⟨"java/util/TreeMap$NavigableSubMap$SubMapEntryIterator", "next", "()Ljava/lang/Object;"⟩ : MethodName)).desc).map (fun d => d.parameters.length) = some 0 := ⟨by decide +kernel, by decide +kernel, by decide +kernel⟩
theorem ctJ27_next {l : Launch} {g : GG} (hst : l.stackTraces = false) (N : Nat) (m : Mm) (v0 : Option Nat) : ∀ v m' k n, fJ27_next (gE_ g) N m v0 = some (v, m', k, n) → Ct_ l g (⟨"java/util/TreeMap$NavigableSubMap$SubMapEntryIterator", "next", "()Ljava/lang/Object;"⟩ : MethodName) (ws_ (⟨"java/util/TreeMap$NavigableSubMap$SubMapEntryIterator", "next", "()Ljava/lang/Object;"⟩ : MethodName) cJ27_next 1 (Option.some (Jvm.ClassFile.FieldType.object "java/lang/Object"))) 13 [vr_ v0] m (en_r v) m' k n :=
  Ct_of (by decide +kernel) rfl hst (Nat.le_of_ble_eq_true rfl) rfl (fun E C hret h0 hin => wJ27_next C hret h0 hin N m v0 0 0)
theorem wJ4_fixAfterDeletion_b183 {l : Launch} {g : GG} {E : Me_} (C : Cx_ l g E "java/util/TreeMap" cJ4_fixAfterDeletion 3 11) (hret : (eT_ E).sig.returnType = (Option.none : Option Jvm.ClassFile.FieldType)) (h0 : ∀ x ∈ (eC_ E).exceptionTable.toList, False) (hin : (eT_ E).name = "fixAfterDeletion") (N : Nat) {k0 : Mm → Option Nat → Option Nat → Rs (Unit)} (hk0 : ∀ (m : Mm) (v0 : Option Nat) (v1 : Option Nat) (k n : Nat), Sm_ l g E 3 en_v (k0 m v0 v1) k n 0 [(0, vr_ v0), (1, vr_ v1)] [] m) : ∀ (m : Mm) (v0 : Option Nat) (v1 : Option Nat) (k n : Nat), Sm_ l g E 3 en_v (fJ4_fixAfterDeletion_b183 (gE_ g) N k0 m v0 v1) k n 183 [(0, vr_ v0), (1, vr_ v1)] [] m := by
  intro m v0 v1 k n
  unfold fJ4_fixAfterDeletion_b183
  refine s_goto C (off := -183) 0 dJ4_fixAfterDeletion_183 rfl ?_
  exact hk0 _ _ _ _ _
theorem wJ4_fixAfterDeletion_b143 {l : Launch} {g : GG} {E : Me_} (C : Cx_ l g E "java/util/TreeMap" cJ4_fixAfterDeletion 3 11) (hret : (eT_ E).sig.returnType = (Option.none : Option Jvm.ClassFile.FieldType)) (h0 : ∀ x ∈ (eC_ E).exceptionTable.toList, False) (hin : (eT_ E).name = "fixAfterDeletion") (N : Nat) {k0 : Mm → Option Nat → Option Nat → Rs (Unit)} (hk0 : ∀ (m : Mm) (v0 : Option Nat) (v1 : Option Nat) (k n : Nat), Sm_ l g E 3 en_v (k0 m v0 v1) k n 0 [(0, vr_ v0), (1, vr_ v1)] [] m) : ∀ (m : Mm) (v0 : Option Nat) (v1 : Option Nat) (v2 : Option Nat) (k n : Nat), Sm_ l g E 3 en_v (fJ4_fixAfterDeletion_b143 (gE_ g) N k0 m v0 v1 v2) k n 143 [(0, vr_ v0), (1, vr_ v1), (2, vr_ v2)] [] m := by
  intro m v0 v1 v2 k n
  unfold fJ4_fixAfterDeletion_b143
  refine s_aload_n C rfl 2 rfl dJ4_fixAfterDeletion_143 144 rfl ?_
  refine s_aload_n C rfl 1 rfl dJ4_fixAfterDeletion_144 145 rfl ?_
  refine x_callS (enc := en_r) C 10 1 [vr_ v1] (ctJ4_parentOf C.2.2.2.2.2.2.2.2.1 N m v1) q1932 q1933 q87 q1934 hdJ4_parentOf (Nat.le_of_ble_eq_true rfl) (Nat.le_of_ble_eq_true rfl) rfl (Nat.le_of_ble_eq_true rfl) dJ4_fixAfterDeletion_145 148 rfl rfl hen_r (kk_r (fun x1 m1 k1 n1 => ?_)) (kx_n he_r)
  refine x_callS (enc := en_i) C 10 1 [vr_ x1] (ctJ4_colorOf C.2.2.2.2.2.2.2.2.1 N m1 x1) q1941 q1942 q87 q1943 hdJ4_colorOf (Nat.le_of_ble_eq_true rfl) (Nat.le_of_ble_eq_true rfl) rfl (Nat.le_of_ble_eq_true rfl) dJ4_fixAfterDeletion_148 151 rfl rfl hen_i (kk_i (fun x2 m2 k1 n1 => ?_)) (kx_n he_i)
  refine x_callS (enc := en_v) C 10 2 [vr_ v2, vi_ x2] (ctJ4_setColor C.2.2.2.2.2.2.2.2.1 N m2 v2 x2) q1944 q1945 q87 q1946 hdJ4_setColor (Nat.le_of_ble_eq_true rfl) (Nat.le_of_ble_eq_true rfl) rfl (Nat.le_of_ble_eq_true rfl) dJ4_fixAfterDeletion_151 154 rfl rfl hen_v (kk_v (fun m3 k1 n1 => ?_)) (kx_n he_v)
  refine s_aload_n C rfl 1 rfl dJ4_fixAfterDeletion_154 155 rfl ?_
  refine x_callS (enc := en_r) C 10 1 [vr_ v1] (ctJ4_parentOf C.2.2.2.2.2.2.2.2.1 N m3 v1) q1932 q1933 q87 q1934 hdJ4_parentOf (Nat.le_of_ble_eq_true rfl) (Nat.le_of_ble_eq_true rfl) rfl (Nat.le_of_ble_eq_true rfl) dJ4_fixAfterDeletion_155 158 rfl rfl hen_r (kk_r (fun x3 m4 k1 n1 => ?_)) (kx_n he_r)
  refine s_iconst C 1 rfl dJ4_fixAfterDeletion_158 159 rfl ?_
  refine x_callS (enc := en_v) C 10 2 [vr_ x3, vi_ 1] (ctJ4_setColor C.2.2.2.2.2.2.2.2.1 N m4 x3 1) q1944 q1945 q87 q1946 hdJ4_setColor (Nat.le_of_ble_eq_true rfl) (Nat.le_of_ble_eq_true rfl) rfl (Nat.le_of_ble_eq_true rfl) dJ4_fixAfterDeletion_159 162 rfl rfl hen_v (kk_v (fun m5 k1 n1 => ?_)) (kx_n he_v)
  refine s_aload_n C rfl 2 rfl dJ4_fixAfterDeletion_162 163 rfl ?_
  refine x_callS (enc := en_r) C 10 1 [vr_ v2] (ctJ4_rightOf C.2.2.2.2.2.2.2.2.1 N m5 v2) q1938 q1939 q87 q1940 hdJ4_rightOf (Nat.le_of_ble_eq_true rfl) (Nat.le_of_ble_eq_true rfl) rfl (Nat.le_of_ble_eq_true rfl) dJ4_fixAfterDeletion_163 166 rfl rfl hen_r (kk_r (fun x4 m6 k1 n1 => ?_)) (kx_n he_r)
  refine s_iconst C 1 rfl dJ4_fixAfterDeletion_166 167 rfl ?_
  refine x_callS (enc := en_v) C 10 2 [vr_ x4, vi_ 1] (ctJ4_setColor C.2.2.2.2.2.2.2.2.1 N m6 x4 1) q1944 q1945 q87 q1946 hdJ4_setColor (Nat.le_of_ble_eq_true rfl) (Nat.le_of_ble_eq_true rfl) rfl (Nat.le_of_ble_eq_true rfl) dJ4_fixAfterDeletion_167 170 rfl rfl hen_v (kk_v (fun m7 k1 n1 => ?_)) (kx_n he_v)
  refine s_aload_n C rfl 0 rfl dJ4_fixAfterDeletion_170 171 rfl ?_
  refine s_aload_n C rfl 1 rfl dJ4_fixAfterDeletion_171 172 rfl ?_
  refine x_callS (enc := en_r) C 10 1 [vr_ v1] (ctJ4_parentOf C.2.2.2.2.2.2.2.2.1 N m7 v1) q1932 q1933 q87 q1934 hdJ4_parentOf (Nat.le_of_ble_eq_true rfl) (Nat.le_of_ble_eq_true rfl) rfl (Nat.le_of_ble_eq_true rfl) dJ4_fixAfterDeletion_172 175 rfl rfl hen_r (kk_r (fun x5 m8 k1 n1 => ?_)) (kx_n he_r)
  refine x_ck (fun hb_ hb0_ => ?_)
  refine x_callV (enc := en_v) C 10 1 [vr_ x5] 15 (ctJ4_rotateLeft C.2.2.2.2.2.2.2.2.1 N m8 v0 x5) hb_ hb0_ rfl rfl q1947 q1949 qs19 q87 q1950 hdJ4_rotateLeft (Nat.le_of_ble_eq_true rfl) (Nat.le_of_ble_eq_true rfl) rfl (Nat.le_of_ble_eq_true rfl) dJ4_fixAfterDeletion_175 178 rfl rfl hen_v (kk_v (fun m9 k1 n1 => ?_)) (kx_n he_v)
  refine s_aload_n C rfl 0 rfl dJ4_fixAfterDeletion_178 179 rfl ?_
  refine x_gr C 14 (RJ4, TJ4, 9) rfl 3 (Nat.le_of_ble_eq_true rfl) q205 (Or.inl rfl) rfl 15 rfl dJ4_fixAfterDeletion_179 182 rfl (fun x6 => ?_)
  refine s_astore_n C rfl (Nat.le_of_ble_eq_true rfl) [0] rfl rfl dJ4_fixAfterDeletion_182 183 rfl ?_
  refine Sm_sub [1, 0] rfl ?_
  exact wJ4_fixAfterDeletion_b183 C hret h0 hin N hk0 _ _ _ _ _
theorem wJ4_fixAfterDeletion_b106 {l : Launch} {g : GG} {E : Me_} (C : Cx_ l g E "java/util/TreeMap" cJ4_fixAfterDeletion 3 11) (hret : (eT_ E).sig.returnType = (Option.none : Option Jvm.ClassFile.FieldType)) (h0 : ∀ x ∈ (eC_ E).exceptionTable.toList, False) (hin : (eT_ E).name = "fixAfterDeletion") (N : Nat) {k0 : Mm → Option Nat → Option Nat → Rs (Unit)} (hk0 : ∀ (m : Mm) (v0 : Option Nat) (v1 : Option Nat) (k n : Nat), Sm_ l g E 3 en_v (k0 m v0 v1) k n 0 [(0, vr_ v0), (1, vr_ v1)] [] m) : ∀ (m : Mm) (v0 : Option Nat) (v1 : Option Nat) (v2 : Option Nat) (k n : Nat), Sm_ l g E 3 en_v (fJ4_fixAfterDeletion_b106 (gE_ g) N k0 m v0 v1 v2) k n 106 [(0, vr_ v0), (1, vr_ v1), (2, vr_ v2)] [] m := by
  intro m v0 v1 v2 k n
  unfold fJ4_fixAfterDeletion_b106
  refine s_aload_n C rfl 2 rfl dJ4_fixAfterDeletion_106 107 rfl ?_
  refine x_callS (enc := en_r) C 10 1 [vr_ v2] (ctJ4_rightOf C.2.2.2.2.2.2.2.2.1 N m v2) q1938 q1939 q87 q1940 hdJ4_rightOf (Nat.le_of_ble_eq_true rfl) (Nat.le_of_ble_eq_true rfl) rfl (Nat.le_of_ble_eq_true rfl) dJ4_fixAfterDeletion_107 110 rfl rfl hen_r (kk_r (fun x1 m1 k1 n1 => ?_)) (kx_n he_r)
  refine x_callS (enc := en_i) C 10 1 [vr_ x1] (ctJ4_colorOf C.2.2.2.2.2.2.2.2.1 N m1 x1) q1941 q1942 q87 q1943 hdJ4_colorOf (Nat.le_of_ble_eq_true rfl) (Nat.le_of_ble_eq_true rfl) rfl (Nat.le_of_ble_eq_true rfl) dJ4_fixAfterDeletion_110 113 rfl rfl hen_i (kk_i (fun x2 m2 k1 n1 => ?_)) (kx_n he_i)
  refine s_iconst C 1 rfl dJ4_fixAfterDeletion_113 114 rfl ?_
  refine s_icmp_ne C dJ4_fixAfterDeletion_114 143 rfl 117 rfl (fun c_ => ?_) (fun c_ => ?_)
  · refine s_aload_n C rfl 2 rfl dJ4_fixAfterDeletion_117 118 rfl ?_
    refine x_callS (enc := en_r) C 10 1 [vr_ v2] (ctJ4_leftOf C.2.2.2.2.2.2.2.2.1 N m2 v2) q1935 q1936 q87 q1937 hdJ4_leftOf (Nat.le_of_ble_eq_true rfl) (Nat.le_of_ble_eq_true rfl) rfl (Nat.le_of_ble_eq_true rfl) dJ4_fixAfterDeletion_118 121 rfl rfl hen_r (kk_r (fun x3 m3 k1 n1 => ?_)) (kx_n he_r)
    refine s_iconst C 1 rfl dJ4_fixAfterDeletion_121 122 rfl ?_
    refine x_callS (enc := en_v) C 10 2 [vr_ x3, vi_ 1] (ctJ4_setColor C.2.2.2.2.2.2.2.2.1 N m3 x3 1) q1944 q1945 q87 q1946 hdJ4_setColor (Nat.le_of_ble_eq_true rfl) (Nat.le_of_ble_eq_true rfl) rfl (Nat.le_of_ble_eq_true rfl) dJ4_fixAfterDeletion_122 125 rfl rfl hen_v (kk_v (fun m4 k1 n1 => ?_)) (kx_n he_v)
    refine s_aload_n C rfl 2 rfl dJ4_fixAfterDeletion_125 126 rfl ?_
    refine s_iconst C 0 rfl dJ4_fixAfterDeletion_126 127 rfl ?_
    refine x_callS (enc := en_v) C 10 2 [vr_ v2, vi_ 0] (ctJ4_setColor C.2.2.2.2.2.2.2.2.1 N m4 v2 0) q1944 q1945 q87 q1946 hdJ4_setColor (Nat.le_of_ble_eq_true rfl) (Nat.le_of_ble_eq_true rfl) rfl (Nat.le_of_ble_eq_true rfl) dJ4_fixAfterDeletion_127 130 rfl rfl hen_v (kk_v (fun m5 k1 n1 => ?_)) (kx_n he_v)
    refine s_aload_n C rfl 0 rfl dJ4_fixAfterDeletion_130 131 rfl ?_
    refine s_aload_n C rfl 2 rfl dJ4_fixAfterDeletion_131 132 rfl ?_
    refine x_ck (fun hb_ hb0_ => ?_)
    refine x_callV (enc := en_v) C 10 1 [vr_ v2] 15 (ctJ4_rotateRight C.2.2.2.2.2.2.2.2.1 N m5 v0 v2) hb_ hb0_ rfl rfl q1951 q1953 qs20 q87 q1954 hdJ4_rotateRight (Nat.le_of_ble_eq_true rfl) (Nat.le_of_ble_eq_true rfl) rfl (Nat.le_of_ble_eq_true rfl) dJ4_fixAfterDeletion_132 135 rfl rfl hen_v (kk_v (fun m6 k1 n1 => ?_)) (kx_n he_v)
    refine s_aload_n C rfl 1 rfl dJ4_fixAfterDeletion_135 136 rfl ?_
    refine x_callS (enc := en_r) C 10 1 [vr_ v1] (ctJ4_parentOf C.2.2.2.2.2.2.2.2.1 N m6 v1) q1932 q1933 q87 q1934 hdJ4_parentOf (Nat.le_of_ble_eq_true rfl) (Nat.le_of_ble_eq_true rfl) rfl (Nat.le_of_ble_eq_true rfl) dJ4_fixAfterDeletion_136 139 rfl rfl hen_r (kk_r (fun x4 m7 k1 n1 => ?_)) (kx_n he_r)
    refine x_callS (enc := en_r) C 10 1 [vr_ x4] (ctJ4_rightOf C.2.2.2.2.2.2.2.2.1 N m7 x4) q1938 q1939 q87 q1940 hdJ4_rightOf (Nat.le_of_ble_eq_true rfl) (Nat.le_of_ble_eq_true rfl) rfl (Nat.le_of_ble_eq_true rfl) dJ4_fixAfterDeletion_139 142 rfl rfl hen_r (kk_r (fun x5 m8 k1 n1 => ?_)) (kx_n he_r)
    refine s_astore_n C rfl (Nat.le_of_ble_eq_true rfl) [0, 1] rfl rfl dJ4_fixAfterDeletion_142 143 rfl ?_
    refine Sm_sub [1, 2, 0] rfl ?_
    exact wJ4_fixAfterDeletion_b143 C hret h0 hin N hk0 _ _ _ _ _ _
  · exact wJ4_fixAfterDeletion_b143 C hret h0 hin N hk0 _ _ _ _ _ _
theorem wJ4_fixAfterDeletion_b71 {l : Launch} {g : GG} {E : Me_} (C : Cx_ l g E "java/util/TreeMap" cJ4_fixAfterDeletion 3 11) (hret : (eT_ E).sig.returnType = (Option.none : Option Jvm.ClassFile.FieldType)) (h0 : ∀ x ∈ (eC_ E).exceptionTable.toList, False) (hin : (eT_ E).name = "fixAfterDeletion") (N : Nat) {k0 : Mm → Option Nat → Option Nat → Rs (Unit)} (hk0 : ∀ (m : Mm) (v0 : Option Nat) (v1 : Option Nat) (k n : Nat), Sm_ l g E 3 en_v (k0 m v0 v1) k n 0 [(0, vr_ v0), (1, vr_ v1)] [] m) : ∀ (m : Mm) (v0 : Option Nat) (v1 : Option Nat) (v2 : Option Nat) (k n : Nat), Sm_ l g E 3 en_v (fJ4_fixAfterDeletion_b71 (gE_ g) N k0 m v0 v1 v2) k n 71 [(0, vr_ v0), (1, vr_ v1), (2, vr_ v2)] [] m := by
  intro m v0 v1 v2 k n
  unfold fJ4_fixAfterDeletion_b71
  refine s_aload_n C rfl 2 rfl dJ4_fixAfterDeletion_71 72 rfl ?_
  refine x_callS (enc := en_r) C 10 1 [vr_ v2] (ctJ4_leftOf C.2.2.2.2.2.2.2.2.1 N m v2) q1935 q1936 q87 q1937 hdJ4_leftOf (Nat.le_of_ble_eq_true rfl) (Nat.le_of_ble_eq_true rfl) rfl (Nat.le_of_ble_eq_true rfl) dJ4_fixAfterDeletion_72 75 rfl rfl hen_r (kk_r (fun x1 m1 k1 n1 => ?_)) (kx_n he_r)
  refine x_callS (enc := en_i) C 10 1 [vr_ x1] (ctJ4_colorOf C.2.2.2.2.2.2.2.2.1 N m1 x1) q1941 q1942 q87 q1943 hdJ4_colorOf (Nat.le_of_ble_eq_true rfl) (Nat.le_of_ble_eq_true rfl) rfl (Nat.le_of_ble_eq_true rfl) dJ4_fixAfterDeletion_75 78 rfl rfl hen_i (kk_i (fun x2 m2 k1 n1 => ?_)) (kx_n he_i)
  refine s_iconst C 1 rfl dJ4_fixAfterDeletion_78 79 rfl ?_
  refine s_icmp_ne C dJ4_fixAfterDeletion_79 106 rfl 82 rfl (fun c_ => ?_) (fun c_ => ?_)
  · refine s_aload_n C rfl 2 rfl dJ4_fixAfterDeletion_82 83 rfl ?_
    refine x_callS (enc := en_r) C 10 1 [vr_ v2] (ctJ4_rightOf C.2.2.2.2.2.2.2.2.1 N m2 v2) q1938 q1939 q87 q1940 hdJ4_rightOf (Nat.le_of_ble_eq_true rfl) (Nat.le_of_ble_eq_true rfl) rfl (Nat.le_of_ble_eq_true rfl) dJ4_fixAfterDeletion_83 86 rfl rfl hen_r (kk_r (fun x3 m3 k1 n1 => ?_)) (kx_n he_r)
    refine x_callS (enc := en_i) C 10 1 [vr_ x3] (ctJ4_colorOf C.2.2.2.2.2.2.2.2.1 N m3 x3) q1941 q1942 q87 q1943 hdJ4_colorOf (Nat.le_of_ble_eq_true rfl) (Nat.le_of_ble_eq_true rfl) rfl (Nat.le_of_ble_eq_true rfl) dJ4_fixAfterDeletion_86 89 rfl rfl hen_i (kk_i (fun x4 m4 k1 n1 => ?_)) (kx_n he_i)
    refine s_iconst C 1 rfl dJ4_fixAfterDeletion_89 90 rfl ?_
    refine s_icmp_ne C dJ4_fixAfterDeletion_90 106 rfl 93 rfl (fun c_ => ?_) (fun c_ => ?_)
    · refine s_aload_n C rfl 2 rfl dJ4_fixAfterDeletion_93 94 rfl ?_
      refine s_iconst C 0 rfl dJ4_fixAfterDeletion_94 95 rfl ?_
      refine x_callS (enc := en_v) C 10 2 [vr_ v2, vi_ 0] (ctJ4_setColor C.2.2.2.2.2.2.2.2.1 N m4 v2 0) q1944 q1945 q87 q1946 hdJ4_setColor (Nat.le_of_ble_eq_true rfl) (Nat.le_of_ble_eq_true rfl) rfl (Nat.le_of_ble_eq_true rfl) dJ4_fixAfterDeletion_95 98 rfl rfl hen_v (kk_v (fun m5 k1 n1 => ?_)) (kx_n he_v)
      refine s_aload_n C rfl 1 rfl dJ4_fixAfterDeletion_98 99 rfl ?_
      refine x_callS (enc := en_r) C 10 1 [vr_ v1] (ctJ4_parentOf C.2.2.2.2.2.2.2.2.1 N m5 v1) q1932 q1933 q87 q1934 hdJ4_parentOf (Nat.le_of_ble_eq_true rfl) (Nat.le_of_ble_eq_true rfl) rfl (Nat.le_of_ble_eq_true rfl) dJ4_fixAfterDeletion_99 102 rfl rfl hen_r (kk_r (fun x5 m6 k1 n1 => ?_)) (kx_n he_r)
      refine s_astore_n C rfl (Nat.le_of_ble_eq_true rfl) [0] rfl rfl dJ4_fixAfterDeletion_102 103 rfl ?_
      refine s_goto C (off := 80) 183 dJ4_fixAfterDeletion_103 rfl ?_
      refine Sm_sub [1, 0] rfl ?_
      exact wJ4_fixAfterDeletion_b183 C hret h0 hin N hk0 _ _ _ _ _
    · exact wJ4_fixAfterDeletion_b106 C hret h0 hin N hk0 _ _ _ _ _ _
  · exact wJ4_fixAfterDeletion_b106 C hret h0 hin N hk0 _ _ _ _ _ _
theorem wJ4_fixAfterDeletion_b342 {l : Launch} {g : GG} {E : Me_} (C : Cx_ l g E "java/util/TreeMap" cJ4_fixAfterDeletion 3 11) (hret : (eT_ E).sig.returnType = (Option.none : Option Jvm.ClassFile.FieldType)) (h0 : ∀ x ∈ (eC_ E).exceptionTable.toList, False) (hin : (eT_ E).name = "fixAfterDeletion") (N : Nat) {k0 : Mm → Option Nat → Option Nat → Rs (Unit)} (hk0 : ∀ (m : Mm) (v0 : Option Nat) (v1 : Option Nat) (k n : Nat), Sm_ l g E 3 en_v (k0 m v0 v1) k n 0 [(0, vr_ v0), (1, vr_ v1)] [] m) : ∀ (m : Mm) (v0 : Option Nat) (v1 : Option Nat) (k n : Nat), Sm_ l g E 3 en_v (fJ4_fixAfterDeletion_b342 (gE_ g) N k0 m v0 v1) k n 342 [(0, vr_ v0), (1, vr_ v1)] [] m := by
  intro m v0 v1 k n
  unfold fJ4_fixAfterDeletion_b342
  refine s_goto C (off := -342) 0 dJ4_fixAfterDeletion_342 rfl ?_
  exact hk0 _ _ _ _ _
theorem wJ4_fixAfterDeletion_b302 {l : Launch} {g : GG} {E : Me_} (C : Cx_ l g E "java/util/TreeMap" cJ4_fixAfterDeletion 3 11) (hret : (eT_ E).sig.returnType = (Option.none : Option Jvm.ClassFile.FieldType)) (h0 : ∀ x ∈ (eC_ E).exceptionTable.toList, False) (hin : (eT_ E).name = "fixAfterDeletion") (N : Nat) {k0 : Mm → Option Nat → Option Nat → Rs (Unit)} (hk0 : ∀ (m : Mm) (v0 : Option Nat) (v1 : Option Nat) (k n : Nat), Sm_ l g E 3 en_v (k0 m v0 v1) k n 0 [(0, vr_ v0), (1, vr_ v1)] [] m) : ∀ (m : Mm) (v0 : Option Nat) (v1 : Option Nat) (v2 : Option Nat) (k n : Nat), Sm_ l g E 3 en_v (fJ4_fixAfterDeletion_b302 (gE_ g) N k0 m v0 v1 v2) k n 302 [(0, vr_ v0), (1, vr_ v1), (2, vr_ v2)] [] m := by
  intro m v0 v1 v2 k n
  unfold fJ4_fixAfterDeletion_b302
  refine s_aload_n C rfl 2 rfl dJ4_fixAfterDeletion_302 303 rfl ?_
  refine s_aload_n C rfl 1 rfl dJ4_fixAfterDeletion_303 304 rfl ?_
  refine x_callS (enc := en_r) C 10 1 [vr_ v1] (ctJ4_parentOf C.2.2.2.2.2.2.2.2.1 N m v1) q1932 q1933 q87 q1934 hdJ4_parentOf (Nat.le_of_ble_eq_true rfl) (Nat.le_of_ble_eq_true rfl) rfl (Nat.le_of_ble_eq_true rfl) dJ4_fixAfterDeletion_304 307 rfl rfl hen_r (kk_r (fun x1 m1 k1 n1 => ?_)) (kx_n he_r)
  refine x_callS (enc := en_i) C 10 1 [vr_ x1] (ctJ4_colorOf C.2.2.2.2.2.2.2.2.1 N m1 x1) q1941 q1942 q87 q1943 hdJ4_colorOf (Nat.le_of_ble_eq_true rfl) (Nat.le_of_ble_eq_true rfl) rfl (Nat.le_of_ble_eq_true rfl) dJ4_fixAfterDeletion_307 310 rfl rfl hen_i (kk_i (fun x2 m2 k1 n1 => ?_)) (kx_n he_i)
  refine x_callS (enc := en_v) C 10 2 [vr_ v2, vi_ x2] (ctJ4_setColor C.2.2.2.2.2.2.2.2.1 N m2 v2 x2) q1944 q1945 q87 q1946 hdJ4_setColor (Nat.le_of_ble_eq_true rfl) (Nat.le_of_ble_eq_true rfl) rfl (Nat.le_of_ble_eq_true rfl) dJ4_fixAfterDeletion_310 313 rfl rfl hen_v (kk_v (fun m3 k1 n1 => ?_)) (kx_n he_v)
  refine s_aload_n C rfl 1 rfl dJ4_fixAfterDeletion_313 314 rfl ?_
  refine x_callS (enc := en_r) C 10 1 [vr_ v1] (ctJ4_parentOf C.2.2.2.2.2.2.2.2.1 N m3 v1) q1932 q1933 q87 q1934 hdJ4_parentOf (Nat.le_of_ble_eq_true rfl) (Nat.le_of_ble_eq_true rfl) rfl (Nat.le_of_ble_eq_true rfl) dJ4_fixAfterDeletion_314 317 rfl rfl hen_r (kk_r (fun x3 m4 k1 n1 => ?_)) (kx_n he_r)
  refine s_iconst C 1 rfl dJ4_fixAfterDeletion_317 318 rfl ?_
  refine x_callS (enc := en_v) C 10 2 [vr_ x3, vi_ 1] (ctJ4_setColor C.2.2.2.2.2.2.2.2.1 N m4 x3 1) q1944 q1945 q87 q1946 hdJ4_setColor (Nat.le_of_ble_eq_true rfl) (Nat.le_of_ble_eq_true rfl) rfl (Nat.le_of_ble_eq_true rfl) dJ4_fixAfterDeletion_318 321 rfl rfl hen_v (kk_v (fun m5 k1 n1 => ?_)) (kx_n he_v)
  refine s_aload_n C rfl 2 rfl dJ4_fixAfterDeletion_321 322 rfl ?_
  refine x_callS (enc := en_r) C 10 1 [vr_ v2] (ctJ4_leftOf C.2.2.2.2.2.2.2.2.1 N m5 v2) q1935 q1936 q87 q1937 hdJ4_leftOf (Nat.le_of_ble_eq_true rfl) (Nat.le_of_ble_eq_true rfl) rfl (Nat.le_of_ble_eq_true rfl) dJ4_fixAfterDeletion_322 325 rfl rfl hen_r (kk_r (fun x4 m6 k1 n1 => ?_)) (kx_n he_r)
  refine s_iconst C 1 rfl dJ4_fixAfterDeletion_325 326 rfl ?_
  refine x_callS (enc := en_v) C 10 2 [vr_ x4, vi_ 1] (ctJ4_setColor C.2.2.2.2.2.2.2.2.1 N m6 x4 1) q1944 q1945 q87 q1946 hdJ4_setColor (Nat.le_of_ble_eq_true rfl) (Nat.le_of_ble_eq_true rfl) rfl (Nat.le_of_ble_eq_true rfl) dJ4_fixAfterDeletion_326 329 rfl rfl hen_v (kk_v (fun m7 k1 n1 => ?_)) (kx_n he_v)
  refine s_aload_n C rfl 0 rfl dJ4_fixAfterDeletion_329 330 rfl ?_
  refine s_aload_n C rfl 1 rfl dJ4_fixAfterDeletion_330 331 rfl ?_
  refine x_callS (enc := en_r) C 10 1 [vr_ v1] (ctJ4_parentOf C.2.2.2.2.2.2.2.2.1 N m7 v1) q1932 q1933 q87 q1934 hdJ4_parentOf (Nat.le_of_ble_eq_true rfl) (Nat.le_of_ble_eq_true rfl) rfl (Nat.le_of_ble_eq_true rfl) dJ4_fixAfterDeletion_331 334 rfl rfl hen_r (kk_r (fun x5 m8 k1 n1 => ?_)) (kx_n he_r)
  refine x_ck (fun hb_ hb0_ => ?_)
  refine x_callV (enc := en_v) C 10 1 [vr_ x5] 15 (ctJ4_rotateRight C.2.2.2.2.2.2.2.2.1 N m8 v0 x5) hb_ hb0_ rfl rfl q1951 q1953 qs20 q87 q1954 hdJ4_rotateRight (Nat.le_of_ble_eq_true rfl) (Nat.le_of_ble_eq_true rfl) rfl (Nat.le_of_ble_eq_true rfl) dJ4_fixAfterDeletion_334 337 rfl rfl hen_v (kk_v (fun m9 k1 n1 => ?_)) (kx_n he_v)
  refine s_aload_n C rfl 0 rfl dJ4_fixAfterDeletion_337 338 rfl ?_
  refine x_gr C 14 (RJ4, TJ4, 9) rfl 3 (Nat.le_of_ble_eq_true rfl) q205 (Or.inl rfl) rfl 15 rfl dJ4_fixAfterDeletion_338 341 rfl (fun x6 => ?_)
  refine s_astore_n C rfl (Nat.le_of_ble_eq_true rfl) [0] rfl rfl dJ4_fixAfterDeletion_341 342 rfl ?_
  refine Sm_sub [1, 0] rfl ?_
  exact wJ4_fixAfterDeletion_b342 C hret h0 hin N hk0 _ _ _ _ _
theorem wJ4_fixAfterDeletion_b265 {l : Launch} {g : GG} {E : Me_} (C : Cx_ l g E "java/util/TreeMap" cJ4_fixAfterDeletion 3 11) (hret : (eT_ E).sig.returnType = (Option.none : Option Jvm.ClassFile.FieldType)) (h0 : ∀ x ∈ (eC_ E).exceptionTable.toList, False) (hin : (eT_ E).name = "fixAfterDeletion") (N : Nat) {k0 : Mm → Option Nat → Option Nat → Rs (Unit)} (hk0 : ∀ (m : Mm) (v0 : Option Nat) (v1 : Option Nat) (k n : Nat), Sm_ l g E 3 en_v (k0 m v0 v1) k n 0 [(0, vr_ v0), (1, vr_ v1)] [] m) : ∀ (m : Mm) (v0 : Option Nat) (v1 : Option Nat) (v2 : Option Nat) (k n : Nat), Sm_ l g E 3 en_v (fJ4_fixAfterDeletion_b265 (gE_ g) N k0 m v0 v1 v2) k n 265 [(0, vr_ v0), (1, vr_ v1), (2, vr_ v2)] [] m := by
  intro m v0 v1 v2 k n
  unfold fJ4_fixAfterDeletion_b265
  refine s_aload_n C rfl 2 rfl dJ4_fixAfterDeletion_265 266 rfl ?_
  refine x_callS (enc := en_r) C 10 1 [vr_ v2] (ctJ4_leftOf C.2.2.2.2.2.2.2.2.1 N m v2) q1935 q1936 q87 q1937 hdJ4_leftOf (Nat.le_of_ble_eq_true rfl) (Nat.le_of_ble_eq_true rfl) rfl (Nat.le_of_ble_eq_true rfl) dJ4_fixAfterDeletion_266 269 rfl rfl hen_r (kk_r (fun x1 m1 k1 n1 => ?_)) (kx_n he_r)
  refine x_callS (enc := en_i) C 10 1 [vr_ x1] (ctJ4_colorOf C.2.2.2.2.2.2.2.2.1 N m1 x1) q1941 q1942 q87 q1943 hdJ4_colorOf (Nat.le_of_ble_eq_true rfl) (Nat.le_of_ble_eq_true rfl) rfl (Nat.le_of_ble_eq_true rfl) dJ4_fixAfterDeletion_269 272 rfl rfl hen_i (kk_i (fun x2 m2 k1 n1 => ?_)) (kx_n he_i)
  refine s_iconst C 1 rfl dJ4_fixAfterDeletion_272 273 rfl ?_
  refine s_icmp_ne C dJ4_fixAfterDeletion_273 302 rfl 276 rfl (fun c_ => ?_) (fun c_ => ?_)
  · refine s_aload_n C rfl 2 rfl dJ4_fixAfterDeletion_276 277 rfl ?_
    refine x_callS (enc := en_r) C 10 1 [vr_ v2] (ctJ4_rightOf C.2.2.2.2.2.2.2.2.1 N m2 v2) q1938 q1939 q87 q1940 hdJ4_rightOf (Nat.le_of_ble_eq_true rfl) (Nat.le_of_ble_eq_true rfl) rfl (Nat.le_of_ble_eq_true rfl) dJ4_fixAfterDeletion_277 280 rfl rfl hen_r (kk_r (fun x3 m3 k1 n1 => ?_)) (kx_n he_r)
    refine s_iconst C 1 rfl dJ4_fixAfterDeletion_280 281 rfl ?_
    refine x_callS (enc := en_v) C 10 2 [vr_ x3, vi_ 1] (ctJ4_setColor C.2.2.2.2.2.2.2.2.1 N m3 x3 1) q1944 q1945 q87 q1946 hdJ4_setColor (Nat.le_of_ble_eq_true rfl) (Nat.le_of_ble_eq_true rfl) rfl (Nat.le_of_ble_eq_true rfl) dJ4_fixAfterDeletion_281 284 rfl rfl hen_v (kk_v (fun m4 k1 n1 => ?_)) (kx_n he_v)
    refine s_aload_n C rfl 2 rfl dJ4_fixAfterDeletion_284 285 rfl ?_
    refine s_iconst C 0 rfl dJ4_fixAfterDeletion_285 286 rfl ?_
    refine x_callS (enc := en_v) C 10 2 [vr_ v2, vi_ 0] (ctJ4_setColor C.2.2.2.2.2.2.2.2.1 N m4 v2 0) q1944 q1945 q87 q1946 hdJ4_setColor (Nat.le_of_ble_eq_true rfl) (Nat.le_of_ble_eq_true rfl) rfl (Nat.le_of_ble_eq_true rfl) dJ4_fixAfterDeletion_286 289 rfl rfl hen_v (kk_v (fun m5 k1 n1 => ?_)) (kx_n he_v)
    refine s_aload_n C rfl 0 rfl dJ4_fixAfterDeletion_289 290 rfl ?_
    refine s_aload_n C rfl 2 rfl dJ4_fixAfterDeletion_290 291 rfl ?_
    refine x_ck (fun hb_ hb0_ => ?_)
    refine x_callV (enc := en_v) C 10 1 [vr_ v2] 15 (ctJ4_rotateLeft C.2.2.2.2.2.2.2.2.1 N m5 v0 v2) hb_ hb0_ rfl rfl q1947 q1949 qs19 q87 q1950 hdJ4_rotateLeft (Nat.le_of_ble_eq_true rfl) (Nat.le_of_ble_eq_true rfl) rfl (Nat.le_of_ble_eq_true rfl) dJ4_fixAfterDeletion_291 294 rfl rfl hen_v (kk_v (fun m6 k1 n1 => ?_)) (kx_n he_v)
    refine s_aload_n C rfl 1 rfl dJ4_fixAfterDeletion_294 295 rfl ?_
    refine x_callS (enc := en_r) C 10 1 [vr_ v1] (ctJ4_parentOf C.2.2.2.2.2.2.2.2.1 N m6 v1) q1932 q1933 q87 q1934 hdJ4_parentOf (Nat.le_of_ble_eq_true rfl) (Nat.le_of_ble_eq_true rfl) rfl (Nat.le_of_ble_eq_true rfl) dJ4_fixAfterDeletion_295 298 rfl rfl hen_r (kk_r (fun x4 m7 k1 n1 => ?_)) (kx_n he_r)
    refine x_callS (enc := en_r) C 10 1 [vr_ x4] (ctJ4_leftOf C.2.2.2.2.2.2.2.2.1 N m7 x4) q1935 q1936 q87 q1937 hdJ4_leftOf (Nat.le_of_ble_eq_true rfl) (Nat.le_of_ble_eq_true rfl) rfl (Nat.le_of_ble_eq_true rfl) dJ4_fixAfterDeletion_298 301 rfl rfl hen_r (kk_r (fun x5 m8 k1 n1 => ?_)) (kx_n he_r)
    refine s_astore_n C rfl (Nat.le_of_ble_eq_true rfl) [0, 1] rfl rfl dJ4_fixAfterDeletion_301 302 rfl ?_
    refine Sm_sub [1, 2, 0] rfl ?_
    exact wJ4_fixAfterDeletion_b302 C hret h0 hin N hk0 _ _ _ _ _ _
  · exact wJ4_fixAfterDeletion_b302 C hret h0 hin N hk0 _ _ _ _ _ _
theorem wJ4_fixAfterDeletion_b230 {l : Launch} {g : GG} {E : Me_} (C : Cx_ l g E "java/util/TreeMap" cJ4_fixAfterDeletion 3 11) (hret : (eT_ E).sig.returnType = (Option.none : Option Jvm.ClassFile.FieldType)) (h0 : ∀ x ∈ (eC_ E).exceptionTable.toList, False) (hin : (eT_ E).name = "fixAfterDeletion") (N : Nat) {k0 : Mm → Option Nat → Option Nat → Rs (Unit)} (hk0 : ∀ (m : Mm) (v0 : Option Nat) (v1 : Option Nat) (k n : Nat), Sm_ l g E 3 en_v (k0 m v0 v1) k n 0 [(0, vr_ v0), (1, vr_ v1)] [] m) : ∀ (m : Mm) (v0 : Option Nat) (v1 : Option Nat) (v2 : Option Nat) (k n : Nat), Sm_ l g E 3 en_v (fJ4_fixAfterDeletion_b230 (gE_ g) N k0 m v0 v1 v2) k n 230 [(0, vr_ v0), (1, vr_ v1), (2, vr_ v2)] [] m := by
  intro m v0 v1 v2 k n
  unfold fJ4_fixAfterDeletion_b230
  refine s_aload_n C rfl 2 rfl dJ4_fixAfterDeletion_230 231 rfl ?_
  refine x_callS (enc := en_r) C 10 1 [vr_ v2] (ctJ4_rightOf C.2.2.2.2.2.2.2.2.1 N m v2) q1938 q1939 q87 q1940 hdJ4_rightOf (Nat.le_of_ble_eq_true rfl) (Nat.le_of_ble_eq_true rfl) rfl (Nat.le_of_ble_eq_true rfl) dJ4_fixAfterDeletion_231 234 rfl rfl hen_r (kk_r (fun x1 m1 k1 n1 => ?_)) (kx_n he_r)
  refine x_callS (enc := en_i) C 10 1 [vr_ x1] (ctJ4_colorOf C.2.2.2.2.2.2.2.2.1 N m1 x1) q1941 q1942 q87 q1943 hdJ4_colorOf (Nat.le_of_ble_eq_true rfl) (Nat.le_of_ble_eq_true rfl) rfl (Nat.le_of_ble_eq_true rfl) dJ4_fixAfterDeletion_234 237 rfl rfl hen_i (kk_i (fun x2 m2 k1 n1 => ?_)) (kx_n he_i)
  refine s_iconst C 1 rfl dJ4_fixAfterDeletion_237 238 rfl ?_
  refine s_icmp_ne C dJ4_fixAfterDeletion_238 265 rfl 241 rfl (fun c_ => ?_) (fun c_ => ?_)
  · refine s_aload_n C rfl 2 rfl dJ4_fixAfterDeletion_241 242 rfl ?_
    refine x_callS (enc := en_r) C 10 1 [vr_ v2] (ctJ4_leftOf C.2.2.2.2.2.2.2.2.1 N m2 v2) q1935 q1936 q87 q1937 hdJ4_leftOf (Nat.le_of_ble_eq_true rfl) (Nat.le_of_ble_eq_true rfl) rfl (Nat.le_of_ble_eq_true rfl) dJ4_fixAfterDeletion_242 245 rfl rfl hen_r (kk_r (fun x3 m3 k1 n1 => ?_)) (kx_n he_r)
    refine x_callS (enc := en_i) C 10 1 [vr_ x3] (ctJ4_colorOf C.2.2.2.2.2.2.2.2.1 N m3 x3) q1941 q1942 q87 q1943 hdJ4_colorOf (Nat.le_of_ble_eq_true rfl) (Nat.le_of_ble_eq_true rfl) rfl (Nat.le_of_ble_eq_true rfl) dJ4_fixAfterDeletion_245 248 rfl rfl hen_i (kk_i (fun x4 m4 k1 n1 => ?_)) (kx_n he_i)
    refine s_iconst C 1 rfl dJ4_fixAfterDeletion_248 249 rfl ?_
    refine s_icmp_ne C dJ4_fixAfterDeletion_249 265 rfl 252 rfl (fun c_ => ?_) (fun c_ => ?_)
    · refine s_aload_n C rfl 2 rfl dJ4_fixAfterDeletion_252 253 rfl ?_
      refine s_iconst C 0 rfl dJ4_fixAfterDeletion_253 254 rfl ?_
      refine x_callS (enc := en_v) C 10 2 [vr_ v2, vi_ 0] (ctJ4_setColor C.2.2.2.2.2.2.2.2.1 N m4 v2 0) q1944 q1945 q87 q1946 hdJ4_setColor (Nat.le_of_ble_eq_true rfl) (Nat.le_of_ble_eq_true rfl) rfl (Nat.le_of_ble_eq_true rfl) dJ4_fixAfterDeletion_254 257 rfl rfl hen_v (kk_v (fun m5 k1 n1 => ?_)) (kx_n he_v)
      refine s_aload_n C rfl 1 rfl dJ4_fixAfterDeletion_257 258 rfl ?_
      refine x_callS (enc := en_r) C 10 1 [vr_ v1] (ctJ4_parentOf C.2.2.2.2.2.2.2.2.1 N m5 v1) q1932 q1933 q87 q1934 hdJ4_parentOf (Nat.le_of_ble_eq_true rfl) (Nat.le_of_ble_eq_true rfl) rfl (Nat.le_of_ble_eq_true rfl) dJ4_fixAfterDeletion_258 261 rfl rfl hen_r (kk_r (fun x5 m6 k1 n1 => ?_)) (kx_n he_r)
      refine s_astore_n C rfl (Nat.le_of_ble_eq_true rfl) [0] rfl rfl dJ4_fixAfterDeletion_261 262 rfl ?_
      refine s_goto C (off := 80) 342 dJ4_fixAfterDeletion_262 rfl ?_
      refine Sm_sub [1, 0] rfl ?_
      exact wJ4_fixAfterDeletion_b342 C hret h0 hin N hk0 _ _ _ _ _
    · exact wJ4_fixAfterDeletion_b265 C hret h0 hin N hk0 _ _ _ _ _ _
  · exact wJ4_fixAfterDeletion_b265 C hret h0 hin N hk0 _ _ _ _ _ _
theorem wJ4_fixAfterDeletion_b345 {l : Launch} {g : GG} {E : Me_} (C : Cx_ l g E "java/util/TreeMap" cJ4_fixAfterDeletion 3 11) (hret : (eT_ E).sig.returnType = (Option.none : Option Jvm.ClassFile.FieldType)) (h0 : ∀ x ∈ (eC_ E).exceptionTable.toList, False) (hin : (eT_ E).name = "fixAfterDeletion") (N : Nat) : ∀ (m : Mm) (v1 : Option Nat) (k n : Nat), Sm_ l g E 3 en_v (fJ4_fixAfterDeletion_b345 (gE_ g) N m v1) k n 345 [(1, vr_ v1)] [] m := by
  intro m v1 k n
  unfold fJ4_fixAfterDeletion_b345
  refine s_aload_n C rfl 0 rfl dJ4_fixAfterDeletion_345 346 rfl ?_
  refine s_iconst C 1 rfl dJ4_fixAfterDeletion_346 347 rfl ?_
  refine x_callS (enc := en_v) C 10 2 [vr_ v1, vi_ 1] (ctJ4_setColor C.2.2.2.2.2.2.2.2.1 N m v1 1) q1944 q1945 q87 q1946 hdJ4_setColor (Nat.le_of_ble_eq_true rfl) (Nat.le_of_ble_eq_true rfl) rfl (Nat.le_of_ble_eq_true rfl) dJ4_fixAfterDeletion_347 350 rfl rfl hen_v (kk_v (fun m1 k1 n1 => ?_)) (kx_n he_v)
  exact x_vret C hret rfl dJ4_fixAfterDeletion_350
theorem wJ4_fixAfterDeletion_b0 {l : Launch} {g : GG} {E : Me_} (C : Cx_ l g E "java/util/TreeMap" cJ4_fixAfterDeletion 3 11) (hret : (eT_ E).sig.returnType = (Option.none : Option Jvm.ClassFile.FieldType)) (h0 : ∀ x ∈ (eC_ E).exceptionTable.toList, False) (hin : (eT_ E).name = "fixAfterDeletion") (N : Nat) : ∀ (F : Nat) (m : Mm) (v0 : Option Nat) (v1 : Option Nat) (k n : Nat), Sm_ l g E 3 en_v (fJ4_fixAfterDeletion_b0 (gE_ g) N F m v0 v1) k n 0 [(0, vr_ v0), (1, vr_ v1)] [] m := by
  intro F
  induction F with
  | zero => intros; exact Sm_none
  | succ F ih =>
    intro m v0 v1 k n
    unfold fJ4_fixAfterDeletion_b0
    refine s_aload_n C rfl 1 rfl dJ4_fixAfterDeletion_0 1 rfl ?_
    refine s_aload_n C rfl 0 rfl dJ4_fixAfterDeletion_1 2 rfl ?_
    refine x_gr C 14 (RJ4, TJ4, 9) rfl 3 (Nat.le_of_ble_eq_true rfl) q205 (Or.inl rfl) rfl 15 rfl dJ4_fixAfterDeletion_2 5 rfl (fun x1 => ?_)
    refine s_acmp_eq C dJ4_fixAfterDeletion_5 345 rfl 8 rfl (fun c_ => ?_) (fun c_ => ?_)
    · refine Sm_sub [1] rfl ?_
      exact wJ4_fixAfterDeletion_b345 C hret h0 hin N _ _ _ _
    · refine s_aload_n C rfl 1 rfl dJ4_fixAfterDeletion_8 9 rfl ?_
      refine x_callS (enc := en_i) C 10 1 [vr_ v1] (ctJ4_colorOf C.2.2.2.2.2.2.2.2.1 N m v1) q1941 q1942 q87 q1943 hdJ4_colorOf (Nat.le_of_ble_eq_true rfl) (Nat.le_of_ble_eq_true rfl) rfl (Nat.le_of_ble_eq_true rfl) dJ4_fixAfterDeletion_9 12 rfl rfl hen_i (kk_i (fun x2 m1 k1 n1 => ?_)) (kx_n he_i)
      refine s_iconst C 1 rfl dJ4_fixAfterDeletion_12 13 rfl ?_
      refine s_icmp_ne C dJ4_fixAfterDeletion_13 345 rfl 16 rfl (fun c_ => ?_) (fun c_ => ?_)
      · refine s_aload_n C rfl 1 rfl dJ4_fixAfterDeletion_16 17 rfl ?_
        refine s_aload_n C rfl 1 rfl dJ4_fixAfterDeletion_17 18 rfl ?_
        refine x_callS (enc := en_r) C 10 1 [vr_ v1] (ctJ4_parentOf C.2.2.2.2.2.2.2.2.1 N m1 v1) q1932 q1933 q87 q1934 hdJ4_parentOf (Nat.le_of_ble_eq_true rfl) (Nat.le_of_ble_eq_true rfl) rfl (Nat.le_of_ble_eq_true rfl) dJ4_fixAfterDeletion_18 21 rfl rfl hen_r (kk_r (fun x3 m2 k1 n1 => ?_)) (kx_n he_r)
        refine x_callS (enc := en_r) C 10 1 [vr_ x3] (ctJ4_leftOf C.2.2.2.2.2.2.2.2.1 N m2 x3) q1935 q1936 q87 q1937 hdJ4_leftOf (Nat.le_of_ble_eq_true rfl) (Nat.le_of_ble_eq_true rfl) rfl (Nat.le_of_ble_eq_true rfl) dJ4_fixAfterDeletion_21 24 rfl rfl hen_r (kk_r (fun x4 m3 k1 n1 => ?_)) (kx_n he_r)
        refine s_acmp_ne C dJ4_fixAfterDeletion_24 186 rfl 27 rfl (fun c_ => ?_) (fun c_ => ?_)
        · refine s_aload_n C rfl 1 rfl dJ4_fixAfterDeletion_27 28 rfl ?_
          refine x_callS (enc := en_r) C 10 1 [vr_ v1] (ctJ4_parentOf C.2.2.2.2.2.2.2.2.1 N m3 v1) q1932 q1933 q87 q1934 hdJ4_parentOf (Nat.le_of_ble_eq_true rfl) (Nat.le_of_ble_eq_true rfl) rfl (Nat.le_of_ble_eq_true rfl) dJ4_fixAfterDeletion_28 31 rfl rfl hen_r (kk_r (fun x5 m4 k1 n1 => ?_)) (kx_n he_r)
          refine x_callS (enc := en_r) C 10 1 [vr_ x5] (ctJ4_rightOf C.2.2.2.2.2.2.2.2.1 N m4 x5) q1938 q1939 q87 q1940 hdJ4_rightOf (Nat.le_of_ble_eq_true rfl) (Nat.le_of_ble_eq_true rfl) rfl (Nat.le_of_ble_eq_true rfl) dJ4_fixAfterDeletion_31 34 rfl rfl hen_r (kk_r (fun x6 m5 k1 n1 => ?_)) (kx_n he_r)
          refine s_astore_n C rfl (Nat.le_of_ble_eq_true rfl) [0, 1] rfl rfl dJ4_fixAfterDeletion_34 35 rfl ?_
          refine s_aload_n C rfl 0 rfl dJ4_fixAfterDeletion_35 36 rfl ?_
          refine x_callS (enc := en_i) C 10 1 [vr_ x6] (ctJ4_colorOf C.2.2.2.2.2.2.2.2.1 N m5 x6) q1941 q1942 q87 q1943 hdJ4_colorOf (Nat.le_of_ble_eq_true rfl) (Nat.le_of_ble_eq_true rfl) rfl (Nat.le_of_ble_eq_true rfl) dJ4_fixAfterDeletion_36 39 rfl rfl hen_i (kk_i (fun x7 m6 k1 n1 => ?_)) (kx_n he_i)
          refine s_if_ne C dJ4_fixAfterDeletion_39 71 rfl 42 rfl (fun c_ => ?_) (fun c_ => ?_)
          · refine s_aload_n C rfl 0 rfl dJ4_fixAfterDeletion_42 43 rfl ?_
            refine s_iconst C 1 rfl dJ4_fixAfterDeletion_43 44 rfl ?_
            refine x_callS (enc := en_v) C 10 2 [vr_ x6, vi_ 1] (ctJ4_setColor C.2.2.2.2.2.2.2.2.1 N m6 x6 1) q1944 q1945 q87 q1946 hdJ4_setColor (Nat.le_of_ble_eq_true rfl) (Nat.le_of_ble_eq_true rfl) rfl (Nat.le_of_ble_eq_true rfl) dJ4_fixAfterDeletion_44 47 rfl rfl hen_v (kk_v (fun m7 k1 n1 => ?_)) (kx_n he_v)
            refine s_aload_n C rfl 2 rfl dJ4_fixAfterDeletion_47 48 rfl ?_
            refine x_callS (enc := en_r) C 10 1 [vr_ v1] (ctJ4_parentOf C.2.2.2.2.2.2.2.2.1 N m7 v1) q1932 q1933 q87 q1934 hdJ4_parentOf (Nat.le_of_ble_eq_true rfl) (Nat.le_of_ble_eq_true rfl) rfl (Nat.le_of_ble_eq_true rfl) dJ4_fixAfterDeletion_48 51 rfl rfl hen_r (kk_r (fun x8 m8 k1 n1 => ?_)) (kx_n he_r)
            refine s_iconst C 0 rfl dJ4_fixAfterDeletion_51 52 rfl ?_
            refine x_callS (enc := en_v) C 10 2 [vr_ x8, vi_ 0] (ctJ4_setColor C.2.2.2.2.2.2.2.2.1 N m8 x8 0) q1944 q1945 q87 q1946 hdJ4_setColor (Nat.le_of_ble_eq_true rfl) (Nat.le_of_ble_eq_true rfl) rfl (Nat.le_of_ble_eq_true rfl) dJ4_fixAfterDeletion_52 55 rfl rfl hen_v (kk_v (fun m9 k1 n1 => ?_)) (kx_n he_v)
            refine s_aload_n C rfl 1 rfl dJ4_fixAfterDeletion_55 56 rfl ?_
            refine s_aload_n C rfl 2 rfl dJ4_fixAfterDeletion_56 57 rfl ?_
            refine x_callS (enc := en_r) C 10 1 [vr_ v1] (ctJ4_parentOf C.2.2.2.2.2.2.2.2.1 N m9 v1) q1932 q1933 q87 q1934 hdJ4_parentOf (Nat.le_of_ble_eq_true rfl) (Nat.le_of_ble_eq_true rfl) rfl (Nat.le_of_ble_eq_true rfl) dJ4_fixAfterDeletion_57 60 rfl rfl hen_r (kk_r (fun x9 m10 k1 n1 => ?_)) (kx_n he_r)
            refine x_ck (fun hb_ hb0_ => ?_)
            refine x_callV (enc := en_v) C 10 1 [vr_ x9] 15 (ctJ4_rotateLeft C.2.2.2.2.2.2.2.2.1 N m10 v0 x9) hb_ hb0_ rfl rfl q1947 q1949 qs19 q87 q1950 hdJ4_rotateLeft (Nat.le_of_ble_eq_true rfl) (Nat.le_of_ble_eq_true rfl) rfl (Nat.le_of_ble_eq_true rfl) dJ4_fixAfterDeletion_60 63 rfl rfl hen_v (kk_v (fun m11 k1 n1 => ?_)) (kx_n he_v)
            refine s_aload_n C rfl 2 rfl dJ4_fixAfterDeletion_63 64 rfl ?_
            refine x_callS (enc := en_r) C 10 1 [vr_ v1] (ctJ4_parentOf C.2.2.2.2.2.2.2.2.1 N m11 v1) q1932 q1933 q87 q1934 hdJ4_parentOf (Nat.le_of_ble_eq_true rfl) (Nat.le_of_ble_eq_true rfl) rfl (Nat.le_of_ble_eq_true rfl) dJ4_fixAfterDeletion_64 67 rfl rfl hen_r (kk_r (fun x10 m12 k1 n1 => ?_)) (kx_n he_r)
            refine x_callS (enc := en_r) C 10 1 [vr_ x10] (ctJ4_rightOf C.2.2.2.2.2.2.2.2.1 N m12 x10) q1938 q1939 q87 q1940 hdJ4_rightOf (Nat.le_of_ble_eq_true rfl) (Nat.le_of_ble_eq_true rfl) rfl (Nat.le_of_ble_eq_true rfl) dJ4_fixAfterDeletion_67 70 rfl rfl hen_r (kk_r (fun x11 m13 k1 n1 => ?_)) (kx_n he_r)
            refine s_astore_n C rfl (Nat.le_of_ble_eq_true rfl) [1, 2] rfl rfl dJ4_fixAfterDeletion_70 71 rfl ?_
            refine Sm_sub [1, 2, 0] rfl ?_
            exact wJ4_fixAfterDeletion_b71 C hret h0 hin N (fun m v0 v1 k n => ih m v0 v1 k n) _ _ _ _ _ _
          · refine Sm_sub [1, 2, 0] rfl ?_
            exact wJ4_fixAfterDeletion_b71 C hret h0 hin N (fun m v0 v1 k n => ih m v0 v1 k n) _ _ _ _ _ _
        · refine s_aload_n C rfl 1 rfl dJ4_fixAfterDeletion_186 187 rfl ?_
          refine x_callS (enc := en_r) C 10 1 [vr_ v1] (ctJ4_parentOf C.2.2.2.2.2.2.2.2.1 N m3 v1) q1932 q1933 q87 q1934 hdJ4_parentOf (Nat.le_of_ble_eq_true rfl) (Nat.le_of_ble_eq_true rfl) rfl (Nat.le_of_ble_eq_true rfl) dJ4_fixAfterDeletion_187 190 rfl rfl hen_r (kk_r (fun x12 m14 k1 n1 => ?_)) (kx_n he_r)
          refine x_callS (enc := en_r) C 10 1 [vr_ x12] (ctJ4_leftOf C.2.2.2.2.2.2.2.2.1 N m14 x12) q1935 q1936 q87 q1937 hdJ4_leftOf (Nat.le_of_ble_eq_true rfl) (Nat.le_of_ble_eq_true rfl) rfl (Nat.le_of_ble_eq_true rfl) dJ4_fixAfterDeletion_190 193 rfl rfl hen_r (kk_r (fun x13 m15 k1 n1 => ?_)) (kx_n he_r)
          refine s_astore_n C rfl (Nat.le_of_ble_eq_true rfl) [0, 1] rfl rfl dJ4_fixAfterDeletion_193 194 rfl ?_
          refine s_aload_n C rfl 0 rfl dJ4_fixAfterDeletion_194 195 rfl ?_
          refine x_callS (enc := en_i) C 10 1 [vr_ x13] (ctJ4_colorOf C.2.2.2.2.2.2.2.2.1 N m15 x13) q1941 q1942 q87 q1943 hdJ4_colorOf (Nat.le_of_ble_eq_true rfl) (Nat.le_of_ble_eq_true rfl) rfl (Nat.le_of_ble_eq_true rfl) dJ4_fixAfterDeletion_195 198 rfl rfl hen_i (kk_i (fun x14 m16 k1 n1 => ?_)) (kx_n he_i)
          refine s_if_ne C dJ4_fixAfterDeletion_198 230 rfl 201 rfl (fun c_ => ?_) (fun c_ => ?_)
          · refine s_aload_n C rfl 0 rfl dJ4_fixAfterDeletion_201 202 rfl ?_
            refine s_iconst C 1 rfl dJ4_fixAfterDeletion_202 203 rfl ?_
            refine x_callS (enc := en_v) C 10 2 [vr_ x13, vi_ 1] (ctJ4_setColor C.2.2.2.2.2.2.2.2.1 N m16 x13 1) q1944 q1945 q87 q1946 hdJ4_setColor (Nat.le_of_ble_eq_true rfl) (Nat.le_of_ble_eq_true rfl) rfl (Nat.le_of_ble_eq_true rfl) dJ4_fixAfterDeletion_203 206 rfl rfl hen_v (kk_v (fun m17 k1 n1 => ?_)) (kx_n he_v)
            refine s_aload_n C rfl 2 rfl dJ4_fixAfterDeletion_206 207 rfl ?_
            refine x_callS (enc := en_r) C 10 1 [vr_ v1] (ctJ4_parentOf C.2.2.2.2.2.2.2.2.1 N m17 v1) q1932 q1933 q87 q1934 hdJ4_parentOf (Nat.le_of_ble_eq_true rfl) (Nat.le_of_ble_eq_true rfl) rfl (Nat.le_of_ble_eq_true rfl) dJ4_fixAfterDeletion_207 210 rfl rfl hen_r (kk_r (fun x15 m18 k1 n1 => ?_)) (kx_n he_r)
            refine s_iconst C 0 rfl dJ4_fixAfterDeletion_210 211 rfl ?_
            refine x_callS (enc := en_v) C 10 2 [vr_ x15, vi_ 0] (ctJ4_setColor C.2.2.2.2.2.2.2.2.1 N m18 x15 0) q1944 q1945 q87 q1946 hdJ4_setColor (Nat.le_of_ble_eq_true rfl) (Nat.le_of_ble_eq_true rfl) rfl (Nat.le_of_ble_eq_true rfl) dJ4_fixAfterDeletion_211 214 rfl rfl hen_v (kk_v (fun m19 k1 n1 => ?_)) (kx_n he_v)
            refine s_aload_n C rfl 1 rfl dJ4_fixAfterDeletion_214 215 rfl ?_
            refine s_aload_n C rfl 2 rfl dJ4_fixAfterDeletion_215 216 rfl ?_
            refine x_callS (enc := en_r) C 10 1 [vr_ v1] (ctJ4_parentOf C.2.2.2.2.2.2.2.2.1 N m19 v1) q1932 q1933 q87 q1934 hdJ4_parentOf (Nat.le_of_ble_eq_true rfl) (Nat.le_of_ble_eq_true rfl) rfl (Nat.le_of_ble_eq_true rfl) dJ4_fixAfterDeletion_216 219 rfl rfl hen_r (kk_r (fun x16 m20 k1 n1 => ?_)) (kx_n he_r)
            refine x_ck (fun hb_ hb0_ => ?_)
            refine x_callV (enc := en_v) C 10 1 [vr_ x16] 15 (ctJ4_rotateRight C.2.2.2.2.2.2.2.2.1 N m20 v0 x16) hb_ hb0_ rfl rfl q1951 q1953 qs20 q87 q1954 hdJ4_rotateRight (Nat.le_of_ble_eq_true rfl) (Nat.le_of_ble_eq_true rfl) rfl (Nat.le_of_ble_eq_true rfl) dJ4_fixAfterDeletion_219 222 rfl rfl hen_v (kk_v (fun m21 k1 n1 => ?_)) (kx_n he_v)
            refine s_aload_n C rfl 2 rfl dJ4_fixAfterDeletion_222 223 rfl ?_
            refine x_callS (enc := en_r) C 10 1 [vr_ v1] (ctJ4_parentOf C.2.2.2.2.2.2.2.2.1 N m21 v1) q1932 q1933 q87 q1934 hdJ4_parentOf (Nat.le_of_ble_eq_true rfl) (Nat.le_of_ble_eq_true rfl) rfl (Nat.le_of_ble_eq_true rfl) dJ4_fixAfterDeletion_223 226 rfl rfl hen_r (kk_r (fun x17 m22 k1 n1 => ?_)) (kx_n he_r)
            refine x_callS (enc := en_r) C 10 1 [vr_ x17] (ctJ4_leftOf C.2.2.2.2.2.2.2.2.1 N m22 x17) q1935 q1936 q87 q1937 hdJ4_leftOf (Nat.le_of_ble_eq_true rfl) (Nat.le_of_ble_eq_true rfl) rfl (Nat.le_of_ble_eq_true rfl) dJ4_fixAfterDeletion_226 229 rfl rfl hen_r (kk_r (fun x18 m23 k1 n1 => ?_)) (kx_n he_r)
            refine s_astore_n C rfl (Nat.le_of_ble_eq_true rfl) [1, 2] rfl rfl dJ4_fixAfterDeletion_229 230 rfl ?_
            refine Sm_sub [1, 2, 0] rfl ?_
            exact wJ4_fixAfterDeletion_b230 C hret h0 hin N (fun m v0 v1 k n => ih m v0 v1 k n) _ _ _ _ _ _
          · refine Sm_sub [1, 2, 0] rfl ?_
            exact wJ4_fixAfterDeletion_b230 C hret h0 hin N (fun m v0 v1 k n => ih m v0 v1 k n) _ _ _ _ _ _
      · refine Sm_sub [1] rfl ?_
        exact wJ4_fixAfterDeletion_b345 C hret h0 hin N _ _ _ _
theorem wJ4_fixAfterDeletion {l : Launch} {g : GG} {E : Me_} (C : Cx_ l g E "java/util/TreeMap" cJ4_fixAfterDeletion 3 11) (hret : (eT_ E).sig.returnType = (Option.none : Option Jvm.ClassFile.FieldType)) (h0 : ∀ x ∈ (eC_ E).exceptionTable.toList, False) (hin : (eT_ E).name = "fixAfterDeletion") (N : Nat) : ∀ (m : Mm) (v0 : Option Nat) (v1 : Option Nat) (k n : Nat), Sm_ l g E 3 en_v (fJ4_fixAfterDeletion (gE_ g) N m v0 v1) k n 0 [(0, vr_ v0), (1, vr_ v1)] [] m := by
  intro m v0 v1 k n
  unfold fJ4_fixAfterDeletion
  exact wJ4_fixAfterDeletion_b0 C hret h0 hin N N _ _ _ _ _
theorem hdJ4_fixAfterDeletion : ((⟨"java/util/TreeMap", "fixAfterDeletion", "(Ljava/util/TreeMap$Entry;)V"⟩ : MethodName)).cls ≠ "java/lang/invoke/MethodHandle" ∧ ((⟨"java/util/TreeMap", "fixAfterDeletion", "(Ljava/util/TreeMap$Entry;)V"⟩ : MethodName)).cls ≠ "java/lang/invoke/VarHandle" ∧ (parseMethodDescriptor ((⟨"java/util/TreeMap", "fixAfterDeletion", "(Ljava/util/TreeMap$Entry;)V"⟩ : MethodName)).desc).map (fun d => d.parameters.length) = some 1 := ⟨by decide +kernel, by decide +kernel, by decide +kernel⟩
theorem ctJ4_fixAfterDeletion {l : Launch} {g : GG} (hst : l.stackTraces = false) (N : Nat) (m : Mm) (v0 : Option Nat) (v1 : Option Nat) : ∀ v m' k n, fJ4_fixAfterDeletion (gE_ g) N m v0 v1 = some (v, m', k, n) → Ct_ l g (⟨"java/util/TreeMap", "fixAfterDeletion", "(Ljava/util/TreeMap$Entry;)V"⟩ : MethodName) (ws_ (⟨"java/util/TreeMap", "fixAfterDeletion", "(Ljava/util/TreeMap$Entry;)V"⟩ : MethodName) cJ4_fixAfterDeletion 3 (Option.none : Option Jvm.ClassFile.FieldType)) 11 [vr_ v0, vr_ v1] m (en_v v) m' k n :=
  Ct_of (by decide +kernel) rfl hst (Nat.le_of_ble_eq_true rfl) rfl (fun E C hret h0 hin => wJ4_fixAfterDeletion C hret h0 hin N m v0 v1 0 0)
theorem wJ4_deleteEntry_b245 {l : Launch} {g : GG} {E : Me_} (C : Cx_ l g E "java/util/TreeMap" cJ4_deleteEntry 3 12) (hret : (eT_ E).sig.returnType = (Option.none : Option Jvm.ClassFile.FieldType)) (h0 : ∀ x ∈ (eC_ E).exceptionTable.toList, False) (hin : (eT_ E).name = "deleteEntry") (N : Nat) : ∀ (m : Mm) (k n : Nat), Sm_ l g E 3 en_v (fJ4_deleteEntry_b245 (gE_ g) N m) k n 245 [] [] m := by
  intro m k n
  unfold fJ4_deleteEntry_b245
  exact x_vret C hret rfl dJ4_deleteEntry_245
theorem wJ4_deleteEntry_b133 {l : Launch} {g : GG} {E : Me_} (C : Cx_ l g E "java/util/TreeMap" cJ4_deleteEntry 3 12) (hret : (eT_ E).sig.returnType = (Option.none : Option Jvm.ClassFile.FieldType)) (h0 : ∀ x ∈ (eC_ E).exceptionTable.toList, False) (hin : (eT_ E).name = "deleteEntry") (N : Nat) : ∀ (m : Mm) (v0 : Option Nat) (v1 : Option Nat) (v2 : Option Nat) (k n : Nat), Sm_ l g E 3 en_v (fJ4_deleteEntry_b133 (gE_ g) N m v0 v1 v2) k n 133 [(0, vr_ v0), (1, vr_ v1), (2, vr_ v2)] [] m := by
  intro m v0 v1 v2 k n
  unfold fJ4_deleteEntry_b133
  refine s_aload_n C rfl 1 rfl dJ4_deleteEntry_133 134 rfl ?_
  refine s_aload_n C rfl 1 rfl dJ4_deleteEntry_134 135 rfl ?_
  refine s_aload_n C rfl 1 rfl dJ4_deleteEntry_135 136 rfl ?_
  refine s_null C dJ4_deleteEntry_136 137 rfl ?_
  refine s_dup_x1 C rfl rfl dJ4_deleteEntry_137 138 rfl ?_
  refine x_pr C 15 (RJ37, TJ37, 6) rfl 4 (Nat.le_of_ble_eq_true rfl) rfl q1908 (Or.inl rfl) rfl trivial 16 rfl dJ4_deleteEntry_138 141 rfl (fun m1 => ?_)
  refine s_dup_x1 C rfl rfl dJ4_deleteEntry_141 142 rfl ?_
  refine x_pr C 15 (RJ37, TJ37, 6) rfl 3 (Nat.le_of_ble_eq_true rfl) rfl q1906 (Or.inl rfl) rfl trivial 16 rfl dJ4_deleteEntry_142 145 rfl (fun m2 => ?_)
  refine x_pr C 15 (RJ37, TJ37, 6) rfl 2 (Nat.le_of_ble_eq_true rfl) rfl q1903 (Or.inl rfl) rfl trivial 16 rfl dJ4_deleteEntry_145 148 rfl (fun m3 => ?_)
  refine s_aload_n C rfl 1 rfl dJ4_deleteEntry_148 149 rfl ?_
  refine x_gi C 15 (RJ37, TJ37, 6) rfl 5 (Nat.le_of_ble_eq_true rfl) q1910 (Or.inl rfl) rfl 16 rfl dJ4_deleteEntry_149 152 rfl (fun x1 => ?_)
  refine s_iconst C 1 rfl dJ4_deleteEntry_152 153 rfl ?_
  refine s_icmp_ne C dJ4_deleteEntry_153 245 rfl 156 rfl (fun c_ => ?_) (fun c_ => ?_)
  · refine s_aload_n C rfl 0 rfl dJ4_deleteEntry_156 157 rfl ?_
    refine s_aload_n C rfl 2 rfl dJ4_deleteEntry_157 158 rfl ?_
    refine x_ck (fun hb_ hb0_ => ?_)
    refine x_callV (enc := en_v) C 11 1 [vr_ v2] 15 (ctJ4_fixAfterDeletion C.2.2.2.2.2.2.2.2.1 N m3 v0 v2) hb_ hb0_ rfl rfl q2205 q2207 qs23 q87 q2208 hdJ4_fixAfterDeletion (Nat.le_of_ble_eq_true rfl) (Nat.le_of_ble_eq_true rfl) rfl (Nat.le_of_ble_eq_true rfl) dJ4_deleteEntry_158 161 rfl rfl hen_v (kk_v (fun m4 k1 n1 => ?_)) (kx_n he_v)
    refine s_goto C (off := 84) 245 dJ4_deleteEntry_161 rfl ?_
    refine Sm_sub [] rfl ?_
    exact wJ4_deleteEntry_b245 C hret h0 hin N _ _ _
  · refine Sm_sub [] rfl ?_
    exact wJ4_deleteEntry_b245 C hret h0 hin N _ _ _
theorem wJ4_deleteEntry_b240 {l : Launch} {g : GG} {E : Me_} (C : Cx_ l g E "java/util/TreeMap" cJ4_deleteEntry 3 12) (hret : (eT_ E).sig.returnType = (Option.none : Option Jvm.ClassFile.FieldType)) (h0 : ∀ x ∈ (eC_ E).exceptionTable.toList, False) (hin : (eT_ E).name = "deleteEntry") (N : Nat) : ∀ (m : Mm) (v1 : Option Nat) (k n : Nat), Sm_ l g E 3 en_v (fJ4_deleteEntry_b240 (gE_ g) N m v1) k n 240 [(1, vr_ v1)] [] m := by
  intro m v1 k n
  unfold fJ4_deleteEntry_b240
  refine s_aload_n C rfl 0 rfl dJ4_deleteEntry_240 241 rfl ?_
  refine s_null C dJ4_deleteEntry_241 242 rfl ?_
  refine x_pr C 15 (RJ37, TJ37, 6) rfl 4 (Nat.le_of_ble_eq_true rfl) rfl q1908 (Or.inl rfl) rfl trivial 16 rfl dJ4_deleteEntry_242 245 rfl (fun m1 => ?_)
  refine Sm_sub [] rfl ?_
  exact wJ4_deleteEntry_b245 C hret h0 hin N _ _ _
theorem wJ4_deleteEntry_b192 {l : Launch} {g : GG} {E : Me_} (C : Cx_ l g E "java/util/TreeMap" cJ4_deleteEntry 3 12) (hret : (eT_ E).sig.returnType = (Option.none : Option Jvm.ClassFile.FieldType)) (h0 : ∀ x ∈ (eC_ E).exceptionTable.toList, False) (hin : (eT_ E).name = "deleteEntry") (N : Nat) : ∀ (m : Mm) (v1 : Option Nat) (k n : Nat), Sm_ l g E 3 en_v (fJ4_deleteEntry_b192 (gE_ g) N m v1) k n 192 [(1, vr_ v1)] [] m := by
  intro m v1 k n
  unfold fJ4_deleteEntry_b192
  refine s_aload_n C rfl 0 rfl dJ4_deleteEntry_192 193 rfl ?_
  refine x_gr C 15 (RJ37, TJ37, 6) rfl 4 (Nat.le_of_ble_eq_true rfl) q1908 (Or.inl rfl) rfl 16 rfl dJ4_deleteEntry_193 196 rfl (fun x1 => ?_)
  refine s_ifnull C dJ4_deleteEntry_196 245 rfl 199 rfl (fun c_ => ?_) (fun c_ => ?_)
  · refine Sm_sub [] rfl ?_
    exact wJ4_deleteEntry_b245 C hret h0 hin N _ _ _
  · refine s_aload_n C rfl 0 rfl dJ4_deleteEntry_199 200 rfl ?_
    refine s_aload_n C rfl 0 rfl dJ4_deleteEntry_200 201 rfl ?_
    refine x_gr C 15 (RJ37, TJ37, 6) rfl 4 (Nat.le_of_ble_eq_true rfl) q1908 (Or.inl rfl) rfl 16 rfl dJ4_deleteEntry_201 204 rfl (fun x2 => ?_)
    refine x_gr C 15 (RJ37, TJ37, 6) rfl 2 (Nat.le_of_ble_eq_true rfl) q1903 (Or.inl rfl) rfl 16 rfl dJ4_deleteEntry_204 207 rfl (fun x3 => ?_)
    refine s_acmp_ne C dJ4_deleteEntry_207 221 rfl 210 rfl (fun c_ => ?_) (fun c_ => ?_)
    · refine s_aload_n C rfl 0 rfl dJ4_deleteEntry_210 211 rfl ?_
      refine x_gr C 15 (RJ37, TJ37, 6) rfl 4 (Nat.le_of_ble_eq_true rfl) q1908 (Or.inl rfl) rfl 16 rfl dJ4_deleteEntry_211 214 rfl (fun x4 => ?_)
      refine s_null C dJ4_deleteEntry_214 215 rfl ?_
      refine x_pr C 15 (RJ37, TJ37, 6) rfl 2 (Nat.le_of_ble_eq_true rfl) rfl q1903 (Or.inl rfl) rfl trivial 16 rfl dJ4_deleteEntry_215 218 rfl (fun m1 => ?_)
      refine s_goto C (off := 22) 240 dJ4_deleteEntry_218 rfl ?_
      exact wJ4_deleteEntry_b240 C hret h0 hin N _ _ _ _
    · refine s_aload_n C rfl 0 rfl dJ4_deleteEntry_221 222 rfl ?_
      refine s_aload_n C rfl 0 rfl dJ4_deleteEntry_222 223 rfl ?_
      refine x_gr C 15 (RJ37, TJ37, 6) rfl 4 (Nat.le_of_ble_eq_true rfl) q1908 (Or.inl rfl) rfl 16 rfl dJ4_deleteEntry_223 226 rfl (fun x5 => ?_)
      refine x_gr C 15 (RJ37, TJ37, 6) rfl 3 (Nat.le_of_ble_eq_true rfl) q1906 (Or.inl rfl) rfl 16 rfl dJ4_deleteEntry_226 229 rfl (fun x6 => ?_)
      refine s_acmp_ne C dJ4_deleteEntry_229 240 rfl 232 rfl (fun c_ => ?_) (fun c_ => ?_)
      · refine s_aload_n C rfl 0 rfl dJ4_deleteEntry_232 233 rfl ?_
        refine x_gr C 15 (RJ37, TJ37, 6) rfl 4 (Nat.le_of_ble_eq_true rfl) q1908 (Or.inl rfl) rfl 16 rfl dJ4_deleteEntry_233 236 rfl (fun x7 => ?_)
        refine s_null C dJ4_deleteEntry_236 237 rfl ?_
        refine x_pr C 15 (RJ37, TJ37, 6) rfl 3 (Nat.le_of_ble_eq_true rfl) rfl q1906 (Or.inl rfl) rfl trivial 16 rfl dJ4_deleteEntry_237 240 rfl (fun m2 => ?_)
        exact wJ4_deleteEntry_b240 C hret h0 hin N _ _ _ _
      · exact wJ4_deleteEntry_b240 C hret h0 hin N _ _ _ _
theorem wJ4_deleteEntry_b75 {l : Launch} {g : GG} {E : Me_} (C : Cx_ l g E "java/util/TreeMap" cJ4_deleteEntry 3 12) (hret : (eT_ E).sig.returnType = (Option.none : Option Jvm.ClassFile.FieldType)) (h0 : ∀ x ∈ (eC_ E).exceptionTable.toList, False) (hin : (eT_ E).name = "deleteEntry") (N : Nat) : ∀ (m : Mm) (v0 : Option Nat) (v1 : Option Nat) (s0 : Option Nat) (k n : Nat), Sm_ l g E 3 en_v (fJ4_deleteEntry_b75 (gE_ g) N m v0 v1 s0) k n 75 [(0, vr_ v0), (1, vr_ v1)] [vr_ s0] m := by
  intro m v0 v1 s0 k n
  unfold fJ4_deleteEntry_b75
  refine s_astore_n C rfl (Nat.le_of_ble_eq_true rfl) [0, 1] rfl rfl dJ4_deleteEntry_75 76 rfl ?_
  refine s_aload_n C rfl 0 rfl dJ4_deleteEntry_76 77 rfl ?_
  refine s_ifnull C dJ4_deleteEntry_77 164 rfl 80 rfl (fun c_ => ?_) (fun c_ => ?_)
  · refine s_aload_n C rfl 2 rfl dJ4_deleteEntry_164 165 rfl ?_
    refine x_gr C 15 (RJ37, TJ37, 6) rfl 4 (Nat.le_of_ble_eq_true rfl) q1908 (Or.inl rfl) rfl 16 rfl dJ4_deleteEntry_165 168 rfl (fun x1 => ?_)
    refine s_ifnonnull C dJ4_deleteEntry_168 179 rfl 171 rfl (fun c_ => ?_) (fun c_ => ?_)
    · refine s_aload_n C rfl 1 rfl dJ4_deleteEntry_171 172 rfl ?_
      refine s_null C dJ4_deleteEntry_172 173 rfl ?_
      refine x_pr C 14 (RJ4, TJ4, 9) rfl 3 (Nat.le_of_ble_eq_true rfl) rfl q205 (Or.inl rfl) rfl trivial 15 rfl dJ4_deleteEntry_173 176 rfl (fun m1 => ?_)
      refine s_goto C (off := 69) 245 dJ4_deleteEntry_176 rfl ?_
      refine Sm_sub [] rfl ?_
      exact wJ4_deleteEntry_b245 C hret h0 hin N _ _ _
    · refine s_aload_n C rfl 2 rfl dJ4_deleteEntry_179 180 rfl ?_
      refine x_gi C 15 (RJ37, TJ37, 6) rfl 5 (Nat.le_of_ble_eq_true rfl) q1910 (Or.inl rfl) rfl 16 rfl dJ4_deleteEntry_180 183 rfl (fun x2 => ?_)
      refine s_iconst C 1 rfl dJ4_deleteEntry_183 184 rfl ?_
      refine s_icmp_ne C dJ4_deleteEntry_184 192 rfl 187 rfl (fun c_ => ?_) (fun c_ => ?_)
      · refine s_aload_n C rfl 1 rfl dJ4_deleteEntry_187 188 rfl ?_
        refine s_aload_n C rfl 2 rfl dJ4_deleteEntry_188 189 rfl ?_
        refine x_ck (fun hb_ hb0_ => ?_)
        refine x_callV (enc := en_v) C 11 1 [vr_ v1] 15 (ctJ4_fixAfterDeletion C.2.2.2.2.2.2.2.2.1 N m v0 v1) hb_ hb0_ rfl rfl q2205 q2207 qs23 q87 q2208 hdJ4_fixAfterDeletion (Nat.le_of_ble_eq_true rfl) (Nat.le_of_ble_eq_true rfl) rfl (Nat.le_of_ble_eq_true rfl) dJ4_deleteEntry_189 192 rfl rfl hen_v (kk_v (fun m2 k1 n1 => ?_)) (kx_n he_v)
        refine Sm_sub [2] rfl ?_
        exact wJ4_deleteEntry_b192 C hret h0 hin N _ _ _ _
      · refine Sm_sub [2] rfl ?_
        exact wJ4_deleteEntry_b192 C hret h0 hin N _ _ _ _
  · refine s_aload_n C rfl 0 rfl dJ4_deleteEntry_80 81 rfl ?_
    refine s_aload_n C rfl 2 rfl dJ4_deleteEntry_81 82 rfl ?_
    refine x_gr C 15 (RJ37, TJ37, 6) rfl 4 (Nat.le_of_ble_eq_true rfl) q1908 (Or.inl rfl) rfl 16 rfl dJ4_deleteEntry_82 85 rfl (fun x3 => ?_)
    refine x_pr C 15 (RJ37, TJ37, 6) rfl 4 (Nat.le_of_ble_eq_true rfl) rfl q1908 (Or.inl rfl) rfl trivial 16 rfl dJ4_deleteEntry_85 88 rfl (fun m3 => ?_)
    refine s_aload_n C rfl 2 rfl dJ4_deleteEntry_88 89 rfl ?_
    refine x_gr C 15 (RJ37, TJ37, 6) rfl 4 (Nat.le_of_ble_eq_true rfl) q1908 (Or.inl rfl) rfl 16 rfl dJ4_deleteEntry_89 92 rfl (fun x4 => ?_)
    refine s_ifnonnull C dJ4_deleteEntry_92 103 rfl 95 rfl (fun c_ => ?_) (fun c_ => ?_)
    · refine s_aload_n C rfl 1 rfl dJ4_deleteEntry_95 96 rfl ?_
      refine s_aload_n C rfl 0 rfl dJ4_deleteEntry_96 97 rfl ?_
      refine x_pr C 14 (RJ4, TJ4, 9) rfl 3 (Nat.le_of_ble_eq_true rfl) rfl q205 (Or.inl rfl) rfl trivial 15 rfl dJ4_deleteEntry_97 100 rfl (fun m4 => ?_)
      refine s_goto C (off := 33) 133 dJ4_deleteEntry_100 rfl ?_
      refine Sm_sub [1, 2, 0] rfl ?_
      exact wJ4_deleteEntry_b133 C hret h0 hin N _ _ _ _ _ _
    · refine s_aload_n C rfl 2 rfl dJ4_deleteEntry_103 104 rfl ?_
      refine s_aload_n C rfl 2 rfl dJ4_deleteEntry_104 105 rfl ?_
      refine x_gr C 15 (RJ37, TJ37, 6) rfl 4 (Nat.le_of_ble_eq_true rfl) q1908 (Or.inl rfl) rfl 16 rfl dJ4_deleteEntry_105 108 rfl (fun x5 => ?_)
      refine x_gr C 15 (RJ37, TJ37, 6) rfl 2 (Nat.le_of_ble_eq_true rfl) q1903 (Or.inl rfl) rfl 16 rfl dJ4_deleteEntry_108 111 rfl (fun x6 => ?_)
      refine s_acmp_ne C dJ4_deleteEntry_111 125 rfl 114 rfl (fun c_ => ?_) (fun c_ => ?_)
      · refine s_aload_n C rfl 2 rfl dJ4_deleteEntry_114 115 rfl ?_
        refine x_gr C 15 (RJ37, TJ37, 6) rfl 4 (Nat.le_of_ble_eq_true rfl) q1908 (Or.inl rfl) rfl 16 rfl dJ4_deleteEntry_115 118 rfl (fun x7 => ?_)
        refine s_aload_n C rfl 0 rfl dJ4_deleteEntry_118 119 rfl ?_
        refine x_pr C 15 (RJ37, TJ37, 6) rfl 2 (Nat.le_of_ble_eq_true rfl) rfl q1903 (Or.inl rfl) rfl trivial 16 rfl dJ4_deleteEntry_119 122 rfl (fun m5 => ?_)
        refine s_goto C (off := 11) 133 dJ4_deleteEntry_122 rfl ?_
        refine Sm_sub [1, 2, 0] rfl ?_
        exact wJ4_deleteEntry_b133 C hret h0 hin N _ _ _ _ _ _
      · refine s_aload_n C rfl 2 rfl dJ4_deleteEntry_125 126 rfl ?_
        refine x_gr C 15 (RJ37, TJ37, 6) rfl 4 (Nat.le_of_ble_eq_true rfl) q1908 (Or.inl rfl) rfl 16 rfl dJ4_deleteEntry_126 129 rfl (fun x8 => ?_)
        refine s_aload_n C rfl 0 rfl dJ4_deleteEntry_129 130 rfl ?_
        refine x_pr C 15 (RJ37, TJ37, 6) rfl 3 (Nat.le_of_ble_eq_true rfl) rfl q1906 (Or.inl rfl) rfl trivial 16 rfl dJ4_deleteEntry_130 133 rfl (fun m6 => ?_)
        refine Sm_sub [1, 2, 0] rfl ?_
        exact wJ4_deleteEntry_b133 C hret h0 hin N _ _ _ _ _ _
theorem wJ4_deleteEntry_b57 {l : Launch} {g : GG} {E : Me_} (C : Cx_ l g E "java/util/TreeMap" cJ4_deleteEntry 3 12) (hret : (eT_ E).sig.returnType = (Option.none : Option Jvm.ClassFile.FieldType)) (h0 : ∀ x ∈ (eC_ E).exceptionTable.toList, False) (hin : (eT_ E).name = "deleteEntry") (N : Nat) : ∀ (m : Mm) (v0 : Option Nat) (v1 : Option Nat) (k n : Nat), Sm_ l g E 3 en_v (fJ4_deleteEntry_b57 (gE_ g) N m v0 v1) k n 57 [(0, vr_ v0), (1, vr_ v1)] [] m := by
  intro m v0 v1 k n
  unfold fJ4_deleteEntry_b57
  refine s_aload_n C rfl 1 rfl dJ4_deleteEntry_57 58 rfl ?_
  refine x_gr C 15 (RJ37, TJ37, 6) rfl 2 (Nat.le_of_ble_eq_true rfl) q1903 (Or.inl rfl) rfl 16 rfl dJ4_deleteEntry_58 61 rfl (fun x1 => ?_)
  refine s_ifnull C dJ4_deleteEntry_61 71 rfl 64 rfl (fun c_ => ?_) (fun c_ => ?_)
  · refine s_aload_n C rfl 1 rfl dJ4_deleteEntry_71 72 rfl ?_
    refine x_gr C 15 (RJ37, TJ37, 6) rfl 3 (Nat.le_of_ble_eq_true rfl) q1906 (Or.inl rfl) rfl 16 rfl dJ4_deleteEntry_72 75 rfl (fun x2 => ?_)
    exact wJ4_deleteEntry_b75 C hret h0 hin N _ _ _ _ _ _
  · refine s_aload_n C rfl 1 rfl dJ4_deleteEntry_64 65 rfl ?_
    refine x_gr C 15 (RJ37, TJ37, 6) rfl 2 (Nat.le_of_ble_eq_true rfl) q1903 (Or.inl rfl) rfl 16 rfl dJ4_deleteEntry_65 68 rfl (fun x3 => ?_)
    refine s_goto C (off := 7) 75 dJ4_deleteEntry_68 rfl ?_
    exact wJ4_deleteEntry_b75 C hret h0 hin N _ _ _ _ _ _
theorem wJ4_deleteEntry {l : Launch} {g : GG} {E : Me_} (C : Cx_ l g E "java/util/TreeMap" cJ4_deleteEntry 3 12) (hret : (eT_ E).sig.returnType = (Option.none : Option Jvm.ClassFile.FieldType)) (h0 : ∀ x ∈ (eC_ E).exceptionTable.toList, False) (hin : (eT_ E).name = "deleteEntry") (N : Nat) : ∀ (m : Mm) (v0 : Option Nat) (v1 : Option Nat) (k n : Nat), Sm_ l g E 3 en_v (fJ4_deleteEntry (gE_ g) N m v0 v1) k n 0 [(0, vr_ v0), (1, vr_ v1)] [] m := by
  intro m v0 v1 k n
  unfold fJ4_deleteEntry
  refine s_aload_n C rfl 0 rfl dJ4_deleteEntry_0 1 rfl ?_
  refine s_dup C rfl dJ4_deleteEntry_1 2 rfl ?_
  refine x_gi C 14 (RJ4, TJ4, 9) rfl 5 (Nat.le_of_ble_eq_true rfl) q207 (Or.inl rfl) rfl 15 rfl dJ4_deleteEntry_2 5 rfl (fun x1 => ?_)
  refine s_iconst C 1 rfl dJ4_deleteEntry_5 6 rfl ?_
  refine s_iadd C dJ4_deleteEntry_6 7 rfl ?_
  refine x_pi C 14 (RJ4, TJ4, 9) rfl 5 (Nat.le_of_ble_eq_true rfl) rfl q207 (Or.inl rfl) rfl trivial 15 rfl dJ4_deleteEntry_7 10 rfl (fun m1 => ?_)
  refine s_aload_n C rfl 0 rfl dJ4_deleteEntry_10 11 rfl ?_
  refine s_dup C rfl dJ4_deleteEntry_11 12 rfl ?_
  refine x_gi C 14 (RJ4, TJ4, 9) rfl 4 (Nat.le_of_ble_eq_true rfl) q206 (Or.inl rfl) rfl 15 rfl dJ4_deleteEntry_12 15 rfl (fun x2 => ?_)
  refine s_iconst C 1 rfl dJ4_deleteEntry_15 16 rfl ?_
  refine s_isub C dJ4_deleteEntry_16 17 rfl ?_
  refine x_pi C 14 (RJ4, TJ4, 9) rfl 4 (Nat.le_of_ble_eq_true rfl) rfl q206 (Or.inl rfl) rfl trivial 15 rfl dJ4_deleteEntry_17 20 rfl (fun m2 => ?_)
  refine s_aload_n C rfl 1 rfl dJ4_deleteEntry_20 21 rfl ?_
  refine x_gr C 15 (RJ37, TJ37, 6) rfl 2 (Nat.le_of_ble_eq_true rfl) q1903 (Or.inl rfl) rfl 16 rfl dJ4_deleteEntry_21 24 rfl (fun x3 => ?_)
  refine s_ifnull C dJ4_deleteEntry_24 57 rfl 27 rfl (fun c_ => ?_) (fun c_ => ?_)
  · exact wJ4_deleteEntry_b57 C hret h0 hin N _ _ _ _ _
  · refine s_aload_n C rfl 1 rfl dJ4_deleteEntry_27 28 rfl ?_
    refine x_gr C 15 (RJ37, TJ37, 6) rfl 3 (Nat.le_of_ble_eq_true rfl) q1906 (Or.inl rfl) rfl 16 rfl dJ4_deleteEntry_28 31 rfl (fun x4 => ?_)
    refine s_ifnull C dJ4_deleteEntry_31 57 rfl 34 rfl (fun c_ => ?_) (fun c_ => ?_)
    · exact wJ4_deleteEntry_b57 C hret h0 hin N _ _ _ _ _
    · refine s_aload_n C rfl 1 rfl dJ4_deleteEntry_34 35 rfl ?_
      refine x_callS (enc := en_r) C 10 1 [vr_ v1] (ctJ4_successor C.2.2.2.2.2.2.2.2.1 N m2 v1) q2204 q1520 q87 q1521 hdJ4_successor (Nat.le_of_ble_eq_true rfl) (Nat.le_of_ble_eq_true rfl) rfl (Nat.le_of_ble_eq_true rfl) dJ4_deleteEntry_35 38 rfl rfl hen_r (kk_r (fun x5 m3 k1 n1 => ?_)) (kx_n he_r)
      refine s_astore_n C rfl (Nat.le_of_ble_eq_true rfl) [0, 1] rfl rfl dJ4_deleteEntry_38 39 rfl ?_
      refine s_aload_n C rfl 2 rfl dJ4_deleteEntry_39 40 rfl ?_
      refine s_aload_n C rfl 0 rfl dJ4_deleteEntry_40 41 rfl ?_
      refine x_gr C 15 (RJ37, TJ37, 6) rfl 0 (Nat.le_of_ble_eq_true rfl) q1897 (Or.inl rfl) rfl 16 rfl dJ4_deleteEntry_41 44 rfl (fun x6 => ?_)
      refine x_pr C 15 (RJ37, TJ37, 6) rfl 0 (Nat.le_of_ble_eq_true rfl) rfl q1897 (Or.inl rfl) rfl trivial 16 rfl dJ4_deleteEntry_44 47 rfl (fun m4 => ?_)
      refine s_aload_n C rfl 2 rfl dJ4_deleteEntry_47 48 rfl ?_
      refine s_aload_n C rfl 0 rfl dJ4_deleteEntry_48 49 rfl ?_
      refine x_gr C 15 (RJ37, TJ37, 6) rfl 1 (Nat.le_of_ble_eq_true rfl) q1900 (Or.inl rfl) rfl 16 rfl dJ4_deleteEntry_49 52 rfl (fun x7 => ?_)
      refine x_pr C 15 (RJ37, TJ37, 6) rfl 1 (Nat.le_of_ble_eq_true rfl) rfl q1900 (Or.inl rfl) rfl trivial 16 rfl dJ4_deleteEntry_52 55 rfl (fun m5 => ?_)
      refine s_aload_n C rfl 0 rfl dJ4_deleteEntry_55 56 rfl ?_
      refine s_astore_n C rfl (Nat.le_of_ble_eq_true rfl) [1] rfl rfl dJ4_deleteEntry_56 57 rfl ?_
      refine Sm_sub [1, 0] rfl ?_
      exact wJ4_deleteEntry_b57 C hret h0 hin N _ _ _ _ _
theorem hdJ4_deleteEntry : ((⟨"java/util/TreeMap", "deleteEntry", "(Ljava/util/TreeMap$Entry;)V"⟩ : MethodName)).cls ≠ "java/lang/invoke/MethodHandle" ∧ ((⟨"java/util/TreeMap", "deleteEntry", "(Ljava/util/TreeMap$Entry;)V"⟩ : MethodName)).cls ≠ "java/lang/invoke/VarHandle" ∧ (parseMethodDescriptor ((⟨"java/util/TreeMap", "deleteEntry", "(Ljava/util/TreeMap$Entry;)V"⟩ : MethodName)).desc).map (fun d => d.parameters.length) = some 1 := ⟨by decide +kernel, by decide +kernel, by decide +kernel⟩
theorem ctJ4_deleteEntry {l : Launch} {g : GG} (hst : l.stackTraces = false) (N : Nat) (m : Mm) (v0 : Option Nat) (v1 : Option Nat) : ∀ v m' k n, fJ4_deleteEntry (gE_ g) N m v0 v1 = some (v, m', k, n) → Ct_ l g (⟨"java/util/TreeMap", "deleteEntry", "(Ljava/util/TreeMap$Entry;)V"⟩ : MethodName) (ws_ (⟨"java/util/TreeMap", "deleteEntry", "(Ljava/util/TreeMap$Entry;)V"⟩ : MethodName) cJ4_deleteEntry 3 (Option.none : Option Jvm.ClassFile.FieldType)) 12 [vr_ v0, vr_ v1] m (en_v v) m' k n :=
  Ct_of (by decide +kernel) rfl hst (Nat.le_of_ble_eq_true rfl) rfl (fun E C hret h0 hin => wJ4_deleteEntry C hret h0 hin N m v0 v1 0 0)
theorem wJ26_removeAscending_t23_b68 {l : Launch} {g : GG} {E : Me_} (C : Cx_ l g E "java/util/TreeMap$NavigableSubMap$SubMapIterator" cJ26_removeAscending 1 13) (hret : (eT_ E).sig.returnType = (Option.none : Option Jvm.ClassFile.FieldType)) (h0 : ∀ x ∈ (eC_ E).exceptionTable.toList, False) (hin : (eT_ E).name = "removeAscending") (N : Nat) : ∀ (m : Mm) (v0 : Option Nat) (k n : Nat), Sm_ l g E 1 en_v (fJ26_removeAscending_t23_b68 (gE_ g) N m v0) k n 68 [(0, vr_ v0)] [] m := by
  intro m v0 k n
  unfold fJ26_removeAscending_t23_b68
  refine s_aload_n C rfl 0 rfl dJ26_removeAscending_68 69 rfl ?_
  refine x_gr C 22 (RJ27, TJ27, 5) rfl 4 (Nat.le_of_ble_eq_true rfl) q1357 (Or.inl rfl) rfl 23 rfl dJ26_removeAscending_69 72 rfl (fun x1 => ?_)
  refine x_gr C 20 (RJ39, TJ39, 12) rfl 0 (Nat.le_of_ble_eq_true rfl) q2011 (Or.inl rfl) rfl 21 rfl dJ26_removeAscending_72 75 rfl (fun x2 => ?_)
  refine s_aload_n C rfl 0 rfl dJ26_removeAscending_75 76 rfl ?_
  refine x_gr C 22 (RJ27, TJ27, 5) rfl 0 (Nat.le_of_ble_eq_true rfl) q1353 (Or.inl rfl) rfl 23 rfl dJ26_removeAscending_76 79 rfl (fun x3 => ?_)
  refine x_ck (fun hb_ hb0_ => ?_)
  refine x_callVN (enc := en_v) C 12 1 [vr_ x3] 15 (ctJ4_deleteEntry C.2.2.2.2.2.2.2.2.1 N m x2 x3) hb_ hb0_ rfl rfl q2224 q2202 qs22 q87 q2203 hdJ4_deleteEntry (Nat.le_of_ble_eq_true rfl) (Nat.le_of_ble_eq_true rfl) rfl (Nat.le_of_ble_eq_true rfl) dJ26_removeAscending_79 82 rfl rfl hen_v (kk_v (fun m1 k1 n1 => ?_)) (kx_n he_v)
  refine s_aload_n C rfl 0 rfl dJ26_removeAscending_82 83 rfl ?_
  refine s_null C dJ26_removeAscending_83 84 rfl ?_
  refine x_pr C 22 (RJ27, TJ27, 5) rfl 0 (Nat.le_of_ble_eq_true rfl) rfl q1353 (Or.inl rfl) rfl trivial 23 rfl dJ26_removeAscending_84 87 rfl (fun m2 => ?_)
  refine s_aload_n C rfl 0 rfl dJ26_removeAscending_87 88 rfl ?_
  refine s_aload_n C rfl 0 rfl dJ26_removeAscending_88 89 rfl ?_
  refine x_gr C 22 (RJ27, TJ27, 5) rfl 4 (Nat.le_of_ble_eq_true rfl) q1357 (Or.inl rfl) rfl 23 rfl dJ26_removeAscending_89 92 rfl (fun x4 => ?_)
  refine x_gr C 20 (RJ39, TJ39, 12) rfl 0 (Nat.le_of_ble_eq_true rfl) q2011 (Or.inl rfl) rfl 21 rfl dJ26_removeAscending_92 95 rfl (fun x5 => ?_)
  refine x_giN C 14 (RJ4, TJ4, 9) rfl 5 (Nat.le_of_ble_eq_true rfl) q209 rfl rfl 15 rfl dJ26_removeAscending_95 98 rfl (fun x6 => ?_)
  refine x_pi C 22 (RJ27, TJ27, 5) rfl 3 (Nat.le_of_ble_eq_true rfl) rfl q1356 (Or.inl rfl) rfl trivial 23 rfl dJ26_removeAscending_98 101 rfl (fun m3 => ?_)
  exact x_vret C hret rfl dJ26_removeAscending_101
theorem wJ26_removeAscending_t23 {l : Launch} {g : GG} {E : Me_} (C : Cx_ l g E "java/util/TreeMap$NavigableSubMap$SubMapIterator" cJ26_removeAscending 1 13) (hret : (eT_ E).sig.returnType = (Option.none : Option Jvm.ClassFile.FieldType)) (h0 : ∀ x ∈ (eC_ E).exceptionTable.toList, False) (hin : (eT_ E).name = "removeAscending") (N : Nat) : ∀ (m : Mm) (v0 : Option Nat) (k n : Nat), Sm_ l g E 1 en_v (fJ26_removeAscending_t23 (gE_ g) N m v0) k n 0 [(0, vr_ v0)] [] m := by
  intro m v0 k n
  unfold fJ26_removeAscending_t23
  refine s_aload_n C rfl 0 rfl dJ26_removeAscending_0 1 rfl ?_
  refine x_gr C 22 (RJ27, TJ27, 5) rfl 0 (Nat.le_of_ble_eq_true rfl) q1353 (Or.inl rfl) rfl 23 rfl dJ26_removeAscending_1 4 rfl (fun x1 => ?_)
  refine s_ifnonnull C dJ26_removeAscending_4 15 rfl 7 rfl (fun c_ => ?_) (fun c_ => ?_)
  · exact Sm_none
  · refine s_aload_n C rfl 0 rfl dJ26_removeAscending_15 16 rfl ?_
    refine x_gr C 22 (RJ27, TJ27, 5) rfl 4 (Nat.le_of_ble_eq_true rfl) q1357 (Or.inl rfl) rfl 23 rfl dJ26_removeAscending_16 19 rfl (fun x2 => ?_)
    refine x_gr C 20 (RJ39, TJ39, 12) rfl 0 (Nat.le_of_ble_eq_true rfl) q2011 (Or.inl rfl) rfl 21 rfl dJ26_removeAscending_19 22 rfl (fun x3 => ?_)
    refine x_giN C 14 (RJ4, TJ4, 9) rfl 5 (Nat.le_of_ble_eq_true rfl) q209 rfl rfl 15 rfl dJ26_removeAscending_22 25 rfl (fun x4 => ?_)
    refine s_aload_n C rfl 0 rfl dJ26_removeAscending_25 26 rfl ?_
    refine x_gi C 22 (RJ27, TJ27, 5) rfl 3 (Nat.le_of_ble_eq_true rfl) q1356 (Or.inl rfl) rfl 23 rfl dJ26_removeAscending_26 29 rfl (fun x5 => ?_)
    refine s_icmp_eq C dJ26_removeAscending_29 40 rfl 32 rfl (fun c_ => ?_) (fun c_ => ?_)
    · refine s_aload_n C rfl 0 rfl dJ26_removeAscending_40 41 rfl ?_
      refine x_gr C 22 (RJ27, TJ27, 5) rfl 0 (Nat.le_of_ble_eq_true rfl) q1353 (Or.inl rfl) rfl 23 rfl dJ26_removeAscending_41 44 rfl (fun x6 => ?_)
      refine x_gr C 15 (RJ37, TJ37, 6) rfl 2 (Nat.le_of_ble_eq_true rfl) q1902 (Or.inl rfl) rfl 16 rfl dJ26_removeAscending_44 47 rfl (fun x7 => ?_)
      refine s_ifnull C dJ26_removeAscending_47 68 rfl 50 rfl (fun c_ => ?_) (fun c_ => ?_)
      · exact wJ26_removeAscending_t23_b68 C hret h0 hin N _ _ _ _
      · refine s_aload_n C rfl 0 rfl dJ26_removeAscending_50 51 rfl ?_
        refine x_gr C 22 (RJ27, TJ27, 5) rfl 0 (Nat.le_of_ble_eq_true rfl) q1353 (Or.inl rfl) rfl 23 rfl dJ26_removeAscending_51 54 rfl (fun x8 => ?_)
        refine x_gr C 15 (RJ37, TJ37, 6) rfl 3 (Nat.le_of_ble_eq_true rfl) q1905 (Or.inl rfl) rfl 16 rfl dJ26_removeAscending_54 57 rfl (fun x9 => ?_)
        refine s_ifnull C dJ26_removeAscending_57 68 rfl 60 rfl (fun c_ => ?_) (fun c_ => ?_)
        · exact wJ26_removeAscending_t23_b68 C hret h0 hin N _ _ _ _
        · refine s_aload_n C rfl 0 rfl dJ26_removeAscending_60 61 rfl ?_
          refine s_aload_n C rfl 0 rfl dJ26_removeAscending_61 62 rfl ?_
          refine x_gr C 22 (RJ27, TJ27, 5) rfl 0 (Nat.le_of_ble_eq_true rfl) q1353 (Or.inl rfl) rfl 23 rfl dJ26_removeAscending_62 65 rfl (fun x10 => ?_)
          refine x_pr C 22 (RJ27, TJ27, 5) rfl 1 (Nat.le_of_ble_eq_true rfl) rfl q1354 (Or.inl rfl) rfl trivial 23 rfl dJ26_removeAscending_65 68 rfl (fun m1 => ?_)
          exact wJ26_removeAscending_t23_b68 C hret h0 hin N _ _ _ _
    · exact Sm_none
theorem hdJ26_removeAscending_t23 : ((⟨"java/util/TreeMap$NavigableSubMap$SubMapIterator", "removeAscending", "()V"⟩ : MethodName)).cls ≠ "java/lang/invoke/MethodHandle" ∧ ((⟨"java/util/TreeMap$NavigableSubMap$SubMapIterator", "removeAscending", "()V"⟩ : MethodName)).cls ≠ "java/lang/invoke/VarHandle" ∧ (parseMethodDescriptor ((⟨"java/util/TreeMap$NavigableSubMap$SubMapIterator", "removeAscending", "()V"⟩ : MethodName)).desc).map (fun d => d.parameters.length) = some 0 := ⟨by decide +kernel, by decide +kernel, by decide +kernel⟩
theorem ctJ26_removeAscending_t23 {l : Launch} {g : GG} (hst : l.stackTraces = false) (N : Nat) (m : Mm) (v0 : Option Nat) : ∀ v m' k n, fJ26_removeAscending_t23 (gE_ g) N m v0 = some (v, m', k, n) → Ct_ l g (⟨"java/util/TreeMap$NavigableSubMap$SubMapIterator", "removeAscending", "()V"⟩ : MethodName) (ws_ (⟨"java/util/TreeMap$NavigableSubMap$SubMapIterator", "removeAscending", "()V"⟩ : MethodName) cJ26_removeAscending 1 (Option.none : Option Jvm.ClassFile.FieldType)) 13 [vr_ v0] m (en_v v) m' k n :=
  Ct_of (by decide +kernel) rfl hst (Nat.le_of_ble_eq_true rfl) rfl (fun E C hret h0 hin => wJ26_removeAscending_t23 C hret h0 hin N m v0 0 0)
theorem wJ27_remove {l : Launch} {g : GG} {E : Me_} (C : Cx_ l g E "java/util/TreeMap$NavigableSubMap$SubMapEntryIterator" cJ27_remove 1 14) (hret : (eT_ E).sig.returnType = (Option.none : Option Jvm.ClassFile.FieldType)) (h0 : ∀ x ∈ (eC_ E).exceptionTable.toList, False) (hin : (eT_ E).name = "remove") (N : Nat) : ∀ (m : Mm) (v0 : Option Nat) (k n : Nat), Sm_ l g E 1 en_v (fJ27_remove (gE_ g) N m v0) k n 0 [(0, vr_ v0)] [] m := by
  intro m v0 k n
  unfold fJ27_remove
  refine s_aload_n C rfl 0 rfl dJ27_remove_0 1 rfl ?_
  refine x_ck (fun hb_ hb0_ => ?_)
  refine x_callU (enc := en_v) (owner := "java/util/TreeMap$NavigableSubMap$SubMapIterator") C 13 0 [] 23 (ctJ26_removeAscending_t23 C.2.2.2.2.2.2.2.2.1 N m v0) hb_ hb0_ rfl rfl q2216 q2217 q2219 q2220 q114 q2221 rfl ⟨by decide +kernel, by decide +kernel, by decide +kernel⟩ (Nat.le_of_ble_eq_true rfl) (Nat.le_of_ble_eq_true rfl) rfl (Nat.le_of_ble_eq_true rfl) dJ27_remove_1 4 rfl rfl hen_v (kk_v (fun m1 k1 n1 => ?_)) (kx_n he_v)
  exact x_vret C hret rfl dJ27_remove_4
theorem hdJ27_remove : ((⟨"java/util/TreeMap$NavigableSubMap$SubMapEntryIterator", "remove", "()V"⟩ : MethodName)).cls ≠ "java/lang/invoke/MethodHandle" ∧ ((⟨"java/util/TreeMap$NavigableSubMap$SubMapEntryIterator", "remove", "()V"⟩ : MethodName)).cls ≠ "java/lang/invoke/VarHandle" ∧ (parseMethodDescriptor ((⟨"java/util/TreeMap$NavigableSubMap$SubMapEntryIterator", "remove", "()V"⟩ : MethodName)).desc).map (fun d => d.parameters.length) = some 0 := ⟨by decide +kernel, by decide +kernel, by decide +kernel⟩
theorem ctJ27_remove {l : Launch} {g : GG} (hst : l.stackTraces = false) (N : Nat) (m : Mm) (v0 : Option Nat) : ∀ v m' k n, fJ27_remove (gE_ g) N m v0 = some (v, m', k, n) → Ct_ l g (⟨"java/util/TreeMap$NavigableSubMap$SubMapEntryIterator", "remove", "()V"⟩ : MethodName) (ws_ (⟨"java/util/TreeMap$NavigableSubMap$SubMapEntryIterator", "remove", "()V"⟩ : MethodName) cJ27_remove 1 (Option.none : Option Jvm.ClassFile.FieldType)) 14 [vr_ v0] m (en_v v) m' k n :=
  Ct_of (by decide +kernel) rfl hst (Nat.le_of_ble_eq_true rfl) rfl (fun E C hret h0 hin => wJ27_remove C hret h0 hin N m v0 0 0)
theorem wJ26_init_t23_b45 {l : Launch} {g : GG} {E : Me_} (C : Cx_ l g E "java/util/TreeMap$NavigableSubMap$SubMapIterator" cJ26_init 4 10) (hret : (eT_ E).sig.returnType = (Option.none : Option Jvm.ClassFile.FieldType)) (h0 : ∀ x ∈ (eC_ E).exceptionTable.toList, False) (hin : (eT_ E).name = "<init>") (N : Nat) : ∀ (m : Mm) (s0 : Option Nat) (s1 : Option Nat) (k n : Nat), Sm_ l g E 4 en_v (fJ26_init_t23_b45 (gE_ g) N m s0 s1) k n 45 [] [vr_ s1, vr_ s0] m := by
  intro m s0 s1 k n
  unfold fJ26_init_t23_b45
  refine x_prF C hin 22 (RJ27, TJ27, 5) rfl 2 (Nat.le_of_ble_eq_true rfl) rfl q1355 rfl rfl trivial 23 rfl dJ26_init_45 48 rfl (fun m1 => ?_)
  exact x_vret C hret rfl dJ26_init_48
theorem wJ26_init_t23 {l : Launch} {g : GG} {E : Me_} (C : Cx_ l g E "java/util/TreeMap$NavigableSubMap$SubMapIterator" cJ26_init 4 10) (hret : (eT_ E).sig.returnType = (Option.none : Option Jvm.ClassFile.FieldType)) (h0 : ∀ x ∈ (eC_ E).exceptionTable.toList, False) (hin : (eT_ E).name = "<init>") (N : Nat) : ∀ (m : Mm) (v0 : Option Nat) (v1 : Option Nat) (v2 : Option Nat) (v3 : Option Nat) (k n : Nat), Sm_ l g E 4 en_v (fJ26_init_t23 (gE_ g) N m v0 v1 v2 v3) k n 0 [(0, vr_ v0), (1, vr_ v1), (2, vr_ v2), (3, vr_ v3)] [] m := by
  intro m v0 v1 v2 v3 k n
  unfold fJ26_init_t23
  refine s_aload_n C rfl 0 rfl dJ26_init_0 1 rfl ?_
  refine s_aload_n C rfl 1 rfl dJ26_init_1 2 rfl ?_
  refine x_prF C hin 22 (RJ27, TJ27, 5) rfl 4 (Nat.le_of_ble_eq_true rfl) rfl q1357 rfl rfl trivial 23 rfl dJ26_init_2 5 rfl (fun m1 => ?_)
  refine s_aload_n C rfl 0 rfl dJ26_init_5 6 rfl ?_
  refine x_ok (fun hb_ => ?_)
  refine x_obj C hb_ q1350 q152 q153 (by decide) (Nat.le_of_ble_eq_true rfl) dJ26_init_6 9 rfl ?_
  refine s_aload_n C rfl 0 rfl dJ26_init_9 10 rfl ?_
  refine s_aload_n C rfl 1 rfl dJ26_init_10 11 rfl ?_
  refine x_gr C 20 (RJ39, TJ39, 12) rfl 0 (Nat.le_of_ble_eq_true rfl) q2011 (Or.inl rfl) rfl 21 rfl dJ26_init_11 14 rfl (fun x1 => ?_)
  refine x_giN C 14 (RJ4, TJ4, 9) rfl 5 (Nat.le_of_ble_eq_true rfl) q209 rfl rfl 15 rfl dJ26_init_14 17 rfl (fun x2 => ?_)
  refine x_pi C 22 (RJ27, TJ27, 5) rfl 3 (Nat.le_of_ble_eq_true rfl) rfl q1356 (Or.inl rfl) rfl trivial 23 rfl dJ26_init_17 20 rfl (fun m2 => ?_)
  refine s_aload_n C rfl 0 rfl dJ26_init_20 21 rfl ?_
  refine s_null C dJ26_init_21 22 rfl ?_
  refine x_pr C 22 (RJ27, TJ27, 5) rfl 0 (Nat.le_of_ble_eq_true rfl) rfl q1353 (Or.inl rfl) rfl trivial 23 rfl dJ26_init_22 25 rfl (fun m3 => ?_)
  refine s_aload_n C rfl 0 rfl dJ26_init_25 26 rfl ?_
  refine s_aload_n C rfl 2 rfl dJ26_init_26 27 rfl ?_
  refine x_pr C 22 (RJ27, TJ27, 5) rfl 1 (Nat.le_of_ble_eq_true rfl) rfl q1354 (Or.inl rfl) rfl trivial 23 rfl dJ26_init_27 30 rfl (fun m4 => ?_)
  refine s_aload_n C rfl 0 rfl dJ26_init_30 31 rfl ?_
  refine s_aload_n C rfl 3 rfl dJ26_init_31 32 rfl ?_
  refine s_ifnonnull C dJ26_init_32 41 rfl 35 rfl (fun c_ => ?_) (fun c_ => ?_)
  · refine x_gsN C 4 (vr_ (some (gE_ g 3))) rfl q1351 rfl dJ26_init_35 38 rfl ?_
    refine s_goto C (off := 7) 45 dJ26_init_38 rfl ?_
    refine Sm_sub [] rfl ?_
    exact wJ26_init_t23_b45 C hret h0 hin N _ _ _ _ _
  · refine s_aload_n C rfl 3 rfl dJ26_init_41 42 rfl ?_
    refine x_gr C 15 (RJ37, TJ37, 6) rfl 0 (Nat.le_of_ble_eq_true rfl) q1892 (Or.inl rfl) rfl 16 rfl dJ26_init_42 45 rfl (fun x3 => ?_)
    refine Sm_sub [] rfl ?_
    exact wJ26_init_t23_b45 C hret h0 hin N _ _ _ _ _
theorem hdJ26_init_t23 : ((⟨"java/util/TreeMap$NavigableSubMap$SubMapIterator", "<init>", "(Ljava/util/TreeMap$NavigableSubMap;Ljava/util/TreeMap$Entry;Ljava/util/TreeMap$Entry;)V"⟩ : MethodName)).cls ≠ "java/lang/invoke/MethodHandle" ∧ ((⟨"java/util/TreeMap$NavigableSubMap$SubMapIterator", "<init>", "(Ljava/util/TreeMap$NavigableSubMap;Ljava/util/TreeMap$Entry;Ljava/util/TreeMap$Entry;)V"⟩ : MethodName)).cls ≠ "java/lang/invoke/VarHandle" ∧ (parseMethodDescriptor ((⟨"java/util/TreeMap$NavigableSubMap$SubMapIterator", "<init>", "(Ljava/util/TreeMap$NavigableSubMap;Ljava/util/TreeMap$Entry;Ljava/util/TreeMap$Entry;)V"⟩ : MethodName)).desc).map (fun d => d.parameters.length) = some 3 := ⟨by decide +kernel, by decide +kernel, by decide +kernel⟩
theorem ctJ26_init_t23 {l : Launch} {g : GG} (hst : l.stackTraces = false) (N : Nat) (m : Mm) (v0 : Option Nat) (v1 : Option Nat) (v2 : Option Nat) (v3 : Option Nat) : ∀ v m' k n, fJ26_init_t23 (gE_ g) N m v0 v1 v2 v3 = some (v, m', k, n) → Ct_ l g (⟨"java/util/TreeMap$NavigableSubMap$SubMapIterator", "<init>", "(Ljava/util/TreeMap$NavigableSubMap;Ljava/util/TreeMap$Entry;Ljava/util/TreeMap$Entry;)V"⟩ : MethodName) (ws_ (⟨"java/util/TreeMap$NavigableSubMap$SubMapIterator", "<init>", "(Ljava/util/TreeMap$NavigableSubMap;Ljava/util/TreeMap$Entry;Ljava/util/TreeMap$Entry;)V"⟩ : MethodName) cJ26_init 4 (Option.none : Option Jvm.ClassFile.FieldType)) 10 [vr_ v0, vr_ v1, vr_ v2, vr_ v3] m (en_v v) m' k n :=
  Ct_of (by decide +kernel) rfl hst (Nat.le_of_ble_eq_true rfl) rfl (fun E C hret h0 hin => wJ26_init_t23 C hret h0 hin N m v0 v1 v2 v3 0 0)
theorem wJ27_init {l : Launch} {g : GG} {E : Me_} (C : Cx_ l g E "java/util/TreeMap$NavigableSubMap$SubMapEntryIterator" cJ27_init 4 11) (hret : (eT_ E).sig.returnType = (Option.none : Option Jvm.ClassFile.FieldType)) (h0 : ∀ x ∈ (eC_ E).exceptionTable.toList, False) (hin : (eT_ E).name = "<init>") (N : Nat) : ∀ (m : Mm) (v0 : Option Nat) (v1 : Option Nat) (v2 : Option Nat) (v3 : Option Nat) (k n : Nat), Sm_ l g E 4 en_v (fJ27_init (gE_ g) N m v0 v1 v2 v3) k n 0 [(0, vr_ v0), (1, vr_ v1), (2, vr_ v2), (3, vr_ v3)] [] m := by
  intro m v0 v1 v2 v3 k n
  unfold fJ27_init
  refine s_aload_n C rfl 0 rfl dJ27_init_0 1 rfl ?_
  refine s_aload_n C rfl 1 rfl dJ27_init_1 2 rfl ?_
  refine s_aload_n C rfl 2 rfl dJ27_init_2 3 rfl ?_
  refine s_aload_n C rfl 3 rfl dJ27_init_3 4 rfl ?_
  refine x_ok (fun hb0_ => ?_)
  refine x_callI (enc := en_v) C 10 3 [vr_ v1, vr_ v2, vr_ v3] (ctJ26_init_t23 C.2.2.2.2.2.2.2.2.1 N m v0 v1 v2 v3) hb0_ rfl q1347 q1348 q114 q1349 rfl hdJ26_init_t23 (Nat.le_of_ble_eq_true rfl) (Nat.le_of_ble_eq_true rfl) rfl (Nat.le_of_ble_eq_true rfl) dJ27_init_4 7 rfl rfl hen_v (kk_v (fun m1 k1 n1 => ?_)) (kx_n he_v)
  exact x_vret C hret rfl dJ27_init_7
theorem hdJ27_init : ((⟨"java/util/TreeMap$NavigableSubMap$SubMapEntryIterator", "<init>", "(Ljava/util/TreeMap$NavigableSubMap;Ljava/util/TreeMap$Entry;Ljava/util/TreeMap$Entry;)V"⟩ : MethodName)).cls ≠ "java/lang/invoke/MethodHandle" ∧ ((⟨"java/util/TreeMap$NavigableSubMap$SubMapEntryIterator", "<init>", "(Ljava/util/TreeMap$NavigableSubMap;Ljava/util/TreeMap$Entry;Ljava/util/TreeMap$Entry;)V"⟩ : MethodName)).cls ≠ "java/lang/invoke/VarHandle" ∧ (parseMethodDescriptor ((⟨"java/util/TreeMap$NavigableSubMap$SubMapEntryIterator", "<init>", "(Ljava/util/TreeMap$NavigableSubMap;Ljava/util/TreeMap$Entry;Ljava/util/TreeMap$Entry;)V"⟩ : MethodName)).desc).map (fun d => d.parameters.length) = some 3 := ⟨by decide +kernel, by decide +kernel, by decide +kernel⟩
theorem ctJ27_init {l : Launch} {g : GG} (hst : l.stackTraces = false) (N : Nat) (m : Mm) (v0 : Option Nat) (v1 : Option Nat) (v2 : Option Nat) (v3 : Option Nat) : ∀ v m' k n, fJ27_init (gE_ g) N m v0 v1 v2 v3 = some (v, m', k, n) → Ct_ l g (⟨"java/util/TreeMap$NavigableSubMap$SubMapEntryIterator", "<init>", "(Ljava/util/TreeMap$NavigableSubMap;Ljava/util/TreeMap$Entry;Ljava/util/TreeMap$Entry;)V"⟩ : MethodName) (ws_ (⟨"java/util/TreeMap$NavigableSubMap$SubMapEntryIterator", "<init>", "(Ljava/util/TreeMap$NavigableSubMap;Ljava/util/TreeMap$Entry;Ljava/util/TreeMap$Entry;)V"⟩ : MethodName) cJ27_init 4 (Option.none : Option Jvm.ClassFile.FieldType)) 11 [vr_ v0, vr_ v1, vr_ v2, vr_ v3] m (en_v v) m' k n :=
  Ct_of (by decide +kernel) rfl hst (Nat.le_of_ble_eq_true rfl) rfl (fun E C hret h0 hin => wJ27_init C hret h0 hin N m v0 v1 v2 v3 0 0)
theorem wJ41_iterator {l : Launch} {g : GG} {E : Me_} (C : Cx_ l g E "java/util/TreeMap$AscendingSubMap$AscendingEntrySetView" cJ41_iterator 1 16) (hret : (eT_ E).sig.returnType = (Option.some (Jvm.ClassFile.FieldType.object "java/util/Iterator"))) (h0 : ∀ x ∈ (eC_ E).exceptionTable.toList, False) (hin : (eT_ E).name = "iterator") (N : Nat) : ∀ (m : Mm) (v0 : Option Nat) (k n : Nat), Sm_ l g E 1 en_r (fJ41_iterator (gE_ g) N m v0) k n 0 [(0, vr_ v0)] [] m := by
  intro m v0 k n
  unfold fJ41_iterator
  refine x_nw C 22 (RJ27, TJ27, 5) rfl q1022 q1023 q115 23 5 rfl rfl dJ41_iterator_0 3 rfl (fun x1 m1 => ?_)
  refine s_dup C rfl dJ41_iterator_3 4 rfl ?_
  refine s_aload_n C rfl 0 rfl dJ41_iterator_4 5 rfl ?_
  refine x_gr C 21 (RJ41, TJ41, 4) rfl 3 (Nat.le_of_ble_eq_true rfl) q2078 (Or.inl rfl) rfl 22 rfl dJ41_iterator_5 8 rfl (fun x2 => ?_)
  refine s_aload_n C rfl 0 rfl dJ41_iterator_8 9 rfl ?_
  refine x_gr C 21 (RJ41, TJ41, 4) rfl 3 (Nat.le_of_ble_eq_true rfl) q2078 (Or.inl rfl) rfl 22 rfl dJ41_iterator_9 12 rfl (fun x3 => ?_)
  refine x_ck (fun hb_ hb0_ => ?_)
  refine x_callU (enc := en_r) (owner := "java/util/TreeMap$NavigableSubMap") C 15 0 [] 21 (ctJ38_absLowest_t21 C.2.2.2.2.2.2.2.2.1 N m1 x3) hb_ hb0_ rfl rfl q1024 q1025 q1027 q1028 q131 q1029 rfl ⟨by decide +kernel, by decide +kernel, by decide +kernel⟩ (Nat.le_of_ble_eq_true rfl) (Nat.le_of_ble_eq_true rfl) rfl (Nat.le_of_ble_eq_true rfl) dJ41_iterator_12 15 rfl rfl hen_r (kk_r (fun x4 m2 k1 n1 => ?_)) (kx_n he_r)
  refine s_aload_n C rfl 0 rfl dJ41_iterator_15 16 rfl ?_
  refine x_gr C 21 (RJ41, TJ41, 4) rfl 3 (Nat.le_of_ble_eq_true rfl) q2078 (Or.inl rfl) rfl 22 rfl dJ41_iterator_16 19 rfl (fun x5 => ?_)
  refine x_ck (fun hb_ hb0_ => ?_)
  refine x_callU (enc := en_r) (owner := "java/util/TreeMap$NavigableSubMap") C 15 0 [] 21 (ctJ38_absHighFence_t21 C.2.2.2.2.2.2.2.2.1 N m2 x5) hb_ hb0_ rfl rfl q1338 q1339 q1341 q1342 q131 q1343 rfl ⟨by decide +kernel, by decide +kernel, by decide +kernel⟩ (Nat.le_of_ble_eq_true rfl) (Nat.le_of_ble_eq_true rfl) rfl (Nat.le_of_ble_eq_true rfl) dJ41_iterator_19 22 rfl rfl hen_r (kk_r (fun x6 m3 k1 n1 => ?_)) (kx_n he_r)
  refine x_callI (enc := en_v) C 11 3 [vr_ x2, vr_ x4, vr_ x6] (ctJ27_init C.2.2.2.2.2.2.2.2.1 N m3 (some x1) x2 x4 x6) (fun h => by cases h) rfl q1344 q1345 q115 q1346 rfl hdJ27_init (Nat.le_of_ble_eq_true rfl) (Nat.le_of_ble_eq_true rfl) rfl (Nat.le_of_ble_eq_true rfl) dJ41_iterator_22 25 rfl rfl hen_v (kk_v (fun m4 k1 n1 => ?_)) (kx_n he_v)
  exact x_aret C hret (Or.inl ⟨_, rfl⟩) rfl dJ41_iterator_25
theorem hdJ41_iterator : ((⟨"java/util/TreeMap$AscendingSubMap$AscendingEntrySetView", "iterator", "()Ljava/util/Iterator;"⟩ : MethodName)).cls ≠ "java/lang/invoke/MethodHandle" ∧ ((⟨"java/util/TreeMap$AscendingSubMap$AscendingEntrySetView", "iterator", "()Ljava/util/Iterator;"⟩ : MethodName)).cls ≠ "java/lang/invoke/VarHandle" ∧ (parseMethodDescriptor ((⟨"java/util/TreeMap$AscendingSubMap$AscendingEntrySetView", "iterator", "()Ljava/util/Iterator;"⟩ : MethodName)).desc).map (fun d => d.parameters.length) = some 0 := ⟨by decide +kernel, by decide +kernel, by decide +kernel⟩
theorem ctJ41_iterator {l : Launch} {g : GG} (hst : l.stackTraces = false) (N : Nat) (m : Mm) (v0 : Option Nat) : ∀ v m' k n, fJ41_iterator (gE_ g) N m v0 = some (v, m', k, n) → Ct_ l g (⟨"java/util/TreeMap$AscendingSubMap$AscendingEntrySetView", "iterator", "()Ljava/util/Iterator;"⟩ : MethodName) (ws_ (⟨"java/util/TreeMap$AscendingSubMap$AscendingEntrySetView", "iterator", "()Ljava/util/Iterator;"⟩ : MethodName) cJ41_iterator 1 (Option.some (Jvm.ClassFile.FieldType.object "java/util/Iterator"))) 16 [vr_ v0] m (en_r v) m' k n :=
  Ct_of (by decide +kernel) rfl hst (Nat.le_of_ble_eq_true rfl) rfl (fun E C hret h0 hin => wJ41_iterator C hret h0 hin N m v0 0 0)
theorem wJ0_clear_t22_b5 {l : Launch} {g : GG} {E : Me_} (C : Cx_ l g E "java/util/AbstractCollection" cJ0_clear 2 17) (hret : (eT_ E).sig.returnType = (Option.none : Option Jvm.ClassFile.FieldType)) (h0 : ∀ x ∈ (eC_ E).exceptionTable.toList, False) (hin : (eT_ E).name = "clear") (N : Nat) : ∀ (F : Nat) (m : Mm) (v1 : Option Nat) (k n : Nat), Sm_ l g E 2 en_v (fJ0_clear_t22_b5 (gE_ g) N F m v1) k n 5 [(1, vr_ v1)] [] m := by
  intro F
  induction F with
  | zero => intros; exact Sm_none
  | succ F ih =>
    intro m v1 k n
    unfold fJ0_clear_t22_b5
    refine s_aload_n C rfl 0 rfl dJ0_clear_5 6 rfl ?_
    refine x_ck (fun hb_ hb0_ => ?_)
    refine x_callF (enc := en_i) C 10 0 [] 23 (ctJ26_hasNext_t23 C.2.2.2.2.2.2.2.2.1 N m v1) hb_ hb0_ rfl rfl rfl fw_16 q2142 q1473 q1475 q114 q1477 hx3 (Nat.le_of_ble_eq_true rfl) (Nat.le_of_ble_eq_true rfl) rfl (Nat.le_of_ble_eq_true rfl) dJ0_clear_6 11 rfl rfl hen_i (kk_i (fun x1 m1 k1 n1 => ?_)) (kx_n he_i)
    refine s_if_eq C dJ0_clear_11 30 rfl 14 rfl (fun c_ => ?_) (fun c_ => ?_)
    · exact x_vret C hret rfl dJ0_clear_30
    · refine s_aload_n C rfl 0 rfl dJ0_clear_14 15 rfl ?_
      refine x_ck (fun hb_ hb0_ => ?_)
      refine x_callF (enc := en_r) C 13 0 [] 23 (ctJ27_next C.2.2.2.2.2.2.2.2.1 N m1 v1) hb_ hb0_ rfl rfl rfl fw_22 q2144 q1530 q1532 q115 q1534 hx5 (Nat.le_of_ble_eq_true rfl) (Nat.le_of_ble_eq_true rfl) rfl (Nat.le_of_ble_eq_true rfl) dJ0_clear_15 20 rfl rfl hen_r (kk_r (fun x2 m2 k1 n1 => ?_)) (kx_n he_r)
      refine s_pop C rfl dJ0_clear_20 21 rfl ?_
      refine s_aload_n C rfl 0 rfl dJ0_clear_21 22 rfl ?_
      refine x_ck (fun hb_ hb0_ => ?_)
      refine x_callF (enc := en_v) C 14 0 [] 23 (ctJ27_remove C.2.2.2.2.2.2.2.2.1 N m2 v1) hb_ hb0_ rfl rfl rfl fw_36 q2146 q2211 q2213 q115 q2215 hx10 (Nat.le_of_ble_eq_true rfl) (Nat.le_of_ble_eq_true rfl) rfl (Nat.le_of_ble_eq_true rfl) dJ0_clear_22 27 rfl rfl hen_v (kk_v (fun m3 k1 n1 => ?_)) (kx_n he_v)
      refine s_goto C (off := -22) 5 dJ0_clear_27 rfl ?_
      exact ih _ _ _ _
theorem wJ0_clear_t22 {l : Launch} {g : GG} {E : Me_} (C : Cx_ l g E "java/util/AbstractCollection" cJ0_clear 2 17) (hret : (eT_ E).sig.returnType = (Option.none : Option Jvm.ClassFile.FieldType)) (h0 : ∀ x ∈ (eC_ E).exceptionTable.toList, False) (hin : (eT_ E).name = "clear") (N : Nat) : ∀ (m : Mm) (v0 : Option Nat) (k n : Nat), Sm_ l g E 2 en_v (fJ0_clear_t22 (gE_ g) N m v0) k n 0 [(0, vr_ v0)] [] m := by
  intro m v0 k n
  unfold fJ0_clear_t22
  refine s_aload_n C rfl 0 rfl dJ0_clear_0 1 rfl ?_
  refine x_ck (fun hb_ hb0_ => ?_)
  refine x_callA (enc := en_r) (owner := "java/util/AbstractCollection") C 16 0 [] 22 (ctJ41_iterator C.2.2.2.2.2.2.2.2.1 N m v0) hb_ hb0_ rfl rfl q2100 q2102 q2123 q1019 q134 q1021 q2101 ⟨by decide +kernel, by decide +kernel, by decide +kernel⟩ (Nat.le_of_ble_eq_true rfl) (Nat.le_of_ble_eq_true rfl) rfl (Nat.le_of_ble_eq_true rfl) dJ0_clear_1 4 rfl rfl hen_r (kk_r (fun x1 m1 k1 n1 => ?_)) (kx_n he_r)
  refine s_astore_n C rfl (Nat.le_of_ble_eq_true rfl) [] rfl rfl dJ0_clear_4 5 rfl ?_
  exact wJ0_clear_t22_b5 C hret h0 hin N N _ _ _ _
theorem hdJ0_clear_t22 : ((⟨"java/util/AbstractCollection", "clear", "()V"⟩ : MethodName)).cls ≠ "java/lang/invoke/MethodHandle" ∧ ((⟨"java/util/AbstractCollection", "clear", "()V"⟩ : MethodName)).cls ≠ "java/lang/invoke/VarHandle" ∧ (parseMethodDescriptor ((⟨"java/util/AbstractCollection", "clear", "()V"⟩ : MethodName)).desc).map (fun d => d.parameters.length) = some 0 := ⟨by decide +kernel, by decide +kernel, by decide +kernel⟩
theorem ctJ0_clear_t22 {l : Launch} {g : GG} (hst : l.stackTraces = false) (N : Nat) (m : Mm) (v0 : Option Nat) : ∀ v m' k n, fJ0_clear_t22 (gE_ g) N m v0 = some (v, m', k, n) → Ct_ l g (⟨"java/util/AbstractCollection", "clear", "()V"⟩ : MethodName) (ws_ (⟨"java/util/AbstractCollection", "clear", "()V"⟩ : MethodName) cJ0_clear 2 (Option.none : Option Jvm.ClassFile.FieldType)) 17 [vr_ v0] m (en_v v) m' k n :=
  Ct_of (by decide +kernel) rfl hst (Nat.le_of_ble_eq_true rfl) rfl (fun E C hret h0 hin => wJ0_clear_t22 C hret h0 hin N m v0 0 0)
theorem wJ3_clear_t21 {l : Launch} {g : GG} {E : Me_} (C : Cx_ l g E "java/util/AbstractMap" cJ3_clear 1 18) (hret : (eT_ E).sig.returnType = (Option.none : Option Jvm.ClassFile.FieldType)) (h0 : ∀ x ∈ (eC_ E).exceptionTable.toList, False) (hin : (eT_ E).name = "clear") (N : Nat) : ∀ (m : Mm) (v0 : Option Nat) (k n : Nat), Sm_ l g E 1 en_v (fJ3_clear_t21 (gE_ g) N m v0) k n 0 [(0, vr_ v0)] [] m := by
  intro m v0 k n
  unfold fJ3_clear_t21
  refine s_aload_n C rfl 0 rfl dJ3_clear_0 1 rfl ?_
  refine x_ck (fun hb_ hb0_ => ?_)
  refine x_callA (enc := en_r) (owner := "java/util/AbstractMap") C 14 0 [] 21 (ctJ39_entrySet C.2.2.2.2.2.2.2.2.1 N m v0) hb_ hb0_ rfl rfl q2062 q2064 q2066 q2067 q132 q2068 q2063 ⟨by decide +kernel, by decide +kernel, by decide +kernel⟩ (Nat.le_of_ble_eq_true rfl) (Nat.le_of_ble_eq_true rfl) rfl (Nat.le_of_ble_eq_true rfl) dJ3_clear_1 4 rfl rfl hen_r (kk_r (fun x1 m1 k1 n1 => ?_)) (kx_n he_r)
  refine x_ck (fun hb_ hb0_ => ?_)
  refine x_callF (enc := en_v) C 17 0 [] 22 (ctJ0_clear_t22 C.2.2.2.2.2.2.2.2.1 N m1 x1) hb_ hb0_ rfl rfl rfl fw_31 q2092 q2095 q2097 q82 q2099 hx11 (Nat.le_of_ble_eq_true rfl) (Nat.le_of_ble_eq_true rfl) rfl (Nat.le_of_ble_eq_true rfl) dJ3_clear_4 9 rfl rfl hen_v (kk_v (fun m2 k1 n1 => ?_)) (kx_n he_v)
  exact x_vret C hret rfl dJ3_clear_9
theorem hdJ3_clear_t21 : ((⟨"java/util/AbstractMap", "clear", "()V"⟩ : MethodName)).cls ≠ "java/lang/invoke/MethodHandle" ∧ ((⟨"java/util/AbstractMap", "clear", "()V"⟩ : MethodName)).cls ≠ "java/lang/invoke/VarHandle" ∧ (parseMethodDescriptor ((⟨"java/util/AbstractMap", "clear", "()V"⟩ : MethodName)).desc).map (fun d => d.parameters.length) = some 0 := ⟨by decide +kernel, by decide +kernel, by decide +kernel⟩
theorem ctJ3_clear_t21 {l : Launch} {g : GG} (hst : l.stackTraces = false) (N : Nat) (m : Mm) (v0 : Option Nat) : ∀ v m' k n, fJ3_clear_t21 (gE_ g) N m v0 = some (v, m', k, n) → Ct_ l g (⟨"java/util/AbstractMap", "clear", "()V"⟩ : MethodName) (ws_ (⟨"java/util/AbstractMap", "clear", "()V"⟩ : MethodName) cJ3_clear 1 (Option.none : Option Jvm.ClassFile.FieldType)) 18 [vr_ v0] m (en_v v) m' k n :=
  Ct_of (by decide +kernel) rfl hst (Nat.le_of_ble_eq_true rfl) rfl (fun E C hret h0 hin => wJ3_clear_t21 C hret h0 hin N m v0 0 0)
theorem wX3_comes_b29 {l : Launch} {g : GG} {E : Me_} (C : Cx_ l g E "MasterTree$Entry" cX3_comes 3 19) (hret : (eT_ E).sig.returnType = (Option.none : Option Jvm.ClassFile.FieldType)) (h0 : ∀ x ∈ (eC_ E).exceptionTable.toList, False) (hin : (eT_ E).name = "comes") (N : Nat) : ∀ (m : Mm) (v0 : Option Nat) (v1 : Int32) (v2 : Int32) (k n : Nat), Sm_ l g E 3 en_v (fX3_comes_b29 (gE_ g) N m v0 v1 v2) k n 29 [(0, vr_ v0), (1, vi_ v1), (2, vi_ v2)] [] m := by
  intro m v0 v1 v2 k n
  unfold fX3_comes_b29
  refine s_aload_n C rfl 0 rfl dX3_comes_29 30 rfl ?_
  refine x_gr C 2 (RX3, TX3, 9) rfl 7 (Nat.le_of_ble_eq_true rfl) q267 (Or.inl rfl) rfl 3 rfl dX3_comes_30 33 rfl (fun x1 => ?_)
  refine s_aload_n C rfl 0 rfl dX3_comes_33 34 rfl ?_
  refine s_iload_n C rfl 1 rfl dX3_comes_34 35 rfl ?_
  refine s_iload_n C rfl 2 rfl dX3_comes_35 36 rfl ?_
  refine x_ck (fun hb_ hb0_ => ?_)
  refine x_callV (enc := en_i) C 13 2 [vi_ v1, vi_ v2] 3 (ctX3_place C.2.2.2.2.2.2.2.2.1 N m v0 v1 v2) hb_ hb0_ rfl rfl q1608 q1609 q1610 q88 q1611 hdX3_place (Nat.le_of_ble_eq_true rfl) (Nat.le_of_ble_eq_true rfl) rfl (Nat.le_of_ble_eq_true rfl) dX3_comes_36 39 rfl rfl hen_i (kk_i (fun x2 m1 k1 n1 => ?_)) (kx_n he_i)
  refine x_callS (enc := en_r) C 12 1 [vi_ x2] (ctJ21_valueOf C.2.2.2.2.2.2.2.2.1 N m1 x2) q1619 q1620 q108 q1621 hdJ21_valueOf (Nat.le_of_ble_eq_true rfl) (Nat.le_of_ble_eq_true rfl) rfl (Nat.le_of_ble_eq_true rfl) dX3_comes_39 42 rfl rfl hen_r (kk_r (fun x3 m2 k1 n1 => ?_)) (kx_n he_r)
  refine s_iload_n C rfl 2 rfl dX3_comes_42 43 rfl ?_
  refine x_callS (enc := en_r) C 12 1 [vi_ v2] (ctJ21_valueOf C.2.2.2.2.2.2.2.2.1 N m2 v2) q1619 q1620 q108 q1621 hdJ21_valueOf (Nat.le_of_ble_eq_true rfl) (Nat.le_of_ble_eq_true rfl) rfl (Nat.le_of_ble_eq_true rfl) dX3_comes_43 46 rfl rfl hen_r (kk_r (fun x4 m3 k1 n1 => ?_)) (kx_n he_r)
  refine x_ck (fun hb_ hb0_ => ?_)
  refine x_callV (enc := en_r) C 16 2 [vr_ x3, vr_ x4] 15 (ctJ4_put C.2.2.2.2.2.2.2.2.1 N m3 x1 x3 x4) hb_ hb0_ rfl rfl q2250 q1874 q1875 q87 q1876 hdJ4_put (Nat.le_of_ble_eq_true rfl) (Nat.le_of_ble_eq_true rfl) rfl (Nat.le_of_ble_eq_true rfl) dX3_comes_46 49 rfl rfl hen_r (kk_r (fun x5 m4 k1 n1 => ?_)) (kx_n he_r)
  refine s_pop C rfl dX3_comes_49 50 rfl ?_
  exact x_vret C hret rfl dX3_comes_50
theorem wX3_comes {l : Launch} {g : GG} {E : Me_} (C : Cx_ l g E "MasterTree$Entry" cX3_comes 3 19) (hret : (eT_ E).sig.returnType = (Option.none : Option Jvm.ClassFile.FieldType)) (h0 : ∀ x ∈ (eC_ E).exceptionTable.toList, False) (hin : (eT_ E).name = "comes") (N : Nat) : ∀ (m : Mm) (v0 : Option Nat) (v1 : Int32) (v2 : Int32) (k n : Nat), Sm_ l g E 3 en_v (fX3_comes (gE_ g) N m v0 v1 v2) k n 0 [(0, vr_ v0), (1, vi_ v1), (2, vi_ v2)] [] m := by
  intro m v0 v1 v2 k n
  unfold fX3_comes
  refine s_aload_n C rfl 0 rfl dX3_comes_0 1 rfl ?_
  refine x_gr C 2 (RX3, TX3, 9) rfl 1 (Nat.le_of_ble_eq_true rfl) q247 (Or.inl rfl) rfl 3 rfl dX3_comes_1 4 rfl (fun x1 => ?_)
  refine s_iload_n C rfl 1 rfl dX3_comes_4 5 rfl ?_
  refine x_ck (fun hb_ hb0_ => ?_)
  refine x_callF (enc := en_r) C 12 1 [vi_ v1] 13 (ctJ2_get C.2.2.2.2.2.2.2.2.1 N m x1 v1) hb_ hb0_ rfl rfl rfl fw_3 q1613 q891 q893 q84 q895 hx2 (Nat.le_of_ble_eq_true rfl) (Nat.le_of_ble_eq_true rfl) rfl (Nat.le_of_ble_eq_true rfl) dX3_comes_5 10 rfl rfl hen_r (kk_r (fun x2 m1 k1 n1 => ?_)) (kx_n he_r)
  refine x_cc C "MasterTree$Attribute" [5] (fun k hk => by rw [List.mem_singleton.mp hk]; exact ⟨rfl, Or.inr rfl⟩) q1614 dX3_comes_10 13 rfl ?_
  refine x_giN C 4 (RX5, TX5, 2) rfl 0 (Nat.le_of_ble_eq_true rfl) q589 rfl rfl 5 rfl dX3_comes_13 16 rfl (fun x3 => ?_)
  refine s_if_eq C dX3_comes_16 29 rfl 19 rfl (fun c_ => ?_) (fun c_ => ?_)
  · exact wX3_comes_b29 C hret h0 hin N _ _ _ _ _ _
  · refine s_aload_n C rfl 0 rfl dX3_comes_19 20 rfl ?_
    refine s_iload_n C rfl 1 rfl dX3_comes_20 21 rfl ?_
    refine x_ck (fun hb_ hb0_ => ?_)
    refine x_callV (enc := en_r) C 18 1 [vi_ v1] 3 (ctX3_valuesOf C.2.2.2.2.2.2.2.2.1 N m1 v0 v1) hb_ hb0_ rfl rfl q1987 q1988 q1989 q88 q1990 hdX3_valuesOf (Nat.le_of_ble_eq_true rfl) (Nat.le_of_ble_eq_true rfl) rfl (Nat.le_of_ble_eq_true rfl) dX3_comes_21 24 rfl rfl hen_r (kk_r (fun x4 m2 k1 n1 => ?_)) (kx_n he_r)
    refine x_ck (fun hb_ hb0_ => ?_)
    refine x_callF (enc := en_v) C 18 0 [] 21 (ctJ3_clear_t21 C.2.2.2.2.2.2.2.2.1 N m2 x4) hb_ hb0_ rfl rfl rfl fw_30 q2049 q2057 q2059 q86 q2061 hx12 (Nat.le_of_ble_eq_true rfl) (Nat.le_of_ble_eq_true rfl) rfl (Nat.le_of_ble_eq_true rfl) dX3_comes_24 29 rfl rfl hen_v (kk_v (fun m3 k1 n1 => ?_)) (kx_n he_v)
    exact wX3_comes_b29 C hret h0 hin N _ _ _ _ _ _
theorem hdX3_comes : ((⟨"MasterTree$Entry", "comes", "(II)V"⟩ : MethodName)).cls ≠ "java/lang/invoke/MethodHandle" ∧ ((⟨"MasterTree$Entry", "comes", "(II)V"⟩ : MethodName)).cls ≠ "java/lang/invoke/VarHandle" ∧ (parseMethodDescriptor ((⟨"MasterTree$Entry", "comes", "(II)V"⟩ : MethodName)).desc).map (fun d => d.parameters.length) = some 2 := ⟨by decide +kernel, by decide +kernel, by decide +kernel⟩
theorem ctX3_comes {l : Launch} {g : GG} (hst : l.stackTraces = false) (N : Nat) (m : Mm) (v0 : Option Nat) (v1 : Int32) (v2 : Int32) : ∀ v m' k n, fX3_comes (gE_ g) N m v0 v1 v2 = some (v, m', k, n) → Ct_ l g (⟨"MasterTree$Entry", "comes", "(II)V"⟩ : MethodName) (ws_ (⟨"MasterTree$Entry", "comes", "(II)V"⟩ : MethodName) cX3_comes 3 (Option.none : Option Jvm.ClassFile.FieldType)) 19 [vr_ v0, vi_ v1, vi_ v2] m (en_v v) m' k n :=
  Ct_of (by decide +kernel) rfl hst (Nat.le_of_ble_eq_true rfl) rfl (fun E C hret h0 hin => wX3_comes C hret h0 hin N m v0 v1 v2 0 0)
theorem wX14_does_b23 {l : Launch} {g : GG} {E : Me_} (C : Cx_ l g E "MasterTree$Kind$1" cX14_does 5 20) (hret : (eT_ E).sig.returnType = (Option.none : Option Jvm.ClassFile.FieldType)) (h0 : ∀ x ∈ (eC_ E).exceptionTable.toList, False) (hin : (eT_ E).name = "does") (N : Nat) : ∀ (F : Nat) (m : Mm) (v2 : Option Nat) (v3 : Option Nat) (k n : Nat), Sm_ l g E 5 en_v (fX14_does_b23 (gE_ g) N F m v2 v3) k n 23 [(2, vr_ v2), (3, vr_ v3)] [] m := by
  intro F
  induction F with
  | zero => intros; exact Sm_none
  | succ F ih =>
    intro m v2 v3 k n
    unfold fX14_does_b23
    refine s_aload_n C rfl 1 rfl dX14_does_23 24 rfl ?_
    refine x_ck (fun hb_ hb0_ => ?_)
    refine x_callF (enc := en_i) C 10 0 [] 14 (ctJ34_hasNext C.2.2.2.2.2.2.2.2.1 N m v3) hb_ hb0_ rfl rfl rfl fw_13 q1979 q1458 q1460 q124 q1462 hx3 (Nat.le_of_ble_eq_true rfl) (Nat.le_of_ble_eq_true rfl) rfl (Nat.le_of_ble_eq_true rfl) dX14_does_24 29 rfl rfl hen_i (kk_i (fun x1 m1 k1 n1 => ?_)) (kx_n he_i)
    refine s_if_eq C dX14_does_29 58 rfl 32 rfl (fun c_ => ?_) (fun c_ => ?_)
    · exact x_vret C hret rfl dX14_does_58
    · refine s_aload_n C rfl 1 rfl dX14_does_32 33 rfl ?_
      refine x_ck (fun hb_ hb0_ => ?_)
      refine x_callF (enc := en_r) C 11 0 [] 14 (ctJ34_next C.2.2.2.2.2.2.2.2.1 N m1 v3) hb_ hb0_ rfl rfl rfl fw_19 q1981 q1495 q1497 q124 q1499 hx5 (Nat.le_of_ble_eq_true rfl) (Nat.le_of_ble_eq_true rfl) rfl (Nat.le_of_ble_eq_true rfl) dX14_does_33 38 rfl rfl hen_r (kk_r (fun x2 m2 k1 n1 => ?_)) (kx_n he_r)
      refine x_cc C "[I" [200] (fun k hk => by rw [List.mem_singleton.mp hk]; exact ⟨rfl, Or.inr rfl⟩) q1982 dX14_does_38 41 rfl ?_
      refine s_astore C (Nat.le_of_ble_eq_true rfl) [0, 1] rfl rfl dX14_does_41 43 rfl ?_
      refine s_aload_n C rfl 1 rfl dX14_does_43 44 rfl ?_
      refine s_aload C 0 rfl dX14_does_44 46 rfl ?_
      refine s_iconst C 0 rfl dX14_does_46 47 rfl ?_
      refine x_ai0 C 200 rfl dX14_does_47 48 rfl (fun x3 => ?_)
      refine s_aload C 0 rfl dX14_does_48 50 rfl ?_
      refine s_iconst C 1 rfl dX14_does_50 51 rfl ?_
      refine x_ai0 C 200 rfl dX14_does_51 52 rfl (fun x4 => ?_)
      refine x_ck (fun hb_ hb0_ => ?_)
      refine x_callV (enc := en_v) C 19 2 [vi_ x3, vi_ x4] 3 (ctX3_comes C.2.2.2.2.2.2.2.2.1 N m2 v2 x3 x4) hb_ hb0_ rfl rfl q1983 q1984 q1985 q88 q1986 hdX3_comes (Nat.le_of_ble_eq_true rfl) (Nat.le_of_ble_eq_true rfl) rfl (Nat.le_of_ble_eq_true rfl) dX14_does_52 55 rfl rfl hen_v (kk_v (fun m3 k1 n1 => ?_)) (kx_n he_v)
      refine s_goto C (off := -32) 23 dX14_does_55 rfl ?_
      refine Sm_sub [1, 2] rfl ?_
      exact ih _ _ _ _ _
theorem wX14_does {l : Launch} {g : GG} {E : Me_} (C : Cx_ l g E "MasterTree$Kind$1" cX14_does 5 20) (hret : (eT_ E).sig.returnType = (Option.none : Option Jvm.ClassFile.FieldType)) (h0 : ∀ x ∈ (eC_ E).exceptionTable.toList, False) (hin : (eT_ E).name = "does") (N : Nat) : ∀ (m : Mm) (v0 : Option Nat) (v1 : Option Nat) (v2 : Option Nat) (k n : Nat), Sm_ l g E 5 en_v (fX14_does (gE_ g) N m v0 v1 v2) k n 0 [(0, vr_ v0), (1, vr_ v1), (2, vr_ v2)] [] m := by
  intro m v0 v1 v2 k n
  unfold fX14_does
  refine s_aload_n C rfl 2 rfl dX14_does_0 1 rfl ?_
  refine s_aload_n C rfl 1 rfl dX14_does_1 2 rfl ?_
  refine x_prN C 2 (RX3, TX3, 9) rfl 3 (Nat.le_of_ble_eq_true rfl) rfl q250 rfl rfl trivial 3 rfl dX14_does_2 5 rfl (fun m1 => ?_)
  refine s_aload_n C rfl 2 rfl dX14_does_5 6 rfl ?_
  refine s_aload_n C rfl 1 rfl dX14_does_6 7 rfl ?_
  refine x_giN C 6 (RX7, TX7, 9) rfl 6 (Nat.le_of_ble_eq_true rfl) q1756 rfl rfl 7 rfl dX14_does_7 10 rfl (fun x1 => ?_)
  refine x_piN C 2 (RX3, TX3, 9) rfl 5 (Nat.le_of_ble_eq_true rfl) rfl q259 rfl rfl trivial 3 rfl dX14_does_10 13 rfl (fun m2 => ?_)
  refine s_aload_n C rfl 1 rfl dX14_does_13 14 rfl ?_
  refine x_grN C 6 (RX7, TX7, 9) rfl 8 (Nat.le_of_ble_eq_true rfl) q1765 rfl rfl 7 rfl dX14_does_14 17 rfl (fun x2 => ?_)
  refine x_ck (fun hb_ hb0_ => ?_)
  refine x_callF (enc := en_r) C 11 0 [] 13 (ctJ2_iterator C.2.2.2.2.2.2.2.2.1 N m2 x2) hb_ hb0_ rfl rfl rfl fw_27 q1977 q1691 q1693 q84 q1695 hx6 (Nat.le_of_ble_eq_true rfl) (Nat.le_of_ble_eq_true rfl) rfl (Nat.le_of_ble_eq_true rfl) dX14_does_17 22 rfl rfl hen_r (kk_r (fun x3 m3 k1 n1 => ?_)) (kx_n he_r)
  refine s_astore_n C rfl (Nat.le_of_ble_eq_true rfl) [2] rfl rfl dX14_does_22 23 rfl ?_
  refine Sm_sub [1, 0] rfl ?_
  exact wX14_does_b23 C hret h0 hin N N _ _ _ _ _
theorem hdX14_does : ((⟨"MasterTree$Kind$1", "does", "(LMasterTree$Change;LMasterTree$Entry;)V"⟩ : MethodName)).cls ≠ "java/lang/invoke/MethodHandle" ∧ ((⟨"MasterTree$Kind$1", "does", "(LMasterTree$Change;LMasterTree$Entry;)V"⟩ : MethodName)).cls ≠ "java/lang/invoke/VarHandle" ∧ (parseMethodDescriptor ((⟨"MasterTree$Kind$1", "does", "(LMasterTree$Change;LMasterTree$Entry;)V"⟩ : MethodName)).desc).map (fun d => d.parameters.length) = some 2 := ⟨by decide +kernel, by decide +kernel, by decide +kernel⟩
theorem ctX14_does {l : Launch} {g : GG} (hst : l.stackTraces = false) (N : Nat) (m : Mm) (v0 : Option Nat) (v1 : Option Nat) (v2 : Option Nat) : ∀ v m' k n, fX14_does (gE_ g) N m v0 v1 v2 = some (v, m', k, n) → Ct_ l g (⟨"MasterTree$Kind$1", "does", "(LMasterTree$Change;LMasterTree$Entry;)V"⟩ : MethodName) (ws_ (⟨"MasterTree$Kind$1", "does", "(LMasterTree$Change;LMasterTree$Entry;)V"⟩ : MethodName) cX14_does 5 (Option.none : Option Jvm.ClassFile.FieldType)) 20 [vr_ v0, vr_ v1, vr_ v2] m (en_v v) m' k n :=
  Ct_of (by decide +kernel) rfl hst (Nat.le_of_ble_eq_true rfl) rfl (fun E C hret h0 hin => wX14_does C hret h0 hin N m v0 v1 v2 0 0)
theorem wX20_does {l : Launch} {g : GG} {E : Me_} (C : Cx_ l g E "MasterTree$Kind$2" cX20_does 3 20) (hret : (eT_ E).sig.returnType = (Option.none : Option Jvm.ClassFile.FieldType)) (h0 : ∀ x ∈ (eC_ E).exceptionTable.toList, False) (hin : (eT_ E).name = "does") (N : Nat) : ∀ (m : Mm) (v0 : Option Nat) (v1 : Option Nat) (v2 : Option Nat) (k n : Nat), Sm_ l g E 3 en_v (fX20_does (gE_ g) N m v0 v1 v2) k n 0 [(0, vr_ v0), (1, vr_ v1), (2, vr_ v2)] [] m := by
  intro m v0 v1 v2 k n
  unfold fX20_does
  refine s_aload_n C rfl 2 rfl dX20_does_0 1 rfl ?_
  refine s_aload_n C rfl 1 rfl dX20_does_1 2 rfl ?_
  refine x_giN C 6 (RX7, TX7, 9) rfl 5 (Nat.le_of_ble_eq_true rfl) q1747 rfl rfl 7 rfl dX20_does_2 5 rfl (fun x1 => ?_)
  refine s_aload_n C rfl 1 rfl dX20_does_5 6 rfl ?_
  refine x_giN C 6 (RX7, TX7, 9) rfl 6 (Nat.le_of_ble_eq_true rfl) q1755 rfl rfl 7 rfl dX20_does_6 9 rfl (fun x2 => ?_)
  refine x_ck (fun hb_ hb0_ => ?_)
  refine x_callV (enc := en_v) C 19 2 [vi_ x1, vi_ x2] 3 (ctX3_comes C.2.2.2.2.2.2.2.2.1 N m v2 x1 x2) hb_ hb0_ rfl rfl q2254 q1984 q1985 q88 q1986 hdX3_comes (Nat.le_of_ble_eq_true rfl) (Nat.le_of_ble_eq_true rfl) rfl (Nat.le_of_ble_eq_true rfl) dX20_does_9 12 rfl rfl hen_v (kk_v (fun m1 k1 n1 => ?_)) (kx_n he_v)
  exact x_vret C hret rfl dX20_does_12
theorem hdX20_does : ((⟨"MasterTree$Kind$2", "does", "(LMasterTree$Change;LMasterTree$Entry;)V"⟩ : MethodName)).cls ≠ "java/lang/invoke/MethodHandle" ∧ ((⟨"MasterTree$Kind$2", "does", "(LMasterTree$Change;LMasterTree$Entry;)V"⟩ : MethodName)).cls ≠ "java/lang/invoke/VarHandle" ∧ (parseMethodDescriptor ((⟨"MasterTree$Kind$2", "does", "(LMasterTree$Change;LMasterTree$Entry;)V"⟩ : MethodName)).desc).map (fun d => d.parameters.length) = some 2 := ⟨by decide +kernel, by decide +kernel, by decide +kernel⟩
theorem ctX20_does {l : Launch} {g : GG} (hst : l.stackTraces = false) (N : Nat) (m : Mm) (v0 : Option Nat) (v1 : Option Nat) (v2 : Option Nat) : ∀ v m' k n, fX20_does (gE_ g) N m v0 v1 v2 = some (v, m', k, n) → Ct_ l g (⟨"MasterTree$Kind$2", "does", "(LMasterTree$Change;LMasterTree$Entry;)V"⟩ : MethodName) (ws_ (⟨"MasterTree$Kind$2", "does", "(LMasterTree$Change;LMasterTree$Entry;)V"⟩ : MethodName) cX20_does 3 (Option.none : Option Jvm.ClassFile.FieldType)) 20 [vr_ v0, vr_ v1, vr_ v2] m (en_v v) m' k n :=
  Ct_of (by decide +kernel) rfl hst (Nat.le_of_ble_eq_true rfl) rfl (fun E C hret h0 hin => wX20_does C hret h0 hin N m v0 v1 v2 0 0)
theorem wJ4_remove {l : Launch} {g : GG} {E : Me_} (C : Cx_ l g E "java/util/TreeMap" cJ4_remove 4 14) (hret : (eT_ E).sig.returnType = (Option.some (Jvm.ClassFile.FieldType.object "java/lang/Object"))) (h0 : ∀ x ∈ (eC_ E).exceptionTable.toList, False) (hin : (eT_ E).name = "remove") (N : Nat) : ∀ (m : Mm) (v0 : Option Nat) (v1 : Option Nat) (k n : Nat), Sm_ l g E 4 en_r (fJ4_remove (gE_ g) N m v0 v1) k n 0 [(0, vr_ v0), (1, vr_ v1)] [] m := by
  intro m v0 v1 k n
  unfold fJ4_remove
  refine s_aload_n C rfl 0 rfl dJ4_remove_0 1 rfl ?_
  refine s_aload_n C rfl 1 rfl dJ4_remove_1 2 rfl ?_
  refine x_ck (fun hb_ hb0_ => ?_)
  refine x_callV (enc := en_r) C 13 1 [vr_ v1] 15 (ctJ4_getEntry C.2.2.2.2.2.2.2.2.1 N m v0 v1) hb_ hb0_ rfl rfl q1642 q1643 q1644 q87 q1645 hdJ4_getEntry (Nat.le_of_ble_eq_true rfl) (Nat.le_of_ble_eq_true rfl) rfl (Nat.le_of_ble_eq_true rfl) dJ4_remove_2 5 rfl rfl hen_r (kk_r (fun x1 m1 k1 n1 => ?_)) (kx_n he_r)
  refine s_astore_n C rfl (Nat.le_of_ble_eq_true rfl) [0] rfl rfl dJ4_remove_5 6 rfl ?_
  refine s_aload_n C rfl 0 rfl dJ4_remove_6 7 rfl ?_
  refine s_ifnonnull C dJ4_remove_7 12 rfl 10 rfl (fun c_ => ?_) (fun c_ => ?_)
  · refine s_null C dJ4_remove_10 11 rfl ?_
    exact x_aret C hret (Or.inl ⟨_, rfl⟩) rfl dJ4_remove_11
  · refine s_aload_n C rfl 0 rfl dJ4_remove_12 13 rfl ?_
    refine x_gr C 15 (RJ37, TJ37, 6) rfl 1 (Nat.le_of_ble_eq_true rfl) q1900 (Or.inl rfl) rfl 16 rfl dJ4_remove_13 16 rfl (fun x2 => ?_)
    refine s_astore_n C rfl (Nat.le_of_ble_eq_true rfl) [0, 1] rfl rfl dJ4_remove_16 17 rfl ?_
    refine s_aload_n C rfl 2 rfl dJ4_remove_17 18 rfl ?_
    refine s_aload_n C rfl 1 rfl dJ4_remove_18 19 rfl ?_
    refine x_ck (fun hb_ hb0_ => ?_)
    refine x_callV (enc := en_v) C 12 1 [vr_ x1] 15 (ctJ4_deleteEntry C.2.2.2.2.2.2.2.2.1 N m1 v0 x1) hb_ hb0_ rfl rfl q2264 q2202 qs22 q87 q2203 hdJ4_deleteEntry (Nat.le_of_ble_eq_true rfl) (Nat.le_of_ble_eq_true rfl) rfl (Nat.le_of_ble_eq_true rfl) dJ4_remove_19 22 rfl rfl hen_v (kk_v (fun m2 k1 n1 => ?_)) (kx_n he_v)
    refine s_aload_n C rfl 0 rfl dJ4_remove_22 23 rfl ?_
    exact x_aret C hret (Or.inl ⟨_, rfl⟩) rfl dJ4_remove_23
theorem hdJ4_remove : ((⟨"java/util/TreeMap", "remove", "(Ljava/lang/Object;)Ljava/lang/Object;"⟩ : MethodName)).cls ≠ "java/lang/invoke/MethodHandle" ∧ ((⟨"java/util/TreeMap", "remove", "(Ljava/lang/Object;)Ljava/lang/Object;"⟩ : MethodName)).cls ≠ "java/lang/invoke/VarHandle" ∧ (parseMethodDescriptor ((⟨"java/util/TreeMap", "remove", "(Ljava/lang/Object;)Ljava/lang/Object;"⟩ : MethodName)).desc).map (fun d => d.parameters.length) = some 1 := ⟨by decide +kernel, by decide +kernel, by decide +kernel⟩
theorem ctJ4_remove {l : Launch} {g : GG} (hst : l.stackTraces = false) (N : Nat) (m : Mm) (v0 : Option Nat) (v1 : Option Nat) : ∀ v m' k n, fJ4_remove (gE_ g) N m v0 v1 = some (v, m', k, n) → Ct_ l g (⟨"java/util/TreeMap", "remove", "(Ljava/lang/Object;)Ljava/lang/Object;"⟩ : MethodName) (ws_ (⟨"java/util/TreeMap", "remove", "(Ljava/lang/Object;)Ljava/lang/Object;"⟩ : MethodName) cJ4_remove 4 (Option.some (Jvm.ClassFile.FieldType.object "java/lang/Object"))) 14 [vr_ v0, vr_ v1] m (en_r v) m' k n :=
  Ct_of (by decide +kernel) rfl hst (Nat.le_of_ble_eq_true rfl) rfl (fun E C hret h0 hin => wJ4_remove C hret h0 hin N m v0 v1 0 0)
theorem wX18_does {l : Launch} {g : GG} {E : Me_} (C : Cx_ l g E "MasterTree$Kind$3" cX18_does 3 15) (hret : (eT_ E).sig.returnType = (Option.none : Option Jvm.ClassFile.FieldType)) (h0 : ∀ x ∈ (eC_ E).exceptionTable.toList, False) (hin : (eT_ E).name = "does") (N : Nat) : ∀ (m : Mm) (v0 : Option Nat) (v1 : Option Nat) (v2 : Option Nat) (k n : Nat), Sm_ l g E 3 en_v (fX18_does (gE_ g) N m v0 v1 v2) k n 0 [(0, vr_ v0), (1, vr_ v1), (2, vr_ v2)] [] m := by
  intro m v0 v1 v2 k n
  unfold fX18_does
  refine s_aload_n C rfl 2 rfl dX18_does_0 1 rfl ?_
  refine x_grN C 2 (RX3, TX3, 9) rfl 7 (Nat.le_of_ble_eq_true rfl) q268 rfl rfl 3 rfl dX18_does_1 4 rfl (fun x1 => ?_)
  refine s_aload_n C rfl 2 rfl dX18_does_4 5 rfl ?_
  refine s_aload_n C rfl 1 rfl dX18_does_5 6 rfl ?_
  refine x_giN C 6 (RX7, TX7, 9) rfl 5 (Nat.le_of_ble_eq_true rfl) q1752 rfl rfl 7 rfl dX18_does_6 9 rfl (fun x2 => ?_)
  refine s_aload_n C rfl 1 rfl dX18_does_9 10 rfl ?_
  refine x_giN C 6 (RX7, TX7, 9) rfl 6 (Nat.le_of_ble_eq_true rfl) q1757 rfl rfl 7 rfl dX18_does_10 13 rfl (fun x3 => ?_)
  refine x_ck (fun hb_ hb0_ => ?_)
  refine x_callV (enc := en_i) C 13 2 [vi_ x2, vi_ x3] 3 (ctX3_place C.2.2.2.2.2.2.2.2.1 N m v2 x2 x3) hb_ hb0_ rfl rfl q2258 q1609 q1610 q88 q1611 hdX3_place (Nat.le_of_ble_eq_true rfl) (Nat.le_of_ble_eq_true rfl) rfl (Nat.le_of_ble_eq_true rfl) dX18_does_13 16 rfl rfl hen_i (kk_i (fun x4 m1 k1 n1 => ?_)) (kx_n he_i)
  refine x_callS (enc := en_r) C 12 1 [vi_ x4] (ctJ21_valueOf C.2.2.2.2.2.2.2.2.1 N m1 x4) q2259 q1620 q108 q1621 hdJ21_valueOf (Nat.le_of_ble_eq_true rfl) (Nat.le_of_ble_eq_true rfl) rfl (Nat.le_of_ble_eq_true rfl) dX18_does_16 19 rfl rfl hen_r (kk_r (fun x5 m2 k1 n1 => ?_)) (kx_n he_r)
  refine x_ck (fun hb_ hb0_ => ?_)
  refine x_callV (enc := en_r) C 14 1 [vr_ x5] 15 (ctJ4_remove C.2.2.2.2.2.2.2.2.1 N m2 x1 x5) hb_ hb0_ rfl rfl q2260 q2261 q2262 q87 q2263 hdJ4_remove (Nat.le_of_ble_eq_true rfl) (Nat.le_of_ble_eq_true rfl) rfl (Nat.le_of_ble_eq_true rfl) dX18_does_19 22 rfl rfl hen_r (kk_r (fun x6 m3 k1 n1 => ?_)) (kx_n he_r)
  refine s_pop C rfl dX18_does_22 23 rfl ?_
  exact x_vret C hret rfl dX18_does_23
theorem hdX18_does : ((⟨"MasterTree$Kind$3", "does", "(LMasterTree$Change;LMasterTree$Entry;)V"⟩ : MethodName)).cls ≠ "java/lang/invoke/MethodHandle" ∧ ((⟨"MasterTree$Kind$3", "does", "(LMasterTree$Change;LMasterTree$Entry;)V"⟩ : MethodName)).cls ≠ "java/lang/invoke/VarHandle" ∧ (parseMethodDescriptor ((⟨"MasterTree$Kind$3", "does", "(LMasterTree$Change;LMasterTree$Entry;)V"⟩ : MethodName)).desc).map (fun d => d.parameters.length) = some 2 := ⟨by decide +kernel, by decide +kernel, by decide +kernel⟩
theorem ctX18_does {l : Launch} {g : GG} (hst : l.stackTraces = false) (N : Nat) (m : Mm) (v0 : Option Nat) (v1 : Option Nat) (v2 : Option Nat) : ∀ v m' k n, fX18_does (gE_ g) N m v0 v1 v2 = some (v, m', k, n) → Ct_ l g (⟨"MasterTree$Kind$3", "does", "(LMasterTree$Change;LMasterTree$Entry;)V"⟩ : MethodName) (ws_ (⟨"MasterTree$Kind$3", "does", "(LMasterTree$Change;LMasterTree$Entry;)V"⟩ : MethodName) cX18_does 3 (Option.none : Option Jvm.ClassFile.FieldType)) 15 [vr_ v0, vr_ v1, vr_ v2] m (en_v v) m' k n :=
  Ct_of (by decide +kernel) rfl hst (Nat.le_of_ble_eq_true rfl) rfl (fun E C hret h0 hin => wX18_does C hret h0 hin N m v0 v1 v2 0 0)
theorem wX21_does {l : Launch} {g : GG} {E : Me_} (C : Cx_ l g E "MasterTree$Kind$4" cX21_does 3 20) (hret : (eT_ E).sig.returnType = (Option.none : Option Jvm.ClassFile.FieldType)) (h0 : ∀ x ∈ (eC_ E).exceptionTable.toList, False) (hin : (eT_ E).name = "does") (N : Nat) : ∀ (m : Mm) (v0 : Option Nat) (v1 : Option Nat) (v2 : Option Nat) (k n : Nat), Sm_ l g E 3 en_v (fX21_does (gE_ g) N m v0 v1 v2) k n 0 [(0, vr_ v0), (1, vr_ v1), (2, vr_ v2)] [] m := by
  intro m v0 v1 v2 k n
  unfold fX21_does
  refine s_aload_n C rfl 2 rfl dX21_does_0 1 rfl ?_
  refine s_aload_n C rfl 1 rfl dX21_does_1 2 rfl ?_
  refine x_giN C 6 (RX7, TX7, 9) rfl 5 (Nat.le_of_ble_eq_true rfl) q1748 rfl rfl 7 rfl dX21_does_2 5 rfl (fun x1 => ?_)
  refine x_ck (fun hb_ hb0_ => ?_)
  refine x_callV (enc := en_r) C 18 1 [vi_ x1] 3 (ctX3_valuesOf C.2.2.2.2.2.2.2.2.1 N m v2 x1) hb_ hb0_ rfl rfl q2268 q1988 q1989 q88 q1990 hdX3_valuesOf (Nat.le_of_ble_eq_true rfl) (Nat.le_of_ble_eq_true rfl) rfl (Nat.le_of_ble_eq_true rfl) dX21_does_5 8 rfl rfl hen_r (kk_r (fun x2 m1 k1 n1 => ?_)) (kx_n he_r)
  refine x_ck (fun hb_ hb0_ => ?_)
  refine x_callF (enc := en_v) C 18 0 [] 21 (ctJ3_clear_t21 C.2.2.2.2.2.2.2.2.1 N m1 x2) hb_ hb0_ rfl rfl rfl fw_30 q2270 q2057 q2059 q86 q2061 hx12 (Nat.le_of_ble_eq_true rfl) (Nat.le_of_ble_eq_true rfl) rfl (Nat.le_of_ble_eq_true rfl) dX21_does_8 13 rfl rfl hen_v (kk_v (fun m2 k1 n1 => ?_)) (kx_n he_v)
  refine s_aload_n C rfl 2 rfl dX21_does_13 14 rfl ?_
  refine s_aload_n C rfl 1 rfl dX21_does_14 15 rfl ?_
  refine x_giN C 6 (RX7, TX7, 9) rfl 5 (Nat.le_of_ble_eq_true rfl) q1748 rfl rfl 7 rfl dX21_does_15 18 rfl (fun x3 => ?_)
  refine s_aload_n C rfl 1 rfl dX21_does_18 19 rfl ?_
  refine x_giN C 6 (RX7, TX7, 9) rfl 6 (Nat.le_of_ble_eq_true rfl) q1759 rfl rfl 7 rfl dX21_does_19 22 rfl (fun x4 => ?_)
  refine x_ck (fun hb_ hb0_ => ?_)
  refine x_callV (enc := en_v) C 19 2 [vi_ x3, vi_ x4] 3 (ctX3_comes C.2.2.2.2.2.2.2.2.1 N m2 v2 x3 x4) hb_ hb0_ rfl rfl q2271 q1984 q1985 q88 q1986 hdX3_comes (Nat.le_of_ble_eq_true rfl) (Nat.le_of_ble_eq_true rfl) rfl (Nat.le_of_ble_eq_true rfl) dX21_does_22 25 rfl rfl hen_v (kk_v (fun m3 k1 n1 => ?_)) (kx_n he_v)
  exact x_vret C hret rfl dX21_does_25
theorem hdX21_does : ((⟨"MasterTree$Kind$4", "does", "(LMasterTree$Change;LMasterTree$Entry;)V"⟩ : MethodName)).cls ≠ "java/lang/invoke/MethodHandle" ∧ ((⟨"MasterTree$Kind$4", "does", "(LMasterTree$Change;LMasterTree$Entry;)V"⟩ : MethodName)).cls ≠ "java/lang/invoke/VarHandle" ∧ (parseMethodDescriptor ((⟨"MasterTree$Kind$4", "does", "(LMasterTree$Change;LMasterTree$Entry;)V"⟩ : MethodName)).desc).map (fun d => d.parameters.length) = some 2 := ⟨by decide +kernel, by decide +kernel, by decide +kernel⟩
theorem ctX21_does {l : Launch} {g : GG} (hst : l.stackTraces = false) (N : Nat) (m : Mm) (v0 : Option Nat) (v1 : Option Nat) (v2 : Option Nat) : ∀ v m' k n, fX21_does (gE_ g) N m v0 v1 v2 = some (v, m', k, n) → Ct_ l g (⟨"MasterTree$Kind$4", "does", "(LMasterTree$Change;LMasterTree$Entry;)V"⟩ : MethodName) (ws_ (⟨"MasterTree$Kind$4", "does", "(LMasterTree$Change;LMasterTree$Entry;)V"⟩ : MethodName) cX21_does 3 (Option.none : Option Jvm.ClassFile.FieldType)) 20 [vr_ v0, vr_ v1, vr_ v2] m (en_v v) m' k n :=
  Ct_of (by decide +kernel) rfl hst (Nat.le_of_ble_eq_true rfl) rfl (fun E C hret h0 hin => wX21_does C hret h0 hin N m v0 v1 v2 0 0)
theorem wX16_does {l : Launch} {g : GG} {E : Me_} (C : Cx_ l g E "MasterTree$Kind$5" cX16_does 3 10) (hret : (eT_ E).sig.returnType = (Option.none : Option Jvm.ClassFile.FieldType)) (h0 : ∀ x ∈ (eC_ E).exceptionTable.toList, False) (hin : (eT_ E).name = "does") (N : Nat) : ∀ (m : Mm) (v0 : Option Nat) (v1 : Option Nat) (v2 : Option Nat) (k n : Nat), Sm_ l g E 3 en_v (fX16_does (gE_ g) N m v0 v1 v2) k n 0 [(0, vr_ v0), (1, vr_ v1), (2, vr_ v2)] [] m := by
  intro m v0 v1 v2 k n
  unfold fX16_does
  refine s_aload_n C rfl 2 rfl dX16_does_0 1 rfl ?_
  refine s_aload_n C rfl 1 rfl dX16_does_1 2 rfl ?_
  refine x_giN C 6 (RX7, TX7, 9) rfl 5 (Nat.le_of_ble_eq_true rfl) q1749 rfl rfl 7 rfl dX16_does_2 5 rfl (fun x1 => ?_)
  refine x_piN C 2 (RX3, TX3, 9) rfl 5 (Nat.le_of_ble_eq_true rfl) rfl q258 rfl rfl trivial 3 rfl dX16_does_5 8 rfl (fun m1 => ?_)
  exact x_vret C hret rfl dX16_does_8
theorem hdX16_does : ((⟨"MasterTree$Kind$5", "does", "(LMasterTree$Change;LMasterTree$Entry;)V"⟩ : MethodName)).cls ≠ "java/lang/invoke/MethodHandle" ∧ ((⟨"MasterTree$Kind$5", "does", "(LMasterTree$Change;LMasterTree$Entry;)V"⟩ : MethodName)).cls ≠ "java/lang/invoke/VarHandle" ∧ (parseMethodDescriptor ((⟨"MasterTree$Kind$5", "does", "(LMasterTree$Change;LMasterTree$Entry;)V"⟩ : MethodName)).desc).map (fun d => d.parameters.length) = some 2 := ⟨by decide +kernel, by decide +kernel, by decide +kernel⟩
theorem ctX16_does {l : Launch} {g : GG} (hst : l.stackTraces = false) (N : Nat) (m : Mm) (v0 : Option Nat) (v1 : Option Nat) (v2 : Option Nat) : ∀ v m' k n, fX16_does (gE_ g) N m v0 v1 v2 = some (v, m', k, n) → Ct_ l g (⟨"MasterTree$Kind$5", "does", "(LMasterTree$Change;LMasterTree$Entry;)V"⟩ : MethodName) (ws_ (⟨"MasterTree$Kind$5", "does", "(LMasterTree$Change;LMasterTree$Entry;)V"⟩ : MethodName) cX16_does 3 (Option.none : Option Jvm.ClassFile.FieldType)) 10 [vr_ v0, vr_ v1, vr_ v2] m (en_v v) m' k n :=
  Ct_of (by decide +kernel) rfl hst (Nat.le_of_ble_eq_true rfl) rfl (fun E C hret h0 hin => wX16_does C hret h0 hin N m v0 v1 v2 0 0)
theorem wX17_does {l : Launch} {g : GG} {E : Me_} (C : Cx_ l g E "MasterTree$Kind$6" cX17_does 3 10) (hret : (eT_ E).sig.returnType = (Option.none : Option Jvm.ClassFile.FieldType)) (h0 : ∀ x ∈ (eC_ E).exceptionTable.toList, False) (hin : (eT_ E).name = "does") (N : Nat) : ∀ (m : Mm) (v0 : Option Nat) (v1 : Option Nat) (v2 : Option Nat) (k n : Nat), Sm_ l g E 3 en_v (fX17_does (gE_ g) N m v0 v1 v2) k n 0 [(0, vr_ v0), (1, vr_ v1), (2, vr_ v2)] [] m := by
  intro m v0 v1 v2 k n
  unfold fX17_does
  refine s_aload_n C rfl 2 rfl dX17_does_0 1 rfl ?_
  refine s_aload_n C rfl 1 rfl dX17_does_1 2 rfl ?_
  refine x_giN C 6 (RX7, TX7, 9) rfl 5 (Nat.le_of_ble_eq_true rfl) q1750 rfl rfl 7 rfl dX17_does_2 5 rfl (fun x1 => ?_)
  refine x_piN C 2 (RX3, TX3, 9) rfl 6 (Nat.le_of_ble_eq_true rfl) rfl q264 rfl rfl trivial 3 rfl dX17_does_5 8 rfl (fun m1 => ?_)
  exact x_vret C hret rfl dX17_does_8
theorem hdX17_does : ((⟨"MasterTree$Kind$6", "does", "(LMasterTree$Change;LMasterTree$Entry;)V"⟩ : MethodName)).cls ≠ "java/lang/invoke/MethodHandle" ∧ ((⟨"MasterTree$Kind$6", "does", "(LMasterTree$Change;LMasterTree$Entry;)V"⟩ : MethodName)).cls ≠ "java/lang/invoke/VarHandle" ∧ (parseMethodDescriptor ((⟨"MasterTree$Kind$6", "does", "(LMasterTree$Change;LMasterTree$Entry;)V"⟩ : MethodName)).desc).map (fun d => d.parameters.length) = some 2 := ⟨by decide +kernel, by decide +kernel, by decide +kernel⟩
theorem ctX17_does {l : Launch} {g : GG} (hst : l.stackTraces = false) (N : Nat) (m : Mm) (v0 : Option Nat) (v1 : Option Nat) (v2 : Option Nat) : ∀ v m' k n, fX17_does (gE_ g) N m v0 v1 v2 = some (v, m', k, n) → Ct_ l g (⟨"MasterTree$Kind$6", "does", "(LMasterTree$Change;LMasterTree$Entry;)V"⟩ : MethodName) (ws_ (⟨"MasterTree$Kind$6", "does", "(LMasterTree$Change;LMasterTree$Entry;)V"⟩ : MethodName) cX17_does 3 (Option.none : Option Jvm.ClassFile.FieldType)) 10 [vr_ v0, vr_ v1, vr_ v2] m (en_v v) m' k n :=
  Ct_of (by decide +kernel) rfl hst (Nat.le_of_ble_eq_true rfl) rfl (fun E C hret h0 hin => wX17_does C hret h0 hin N m v0 v1 v2 0 0)
theorem wX19_does {l : Launch} {g : GG} {E : Me_} (C : Cx_ l g E "MasterTree$Kind$7" cX19_does 3 17) (hret : (eT_ E).sig.returnType = (Option.none : Option Jvm.ClassFile.FieldType)) (h0 : ∀ x ∈ (eC_ E).exceptionTable.toList, False) (hin : (eT_ E).name = "does") (N : Nat) : ∀ (m : Mm) (v0 : Option Nat) (v1 : Option Nat) (v2 : Option Nat) (k n : Nat), Sm_ l g E 3 en_v (fX19_does (gE_ g) N m v0 v1 v2) k n 0 [(0, vr_ v0), (1, vr_ v1), (2, vr_ v2)] [] m := by
  intro m v0 v1 v2 k n
  unfold fX19_does
  refine s_aload_n C rfl 2 rfl dX19_does_0 1 rfl ?_
  refine x_grN C 2 (RX3, TX3, 9) rfl 8 (Nat.le_of_ble_eq_true rfl) q272 rfl rfl 3 rfl dX19_does_1 4 rfl (fun x1 => ?_)
  refine s_aload_n C rfl 1 rfl dX19_does_4 5 rfl ?_
  refine x_giN C 6 (RX7, TX7, 9) rfl 5 (Nat.le_of_ble_eq_true rfl) q1751 rfl rfl 7 rfl dX19_does_5 8 rfl (fun x2 => ?_)
  refine x_callS (enc := en_r) C 12 1 [vi_ x2] (ctJ21_valueOf C.2.2.2.2.2.2.2.2.1 N m x2) q2281 q1620 q108 q1621 hdJ21_valueOf (Nat.le_of_ble_eq_true rfl) (Nat.le_of_ble_eq_true rfl) rfl (Nat.le_of_ble_eq_true rfl) dX19_does_8 11 rfl rfl hen_r (kk_r (fun x3 m1 k1 n1 => ?_)) (kx_n he_r)
  refine s_aload_n C rfl 1 rfl dX19_does_11 12 rfl ?_
  refine x_giN C 6 (RX7, TX7, 9) rfl 6 (Nat.le_of_ble_eq_true rfl) q1758 rfl rfl 7 rfl dX19_does_12 15 rfl (fun x4 => ?_)
  refine x_callS (enc := en_r) C 12 1 [vi_ x4] (ctJ21_valueOf C.2.2.2.2.2.2.2.2.1 N m1 x4) q2281 q1620 q108 q1621 hdJ21_valueOf (Nat.le_of_ble_eq_true rfl) (Nat.le_of_ble_eq_true rfl) rfl (Nat.le_of_ble_eq_true rfl) dX19_does_15 18 rfl rfl hen_r (kk_r (fun x5 m2 k1 n1 => ?_)) (kx_n he_r)
  refine x_ck (fun hb_ hb0_ => ?_)
  refine x_callV (enc := en_r) C 16 2 [vr_ x3, vr_ x5] 15 (ctJ4_put C.2.2.2.2.2.2.2.2.1 N m2 x1 x3 x5) hb_ hb0_ rfl rfl q2282 q1874 q1875 q87 q1876 hdJ4_put (Nat.le_of_ble_eq_true rfl) (Nat.le_of_ble_eq_true rfl) rfl (Nat.le_of_ble_eq_true rfl) dX19_does_18 21 rfl rfl hen_r (kk_r (fun x6 m3 k1 n1 => ?_)) (kx_n he_r)
  refine s_pop C rfl dX19_does_21 22 rfl ?_
  exact x_vret C hret rfl dX19_does_22
theorem hdX19_does : ((⟨"MasterTree$Kind$7", "does", "(LMasterTree$Change;LMasterTree$Entry;)V"⟩ : MethodName)).cls ≠ "java/lang/invoke/MethodHandle" ∧ ((⟨"MasterTree$Kind$7", "does", "(LMasterTree$Change;LMasterTree$Entry;)V"⟩ : MethodName)).cls ≠ "java/lang/invoke/VarHandle" ∧ (parseMethodDescriptor ((⟨"MasterTree$Kind$7", "does", "(LMasterTree$Change;LMasterTree$Entry;)V"⟩ : MethodName)).desc).map (fun d => d.parameters.length) = some 2 := ⟨by decide +kernel, by decide +kernel, by decide +kernel⟩
theorem ctX19_does {l : Launch} {g : GG} (hst : l.stackTraces = false) (N : Nat) (m : Mm) (v0 : Option Nat) (v1 : Option Nat) (v2 : Option Nat) : ∀ v m' k n, fX19_does (gE_ g) N m v0 v1 v2 = some (v, m', k, n) → Ct_ l g (⟨"MasterTree$Kind$7", "does", "(LMasterTree$Change;LMasterTree$Entry;)V"⟩ : MethodName) (ws_ (⟨"MasterTree$Kind$7", "does", "(LMasterTree$Change;LMasterTree$Entry;)V"⟩ : MethodName) cX19_does 3 (Option.none : Option Jvm.ClassFile.FieldType)) 17 [vr_ v0, vr_ v1, vr_ v2] m (en_v v) m' k n :=
  Ct_of (by decide +kernel) rfl hst (Nat.le_of_ble_eq_true rfl) rfl (fun E C hret h0 hin => wX19_does C hret h0 hin N m v0 v1 v2 0 0)
theorem wX22_does {l : Launch} {g : GG} {E : Me_} (C : Cx_ l g E "MasterTree$Kind$8" cX22_does 3 10) (hret : (eT_ E).sig.returnType = (Option.none : Option Jvm.ClassFile.FieldType)) (h0 : ∀ x ∈ (eC_ E).exceptionTable.toList, False) (hin : (eT_ E).name = "does") (N : Nat) : ∀ (m : Mm) (v0 : Option Nat) (v1 : Option Nat) (v2 : Option Nat) (k n : Nat), Sm_ l g E 3 en_v (fX22_does (gE_ g) N m v0 v1 v2) k n 0 [(0, vr_ v0), (1, vr_ v1), (2, vr_ v2)] [] m := by
  intro m v0 v1 v2 k n
  unfold fX22_does
  exact x_vret C hret rfl dX22_does_0
theorem hdX22_does : ((⟨"MasterTree$Kind$8", "does", "(LMasterTree$Change;LMasterTree$Entry;)V"⟩ : MethodName)).cls ≠ "java/lang/invoke/MethodHandle" ∧ ((⟨"MasterTree$Kind$8", "does", "(LMasterTree$Change;LMasterTree$Entry;)V"⟩ : MethodName)).cls ≠ "java/lang/invoke/VarHandle" ∧ (parseMethodDescriptor ((⟨"MasterTree$Kind$8", "does", "(LMasterTree$Change;LMasterTree$Entry;)V"⟩ : MethodName)).desc).map (fun d => d.parameters.length) = some 2 := ⟨by decide +kernel, by decide +kernel, by decide +kernel⟩
theorem ctX22_does {l : Launch} {g : GG} (hst : l.stackTraces = false) (N : Nat) (m : Mm) (v0 : Option Nat) (v1 : Option Nat) (v2 : Option Nat) : ∀ v m' k n, fX22_does (gE_ g) N m v0 v1 v2 = some (v, m', k, n) → Ct_ l g (⟨"MasterTree$Kind$8", "does", "(LMasterTree$Change;LMasterTree$Entry;)V"⟩ : MethodName) (ws_ (⟨"MasterTree$Kind$8", "does", "(LMasterTree$Change;LMasterTree$Entry;)V"⟩ : MethodName) cX22_does 3 (Option.none : Option Jvm.ClassFile.FieldType)) 10 [vr_ v0, vr_ v1, vr_ v2] m (en_v v) m' k n :=
  Ct_of (by decide +kernel) rfl hst (Nat.le_of_ble_eq_true rfl) rfl (fun E C hret h0 hin => wX22_does C hret h0 hin N m v0 v1 v2 0 0)
theorem wX15_does {l : Launch} {g : GG} {E : Me_} (C : Cx_ l g E "MasterTree$Kind$9" cX15_does 3 10) (hret : (eT_ E).sig.returnType = (Option.none : Option Jvm.ClassFile.FieldType)) (h0 : ∀ x ∈ (eC_ E).exceptionTable.toList, False) (hin : (eT_ E).name = "does") (N : Nat) : ∀ (m : Mm) (v0 : Option Nat) (v1 : Option Nat) (v2 : Option Nat) (k n : Nat), Sm_ l g E 3 en_v (fX15_does (gE_ g) N m v0 v1 v2) k n 0 [(0, vr_ v0), (1, vr_ v1), (2, vr_ v2)] [] m := by
  intro m v0 v1 v2 k n
  unfold fX15_does
  refine s_aload_n C rfl 2 rfl dX15_does_0 1 rfl ?_
  refine s_iconst C 1 rfl dX15_does_1 2 rfl ?_
  refine x_pzN C 2 (RX3, TX3, 9) rfl 4 (Nat.le_of_ble_eq_true rfl) rfl q255 rfl rfl (Or.inl rfl) 3 rfl dX15_does_2 5 rfl (fun m1 => ?_)
  exact x_vret C hret rfl dX15_does_5
theorem hdX15_does : ((⟨"MasterTree$Kind$9", "does", "(LMasterTree$Change;LMasterTree$Entry;)V"⟩ : MethodName)).cls ≠ "java/lang/invoke/MethodHandle" ∧ ((⟨"MasterTree$Kind$9", "does", "(LMasterTree$Change;LMasterTree$Entry;)V"⟩ : MethodName)).cls ≠ "java/lang/invoke/VarHandle" ∧ (parseMethodDescriptor ((⟨"MasterTree$Kind$9", "does", "(LMasterTree$Change;LMasterTree$Entry;)V"⟩ : MethodName)).desc).map (fun d => d.parameters.length) = some 2 := ⟨by decide +kernel, by decide +kernel, by decide +kernel⟩
theorem ctX15_does {l : Launch} {g : GG} (hst : l.stackTraces = false) (N : Nat) (m : Mm) (v0 : Option Nat) (v1 : Option Nat) (v2 : Option Nat) : ∀ v m' k n, fX15_does (gE_ g) N m v0 v1 v2 = some (v, m', k, n) → Ct_ l g (⟨"MasterTree$Kind$9", "does", "(LMasterTree$Change;LMasterTree$Entry;)V"⟩ : MethodName) (ws_ (⟨"MasterTree$Kind$9", "does", "(LMasterTree$Change;LMasterTree$Entry;)V"⟩ : MethodName) cX15_does 3 (Option.none : Option Jvm.ClassFile.FieldType)) 10 [vr_ v0, vr_ v1, vr_ v2] m (en_v v) m' k n :=
  Ct_of (by decide +kernel) rfl hst (Nat.le_of_ble_eq_true rfl) rfl (fun E C hret h0 hin => wX15_does C hret h0 hin N m v0 v1 v2 0 0)
theorem wJ4_clear {l : Launch} {g : GG} {E : Me_} (C : Cx_ l g E "java/util/TreeMap" cJ4_clear 1 10) (hret : (eT_ E).sig.returnType = (Option.none : Option Jvm.ClassFile.FieldType)) (h0 : ∀ x ∈ (eC_ E).exceptionTable.toList, False) (hin : (eT_ E).name = "clear") (N : Nat) : ∀ (m : Mm) (v0 : Option Nat) (k n : Nat), Sm_ l g E 1 en_v (fJ4_clear (gE_ g) N m v0) k n 0 [(0, vr_ v0)] [] m := by
  intro m v0 k n
  unfold fJ4_clear
  refine s_aload_n C rfl 0 rfl dJ4_clear_0 1 rfl ?_
  refine s_dup C rfl dJ4_clear_1 2 rfl ?_
  refine x_gi C 14 (RJ4, TJ4, 9) rfl 5 (Nat.le_of_ble_eq_true rfl) q207 (Or.inl rfl) rfl 15 rfl dJ4_clear_2 5 rfl (fun x1 => ?_)
  refine s_iconst C 1 rfl dJ4_clear_5 6 rfl ?_
  refine s_iadd C dJ4_clear_6 7 rfl ?_
  refine x_pi C 14 (RJ4, TJ4, 9) rfl 5 (Nat.le_of_ble_eq_true rfl) rfl q207 (Or.inl rfl) rfl trivial 15 rfl dJ4_clear_7 10 rfl (fun m1 => ?_)
  refine s_aload_n C rfl 0 rfl dJ4_clear_10 11 rfl ?_
  refine s_iconst C 0 rfl dJ4_clear_11 12 rfl ?_
  refine x_pi C 14 (RJ4, TJ4, 9) rfl 4 (Nat.le_of_ble_eq_true rfl) rfl q206 (Or.inl rfl) rfl trivial 15 rfl dJ4_clear_12 15 rfl (fun m2 => ?_)
  refine s_aload_n C rfl 0 rfl dJ4_clear_15 16 rfl ?_
  refine s_null C dJ4_clear_16 17 rfl ?_
  refine x_pr C 14 (RJ4, TJ4, 9) rfl 3 (Nat.le_of_ble_eq_true rfl) rfl q205 (Or.inl rfl) rfl trivial 15 rfl dJ4_clear_17 20 rfl (fun m3 => ?_)
  exact x_vret C hret rfl dJ4_clear_20
theorem hdJ4_clear : ((⟨"java/util/TreeMap", "clear", "()V"⟩ : MethodName)).cls ≠ "java/lang/invoke/MethodHandle" ∧ ((⟨"java/util/TreeMap", "clear", "()V"⟩ : MethodName)).cls ≠ "java/lang/invoke/VarHandle" ∧ (parseMethodDescriptor ((⟨"java/util/TreeMap", "clear", "()V"⟩ : MethodName)).desc).map (fun d => d.parameters.length) = some 0 := ⟨by decide +kernel, by decide +kernel, by decide +kernel⟩
theorem ctJ4_clear {l : Launch} {g : GG} (hst : l.stackTraces = false) (N : Nat) (m : Mm) (v0 : Option Nat) : ∀ v m' k n, fJ4_clear (gE_ g) N m v0 = some (v, m', k, n) → Ct_ l g (⟨"java/util/TreeMap", "clear", "()V"⟩ : MethodName) (ws_ (⟨"java/util/TreeMap", "clear", "()V"⟩ : MethodName) cJ4_clear 1 (Option.none : Option Jvm.ClassFile.FieldType)) 10 [vr_ v0] m (en_v v) m' k n :=
  Ct_of (by decide +kernel) rfl hst (Nat.le_of_ble_eq_true rfl) rfl (fun E C hret h0 hin => wJ4_clear C hret h0 hin N m v0 0 0)
theorem wX3_does_b44 {l : Launch} {g : GG} {E : Me_} (C : Cx_ l g E "MasterTree$Entry" cX3_does 3 21) (hret : (eT_ E).sig.returnType = (Option.none : Option Jvm.ClassFile.FieldType)) (h0 : ∀ x ∈ (eC_ E).exceptionTable.toList, False) (hin : (eT_ E).name = "does") (N : Nat) : ∀ (F : Nat) (m : Mm) (v0 : Option Nat) (v1 : Option Nat) (k n : Nat), Sm_ l g E 3 en_v (fX3_does_b44 (gE_ g) N F m v0 v1) k n 44 [(0, vr_ v0), (1, vr_ v1)] [] m := by
  intro F
  induction F with
  | zero => intros; exact Sm_none
  | succ F ih =>
    intro m v0 v1 k n
    unfold fX3_does_b44
    refine s_aload_n C rfl 1 rfl dX3_does_44 45 rfl ?_
    refine x_ck (fun hb_ hb0_ => ?_)
    refine x_callF (enc := en_i) C 10 0 [] 14 (ctJ34_hasNext C.2.2.2.2.2.2.2.2.1 N m v1) hb_ hb0_ rfl rfl rfl fw_13 q1966 q1458 q1460 q124 q1462 hx3 (Nat.le_of_ble_eq_true rfl) (Nat.le_of_ble_eq_true rfl) rfl (Nat.le_of_ble_eq_true rfl) dX3_does_45 50 rfl rfl hen_i (kk_i (fun x1 m1 k1 n1 => ?_)) (kx_n he_i)
    refine s_if_eq C dX3_does_50 75 rfl 53 rfl (fun c_ => ?_) (fun c_ => ?_)
    · exact x_vret C hret rfl dX3_does_75
    · refine s_aload_n C rfl 1 rfl dX3_does_53 54 rfl ?_
      refine x_ck (fun hb_ hb0_ => ?_)
      refine x_callF (enc := en_r) C 11 0 [] 14 (ctJ34_next C.2.2.2.2.2.2.2.2.1 N m1 v1) hb_ hb0_ rfl rfl rfl fw_19 q1968 q1495 q1497 q124 q1499 hx5 (Nat.le_of_ble_eq_true rfl) (Nat.le_of_ble_eq_true rfl) rfl (Nat.le_of_ble_eq_true rfl) dX3_does_54 59 rfl rfl hen_r (kk_r (fun x2 m2 k1 n1 => ?_)) (kx_n he_r)
      refine x_cc C "MasterTree$Change" [7] (fun k hk => by rw [List.mem_singleton.mp hk]; exact ⟨rfl, Or.inr rfl⟩) q1969 dX3_does_59 62 rfl ?_
      refine s_astore_n C rfl (Nat.le_of_ble_eq_true rfl) [0, 1] rfl rfl dX3_does_62 63 rfl ?_
      refine s_aload_n C rfl 0 rfl dX3_does_63 64 rfl ?_
      refine x_grN C 6 (RX7, TX7, 9) rfl 3 (Nat.le_of_ble_eq_true rfl) q1742 rfl rfl 7 rfl dX3_does_64 67 rfl (fun x3 => ?_)
      refine s_aload_n C rfl 0 rfl dX3_does_67 68 rfl ?_
      refine s_aload_n C rfl 1 rfl dX3_does_68 69 rfl ?_
      refine x_wv [] 72 (fun kk_ => ?_) (fun m3 k1 n1 => ?_)
      · refine x_csr (kd := 403) (fun hb_ hb0_ => ?_) ?_
        · exact x_callK (enc := en_v) (owner := "MasterTree$Kind") C 20 2 [vr_ x2, vr_ v0] 403 (by decide +kernel) (Nat.le_of_ble_eq_true rfl) rfl (fun E C hret h0 hin => wX14_does C hret h0 hin N _  x3 x2 v0 0 0) hb_ hb0_ rfl rfl q1970 q1972 q1973 q1974 q1975 q1971 ⟨by decide +kernel, by decide +kernel, by decide +kernel⟩ (Nat.le_of_ble_eq_true rfl) (Nat.le_of_ble_eq_true rfl) rfl (Nat.le_of_ble_eq_true rfl) dX3_does_69 72 rfl rfl hen_v (kk_v kk_) (kx_n he_v)
        refine x_csr (kd := 404) (fun hb_ hb0_ => ?_) ?_
        · exact x_callK (enc := en_v) (owner := "MasterTree$Kind") C 20 2 [vr_ x2, vr_ v0] 404 (by decide +kernel) (Nat.le_of_ble_eq_true rfl) rfl (fun E C hret h0 hin => wX20_does C hret h0 hin N _  x3 x2 v0 0 0) hb_ hb0_ rfl rfl q1970 q1972 q2251 q2252 q2253 q1971 ⟨by decide +kernel, by decide +kernel, by decide +kernel⟩ (Nat.le_of_ble_eq_true rfl) (Nat.le_of_ble_eq_true rfl) rfl (Nat.le_of_ble_eq_true rfl) dX3_does_69 72 rfl rfl hen_v (kk_v kk_) (kx_n he_v)
        refine x_csr (kd := 405) (fun hb_ hb0_ => ?_) ?_
        · exact x_callK (enc := en_v) (owner := "MasterTree$Kind") C 15 2 [vr_ x2, vr_ v0] 405 (by decide +kernel) (Nat.le_of_ble_eq_true rfl) rfl (fun E C hret h0 hin => wX18_does C hret h0 hin N _  x3 x2 v0 0 0) hb_ hb0_ rfl rfl q1970 q1972 q2255 q2256 q2257 q1971 ⟨by decide +kernel, by decide +kernel, by decide +kernel⟩ (Nat.le_of_ble_eq_true rfl) (Nat.le_of_ble_eq_true rfl) rfl (Nat.le_of_ble_eq_true rfl) dX3_does_69 72 rfl rfl hen_v (kk_v kk_) (kx_n he_v)
        refine x_csr (kd := 406) (fun hb_ hb0_ => ?_) ?_
        · exact x_callK (enc := en_v) (owner := "MasterTree$Kind") C 20 2 [vr_ x2, vr_ v0] 406 (by decide +kernel) (Nat.le_of_ble_eq_true rfl) rfl (fun E C hret h0 hin => wX21_does C hret h0 hin N _  x3 x2 v0 0 0) hb_ hb0_ rfl rfl q1970 q1972 q2265 q2266 q2267 q1971 ⟨by decide +kernel, by decide +kernel, by decide +kernel⟩ (Nat.le_of_ble_eq_true rfl) (Nat.le_of_ble_eq_true rfl) rfl (Nat.le_of_ble_eq_true rfl) dX3_does_69 72 rfl rfl hen_v (kk_v kk_) (kx_n he_v)
        refine x_csr (kd := 407) (fun hb_ hb0_ => ?_) ?_
        · exact x_callK (enc := en_v) (owner := "MasterTree$Kind") C 10 2 [vr_ x2, vr_ v0] 407 (by decide +kernel) (Nat.le_of_ble_eq_true rfl) rfl (fun E C hret h0 hin => wX16_does C hret h0 hin N _  x3 x2 v0 0 0) hb_ hb0_ rfl rfl q1970 q1972 q2272 q2273 q2274 q1971 ⟨by decide +kernel, by decide +kernel, by decide +kernel⟩ (Nat.le_of_ble_eq_true rfl) (Nat.le_of_ble_eq_true rfl) rfl (Nat.le_of_ble_eq_true rfl) dX3_does_69 72 rfl rfl hen_v (kk_v kk_) (kx_n he_v)
        refine x_csr (kd := 408) (fun hb_ hb0_ => ?_) ?_
        · exact x_callK (enc := en_v) (owner := "MasterTree$Kind") C 10 2 [vr_ x2, vr_ v0] 408 (by decide +kernel) (Nat.le_of_ble_eq_true rfl) rfl (fun E C hret h0 hin => wX17_does C hret h0 hin N _  x3 x2 v0 0 0) hb_ hb0_ rfl rfl q1970 q1972 q2275 q2276 q2277 q1971 ⟨by decide +kernel, by decide +kernel, by decide +kernel⟩ (Nat.le_of_ble_eq_true rfl) (Nat.le_of_ble_eq_true rfl) rfl (Nat.le_of_ble_eq_true rfl) dX3_does_69 72 rfl rfl hen_v (kk_v kk_) (kx_n he_v)
        refine x_csr (kd := 409) (fun hb_ hb0_ => ?_) ?_
        · exact x_callK (enc := en_v) (owner := "MasterTree$Kind") C 17 2 [vr_ x2, vr_ v0] 409 (by decide +kernel) (Nat.le_of_ble_eq_true rfl) rfl (fun E C hret h0 hin => wX19_does C hret h0 hin N _  x3 x2 v0 0 0) hb_ hb0_ rfl rfl q1970 q1972 q2278 q2279 q2280 q1971 ⟨by decide +kernel, by decide +kernel, by decide +kernel⟩ (Nat.le_of_ble_eq_true rfl) (Nat.le_of_ble_eq_true rfl) rfl (Nat.le_of_ble_eq_true rfl) dX3_does_69 72 rfl rfl hen_v (kk_v kk_) (kx_n he_v)
        refine x_csr (kd := 410) (fun hb_ hb0_ => ?_) ?_
        · exact x_callK (enc := en_v) (owner := "MasterTree$Kind") C 10 2 [vr_ x2, vr_ v0] 410 (by decide +kernel) (Nat.le_of_ble_eq_true rfl) rfl (fun E C hret h0 hin => wX22_does C hret h0 hin N _  x3 x2 v0 0 0) hb_ hb0_ rfl rfl q1970 q1972 q2283 q2284 q2285 q1971 ⟨by decide +kernel, by decide +kernel, by decide +kernel⟩ (Nat.le_of_ble_eq_true rfl) (Nat.le_of_ble_eq_true rfl) rfl (Nat.le_of_ble_eq_true rfl) dX3_does_69 72 rfl rfl hen_v (kk_v kk_) (kx_n he_v)
        refine x_csr (kd := 411) (fun hb_ hb0_ => ?_) ?_
        · exact x_callK (enc := en_v) (owner := "MasterTree$Kind") C 10 2 [vr_ x2, vr_ v0] 411 (by decide +kernel) (Nat.le_of_ble_eq_true rfl) rfl (fun E C hret h0 hin => wX15_does C hret h0 hin N _  x3 x2 v0 0 0) hb_ hb0_ rfl rfl q1970 q1972 q2286 q2287 q2288 q1971 ⟨by decide +kernel, by decide +kernel, by decide +kernel⟩ (Nat.le_of_ble_eq_true rfl) (Nat.le_of_ble_eq_true rfl) rfl (Nat.le_of_ble_eq_true rfl) dX3_does_69 72 rfl rfl hen_v (kk_v kk_) (kx_n he_v)
        exact Sm_bn
      refine s_goto C (off := -28) 44 dX3_does_72 rfl ?_
      refine Sm_sub [1, 2] rfl ?_
      exact ih _ _ _ _ _
theorem wX3_does {l : Launch} {g : GG} {E : Me_} (C : Cx_ l g E "MasterTree$Entry" cX3_does 3 21) (hret : (eT_ E).sig.returnType = (Option.none : Option Jvm.ClassFile.FieldType)) (h0 : ∀ x ∈ (eC_ E).exceptionTable.toList, False) (hin : (eT_ E).name = "does") (N : Nat) : ∀ (m : Mm) (v0 : Option Nat) (k n : Nat), Sm_ l g E 3 en_v (fX3_does (gE_ g) N m v0) k n 0 [(0, vr_ v0)] [] m := by
  intro m v0 k n
  unfold fX3_does
  refine s_aload_n C rfl 0 rfl dX3_does_0 1 rfl ?_
  refine s_null C dX3_does_1 2 rfl ?_
  refine x_pr C 2 (RX3, TX3, 9) rfl 3 (Nat.le_of_ble_eq_true rfl) rfl q251 (Or.inl rfl) rfl trivial 3 rfl dX3_does_2 5 rfl (fun m1 => ?_)
  refine s_aload_n C rfl 0 rfl dX3_does_5 6 rfl ?_
  refine s_iconst C 0 rfl dX3_does_6 7 rfl ?_
  refine x_pz C 2 (RX3, TX3, 9) rfl 4 (Nat.le_of_ble_eq_true rfl) rfl q256 (Or.inl rfl) rfl (Or.inl rfl) 3 rfl dX3_does_7 10 rfl (fun m2 => ?_)
  refine s_aload_n C rfl 0 rfl dX3_does_10 11 rfl ?_
  refine s_iconst C 0 rfl dX3_does_11 12 rfl ?_
  refine x_pi C 2 (RX3, TX3, 9) rfl 5 (Nat.le_of_ble_eq_true rfl) rfl q260 (Or.inl rfl) rfl trivial 3 rfl dX3_does_12 15 rfl (fun m3 => ?_)
  refine s_aload_n C rfl 0 rfl dX3_does_15 16 rfl ?_
  refine s_iconst C (-1) rfl dX3_does_16 17 rfl ?_
  refine x_pi C 2 (RX3, TX3, 9) rfl 6 (Nat.le_of_ble_eq_true rfl) rfl q263 (Or.inl rfl) rfl trivial 3 rfl dX3_does_17 20 rfl (fun m4 => ?_)
  refine s_aload_n C rfl 0 rfl dX3_does_20 21 rfl ?_
  refine x_gr C 2 (RX3, TX3, 9) rfl 7 (Nat.le_of_ble_eq_true rfl) q267 (Or.inl rfl) rfl 3 rfl dX3_does_21 24 rfl (fun x1 => ?_)
  refine x_ck (fun hb_ hb0_ => ?_)
  refine x_callV (enc := en_v) C 10 0 [] 15 (ctJ4_clear C.2.2.2.2.2.2.2.2.1 N m4 x1) hb_ hb0_ rfl rfl q1959 q1960 q1961 q87 q1962 hdJ4_clear (Nat.le_of_ble_eq_true rfl) (Nat.le_of_ble_eq_true rfl) rfl (Nat.le_of_ble_eq_true rfl) dX3_does_24 27 rfl rfl hen_v (kk_v (fun m5 k1 n1 => ?_)) (kx_n he_v)
  refine s_aload_n C rfl 0 rfl dX3_does_27 28 rfl ?_
  refine x_gr C 2 (RX3, TX3, 9) rfl 8 (Nat.le_of_ble_eq_true rfl) q271 (Or.inl rfl) rfl 3 rfl dX3_does_28 31 rfl (fun x2 => ?_)
  refine x_ck (fun hb_ hb0_ => ?_)
  refine x_callV (enc := en_v) C 10 0 [] 15 (ctJ4_clear C.2.2.2.2.2.2.2.2.1 N m5 x2) hb_ hb0_ rfl rfl q1959 q1960 q1961 q87 q1962 hdJ4_clear (Nat.le_of_ble_eq_true rfl) (Nat.le_of_ble_eq_true rfl) rfl (Nat.le_of_ble_eq_true rfl) dX3_does_31 34 rfl rfl hen_v (kk_v (fun m6 k1 n1 => ?_)) (kx_n he_v)
  refine s_aload_n C rfl 0 rfl dX3_does_34 35 rfl ?_
  refine x_gr C 2 (RX3, TX3, 9) rfl 2 (Nat.le_of_ble_eq_true rfl) q248 (Or.inl rfl) rfl 3 rfl dX3_does_35 38 rfl (fun x3 => ?_)
  refine x_ck (fun hb_ hb0_ => ?_)
  refine x_callF (enc := en_r) C 11 0 [] 13 (ctJ2_iterator C.2.2.2.2.2.2.2.2.1 N m6 x3) hb_ hb0_ rfl rfl rfl fw_27 q1964 q1691 q1693 q84 q1695 hx6 (Nat.le_of_ble_eq_true rfl) (Nat.le_of_ble_eq_true rfl) rfl (Nat.le_of_ble_eq_true rfl) dX3_does_38 43 rfl rfl hen_r (kk_r (fun x4 m7 k1 n1 => ?_)) (kx_n he_r)
  refine s_astore_n C rfl (Nat.le_of_ble_eq_true rfl) [0] rfl rfl dX3_does_43 44 rfl ?_
  refine Sm_sub [1, 0] rfl ?_
  exact wX3_does_b44 C hret h0 hin N N _ _ _ _ _
theorem hdX3_does : ((⟨"MasterTree$Entry", "does", "()V"⟩ : MethodName)).cls ≠ "java/lang/invoke/MethodHandle" ∧ ((⟨"MasterTree$Entry", "does", "()V"⟩ : MethodName)).cls ≠ "java/lang/invoke/VarHandle" ∧ (parseMethodDescriptor ((⟨"MasterTree$Entry", "does", "()V"⟩ : MethodName)).desc).map (fun d => d.parameters.length) = some 0 := ⟨by decide +kernel, by decide +kernel, by decide +kernel⟩
theorem ctX3_does {l : Launch} {g : GG} (hst : l.stackTraces = false) (N : Nat) (m : Mm) (v0 : Option Nat) : ∀ v m' k n, fX3_does (gE_ g) N m v0 = some (v, m', k, n) → Ct_ l g (⟨"MasterTree$Entry", "does", "()V"⟩ : MethodName) (ws_ (⟨"MasterTree$Entry", "does", "()V"⟩ : MethodName) cX3_does 3 (Option.none : Option Jvm.ClassFile.FieldType)) 21 [vr_ v0] m (en_v v) m' k n :=
  Ct_of (by decide +kernel) rfl hst (Nat.le_of_ble_eq_true rfl) rfl (fun E C hret h0 hin => wX3_does C hret h0 hin N m v0 0 0)
theorem wJ0_init_t13 {l : Launch} {g : GG} {E : Me_} (C : Cx_ l g E "java/util/AbstractCollection" cJ0_init 1 10) (hret : (eT_ E).sig.returnType = (Option.none : Option Jvm.ClassFile.FieldType)) (h0 : ∀ x ∈ (eC_ E).exceptionTable.toList, False) (hin : (eT_ E).name = "<init>") (N : Nat) : ∀ (m : Mm) (v0 : Option Nat) (k n : Nat), Sm_ l g E 1 en_v (fJ0_init_t13 (gE_ g) N m v0) k n 0 [(0, vr_ v0)] [] m := by
  intro m v0 k n
  unfold fJ0_init_t13
  refine s_aload_n C rfl 0 rfl dJ0_init_0 1 rfl ?_
  refine x_ok (fun hb_ => ?_)
  refine x_obj C hb_ q165 q152 q153 (by decide) (Nat.le_of_ble_eq_true rfl) dJ0_init_1 4 rfl ?_
  exact x_vret C hret rfl dJ0_init_4
theorem hdJ0_init_t13 : ((⟨"java/util/AbstractCollection", "<init>", "()V"⟩ : MethodName)).cls ≠ "java/lang/invoke/MethodHandle" ∧ ((⟨"java/util/AbstractCollection", "<init>", "()V"⟩ : MethodName)).cls ≠ "java/lang/invoke/VarHandle" ∧ (parseMethodDescriptor ((⟨"java/util/AbstractCollection", "<init>", "()V"⟩ : MethodName)).desc).map (fun d => d.parameters.length) = some 0 := ⟨by decide +kernel, by decide +kernel, by decide +kernel⟩
theorem ctJ0_init_t13 {l : Launch} {g : GG} (hst : l.stackTraces = false) (N : Nat) (m : Mm) (v0 : Option Nat) : ∀ v m' k n, fJ0_init_t13 (gE_ g) N m v0 = some (v, m', k, n) → Ct_ l g (⟨"java/util/AbstractCollection", "<init>", "()V"⟩ : MethodName) (ws_ (⟨"java/util/AbstractCollection", "<init>", "()V"⟩ : MethodName) cJ0_init 1 (Option.none : Option Jvm.ClassFile.FieldType)) 10 [vr_ v0] m (en_v v) m' k n :=
  Ct_of (by decide +kernel) rfl hst (Nat.le_of_ble_eq_true rfl) rfl (fun E C hret h0 hin => wJ0_init_t13 C hret h0 hin N m v0 0 0)
theorem wJ1_init_t13 {l : Launch} {g : GG} {E : Me_} (C : Cx_ l g E "java/util/AbstractList" cJ1_init 1 11) (hret : (eT_ E).sig.returnType = (Option.none : Option Jvm.ClassFile.FieldType)) (h0 : ∀ x ∈ (eC_ E).exceptionTable.toList, False) (hin : (eT_ E).name = "<init>") (N : Nat) : ∀ (m : Mm) (v0 : Option Nat) (k n : Nat), Sm_ l g E 1 en_v (fJ1_init_t13 (gE_ g) N m v0) k n 0 [(0, vr_ v0)] [] m := by
  intro m v0 k n
  unfold fJ1_init_t13
  refine s_aload_n C rfl 0 rfl dJ1_init_0 1 rfl ?_
  refine x_ok (fun hb0_ => ?_)
  refine x_callI (enc := en_v) C 10 0 [] (ctJ0_init_t13 C.2.2.2.2.2.2.2.2.1 N m v0) hb0_ rfl q162 q163 q82 q164 rfl hdJ0_init_t13 (Nat.le_of_ble_eq_true rfl) (Nat.le_of_ble_eq_true rfl) rfl (Nat.le_of_ble_eq_true rfl) dJ1_init_1 4 rfl rfl hen_v (kk_v (fun m1 k1 n1 => ?_)) (kx_n he_v)
  refine s_aload_n C rfl 0 rfl dJ1_init_4 5 rfl ?_
  refine s_iconst C 0 rfl dJ1_init_5 6 rfl ?_
  refine x_pi C 12 (RJ2, TJ2, 3) rfl 0 (Nat.le_of_ble_eq_true rfl) rfl q172 (Or.inl rfl) rfl trivial 13 rfl dJ1_init_6 9 rfl (fun m2 => ?_)
  exact x_vret C hret rfl dJ1_init_9
theorem hdJ1_init_t13 : ((⟨"java/util/AbstractList", "<init>", "()V"⟩ : MethodName)).cls ≠ "java/lang/invoke/MethodHandle" ∧ ((⟨"java/util/AbstractList", "<init>", "()V"⟩ : MethodName)).cls ≠ "java/lang/invoke/VarHandle" ∧ (parseMethodDescriptor ((⟨"java/util/AbstractList", "<init>", "()V"⟩ : MethodName)).desc).map (fun d => d.parameters.length) = some 0 := ⟨by decide +kernel, by decide +kernel, by decide +kernel⟩
theorem ctJ1_init_t13 {l : Launch} {g : GG} (hst : l.stackTraces = false) (N : Nat) (m : Mm) (v0 : Option Nat) : ∀ v m' k n, fJ1_init_t13 (gE_ g) N m v0 = some (v, m', k, n) → Ct_ l g (⟨"java/util/AbstractList", "<init>", "()V"⟩ : MethodName) (ws_ (⟨"java/util/AbstractList", "<init>", "()V"⟩ : MethodName) cJ1_init 1 (Option.none : Option Jvm.ClassFile.FieldType)) 11 [vr_ v0] m (en_v v) m' k n :=
  Ct_of (by decide +kernel) rfl hst (Nat.le_of_ble_eq_true rfl) rfl (fun E C hret h0 hin => wJ1_init_t13 C hret h0 hin N m v0 0 0)
