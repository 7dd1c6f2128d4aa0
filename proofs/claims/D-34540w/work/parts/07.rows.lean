section RW
variable {α : Type} {l : Launch} {g : GG} {E : Me_} {own : String} {cc : ByteArray} {nL lvl : Nat} {en : α → Fn_} {r : Rs α} {k n pc : Nat} {L L' : List (Nat × TV)} {st : List TV} {m : Mm}
theorem s_iconst (C : Cx_ l g E own cc nL lvl) {z : Int} (v : Int32) (hv : Int32.ofInt z = v) (d : decode cc pc = .ok (.iconst z, 1)) (pc' : Nat) (hp : pc + 1 = pc') (kk : Sm_ l g E nL en r k n pc' L (vi_ v :: st) m) : Sm_ l g E nL en r k n pc L (st) m := by
  subst hp
  exact Sm_go kk (fun H locs ls Q hR hS hl w => lv_iconst C.1 C.2.1 d hv (w ls hl))
theorem s_bipush (C : Cx_ l g E own cc nL lvl) {z : Int} (v : Int32) (hv : (Int8.ofInt z).toInt32 = v) (d : decode cc pc = .ok (.bipush z, 2)) (pc' : Nat) (hp : pc + 2 = pc') (kk : Sm_ l g E nL en r k n pc' L (vi_ v :: st) m) : Sm_ l g E nL en r k n pc L (st) m := by
  subst hp
  exact Sm_go kk (fun H locs ls Q hR hS hl w => lv_bipush C.1 C.2.1 d hv (w ls hl))
theorem s_sipush (C : Cx_ l g E own cc nL lvl) {z : Int} (v : Int32) (hv : (Int16.ofInt z).toInt32 = v) (d : decode cc pc = .ok (.sipush z, 3)) (pc' : Nat) (hp : pc + 3 = pc') (kk : Sm_ l g E nL en r k n pc' L (vi_ v :: st) m) : Sm_ l g E nL en r k n pc L (st) m := by
  subst hp
  exact Sm_go kk (fun H locs ls Q hR hS hl w => lv_sipush C.1 C.2.1 d hv (w ls hl))
theorem s_lconst (C : Cx_ l g E own cc nL lvl) {z : Fin 2} (v : Int64) (hv : Int64.ofNat (z : Nat) = v) (d : decode cc pc = .ok (.lconst z, 1)) (pc' : Nat) (hp : pc + 1 = pc') (kk : Sm_ l g E nL en r k n pc' L (vj_ v :: st) m) : Sm_ l g E nL en r k n pc L (st) m := by
  subst hp
  exact Sm_go kk (fun H locs ls Q hR hS hl w => lv_lconst C.1 C.2.1 d hv (w ls hl))
theorem s_null (C : Cx_ l g E own cc nL lvl)  (d : decode cc pc = .ok (.aconst_null, 1)) (pc' : Nat) (hp : pc + 1 = pc') (kk : Sm_ l g E nL en r k n pc' L (vr_ none :: st) m) : Sm_ l g E nL en r k n pc L (st) m := by
  subst hp
  exact Sm_go kk (fun H locs ls Q hR hS hl w => lv_null C.1 C.2.1 d (w ls hl))
theorem s_iload_n (C : Cx_ l g E own cc nL lvl) {i : Fin 4} {j : Nat} {x : Int32} (hj : (i : Nat) = j) (p : Nat) (hk : L[p]? = some (j, vi_ x)) (d : decode cc pc = .ok (.iload_n i, 1)) (pc' : Nat) (hp : pc + 1 = pc') (kk : Sm_ l g E nL en r k n pc' L (vi_ x :: st) m) : Sm_ l g E nL en r k n pc L (st) m := by
  subst hp
  exact Sm_go kk (fun H locs ls Q hR hS hl w => lv_iload_n C.1 C.2.1 d hj (lt_at hl hk) (w ls hl))
theorem s_iload (C : Cx_ l g E own cc nL lvl) {j : Nat} {x : Int32} (p : Nat) (hk : L[p]? = some (j, vi_ x)) (d : decode cc pc = .ok (.iload j, 2)) (pc' : Nat) (hp : pc + 2 = pc') (kk : Sm_ l g E nL en r k n pc' L (vi_ x :: st) m) : Sm_ l g E nL en r k n pc L (st) m := by
  subst hp
  exact Sm_go kk (fun H locs ls Q hR hS hl w => lv_iload C.1 C.2.1 d (lt_at hl hk) (w ls hl))
theorem s_lload_n (C : Cx_ l g E own cc nL lvl) {i : Fin 4} {j : Nat} {x : Int64} (hj : (i : Nat) = j) (p : Nat) (hk : L[p]? = some (j, vj_ x)) (d : decode cc pc = .ok (.lload_n i, 1)) (pc' : Nat) (hp : pc + 1 = pc') (kk : Sm_ l g E nL en r k n pc' L (vj_ x :: st) m) : Sm_ l g E nL en r k n pc L (st) m := by
  subst hp
  exact Sm_go kk (fun H locs ls Q hR hS hl w => lv_lload_n C.1 C.2.1 d hj (lt_at hl hk) (w ls hl))
theorem s_lload (C : Cx_ l g E own cc nL lvl) {j : Nat} {x : Int64} (p : Nat) (hk : L[p]? = some (j, vj_ x)) (d : decode cc pc = .ok (.lload j, 2)) (pc' : Nat) (hp : pc + 2 = pc') (kk : Sm_ l g E nL en r k n pc' L (vj_ x :: st) m) : Sm_ l g E nL en r k n pc L (st) m := by
  subst hp
  exact Sm_go kk (fun H locs ls Q hR hS hl w => lv_lload C.1 C.2.1 d (lt_at hl hk) (w ls hl))
theorem s_aload_n (C : Cx_ l g E own cc nL lvl) {i : Fin 4} {j : Nat} {x : Option Nat} (hj : (i : Nat) = j) (p : Nat) (hk : L[p]? = some (j, vr_ x)) (d : decode cc pc = .ok (.aload_n i, 1)) (pc' : Nat) (hp : pc + 1 = pc') (kk : Sm_ l g E nL en r k n pc' L (vr_ x :: st) m) : Sm_ l g E nL en r k n pc L st m := by
  subst hp
  cases x with
  | none => exact Sm_go kk (fun H locs ls Q hR hS hl w => lv_aload_nN C.1 C.2.1 d hj (lt_at hl hk) (w ls hl))
  | some q => exact Sm_go kk (fun H locs ls Q hR hS hl w => lv_aload_n C.1 C.2.1 d hj (lt_at hl hk) (w ls hl))
theorem s_aload (C : Cx_ l g E own cc nL lvl) {j : Nat} {x : Option Nat} (p : Nat) (hk : L[p]? = some (j, vr_ x)) (d : decode cc pc = .ok (.aload j, 2)) (pc' : Nat) (hp : pc + 2 = pc') (kk : Sm_ l g E nL en r k n pc' L (vr_ x :: st) m) : Sm_ l g E nL en r k n pc L st m := by
  subst hp
  cases x with
  | none => exact Sm_go kk (fun H locs ls Q hR hS hl w => lv_aloadN C.1 C.2.1 d (lt_at hl hk) (w ls hl))
  | some q => exact Sm_go kk (fun H locs ls Q hR hS hl w => lv_aload C.1 C.2.1 d (lt_at hl hk) (w ls hl))
theorem s_istore_n (C : Cx_ l g E own cc nL lvl) {i : Fin 4} {j : Nat} {x : Int32} (hj : (i : Nat) = j) (hn : j < nL) (ks : List Nat) (ok : so1_ L j ks = true) (hl' : (j, vi_ x) :: pk_ L ks = L') (d : decode cc pc = .ok (.istore_n i, 1)) (pc' : Nat) (hp : pc + 1 = pc') (kk : Sm_ l g E nL en r k n pc' L' st m) : Sm_ l g E nL en r k n pc L (vi_ x :: st) m := by
  subst hp
  exact Sm_go kk (fun H locs ls Q hR hS hl w => lv_istore_n C.1 C.2.1 d hj hl hn rfl (fun ls2 hl2 => w ls2 (lt_st1 (v := vi_ x) hl2 ks ok hl')))
theorem s_istore (C : Cx_ l g E own cc nL lvl) {j : Nat} {x : Int32} (hn : j < nL) (ks : List Nat) (ok : so1_ L j ks = true) (hl' : (j, vi_ x) :: pk_ L ks = L') (d : decode cc pc = .ok (.istore j, 2)) (pc' : Nat) (hp : pc + 2 = pc') (kk : Sm_ l g E nL en r k n pc' L' st m) : Sm_ l g E nL en r k n pc L (vi_ x :: st) m := by
  subst hp
  exact Sm_go kk (fun H locs ls Q hR hS hl w => lv_istore C.1 C.2.1 d hl hn rfl (fun ls2 hl2 => w ls2 (lt_st1 (v := vi_ x) hl2 ks ok hl')))
theorem s_lstore_n (C : Cx_ l g E own cc nL lvl) {i : Fin 4} {j : Nat} {x : Int64} (hj : (i : Nat) = j) (hn : j + 1 < nL) (ks : List Nat) (ok : so2_ L j ks = true) (hl' : (j, vj_ x) :: pk_ L ks = L') (d : decode cc pc = .ok (.lstore_n i, 1)) (pc' : Nat) (hp : pc + 1 = pc') (kk : Sm_ l g E nL en r k n pc' L' st m) : Sm_ l g E nL en r k n pc L (vj_ x :: st) m := by
  subst hp
  exact Sm_go kk (fun H locs ls Q hR hS hl w => lv_lstore_n C.1 C.2.1 d hj hl hn rfl (fun ls2 hl2 => w ls2 (lt_st2 (v := vj_ x) hl2 ks ok hl')))
theorem s_lstore (C : Cx_ l g E own cc nL lvl) {j : Nat} {x : Int64} (hn : j + 1 < nL) (ks : List Nat) (ok : so2_ L j ks = true) (hl' : (j, vj_ x) :: pk_ L ks = L') (d : decode cc pc = .ok (.lstore j, 2)) (pc' : Nat) (hp : pc + 2 = pc') (kk : Sm_ l g E nL en r k n pc' L' st m) : Sm_ l g E nL en r k n pc L (vj_ x :: st) m := by
  subst hp
  exact Sm_go kk (fun H locs ls Q hR hS hl w => lv_lstore C.1 C.2.1 d hl hn rfl (fun ls2 hl2 => w ls2 (lt_st2 (v := vj_ x) hl2 ks ok hl')))
theorem s_astore_n (C : Cx_ l g E own cc nL lvl) {i : Fin 4} {j : Nat} {x : Option Nat} (hj : (i : Nat) = j) (hn : j < nL) (ks : List Nat) (ok : so1_ L j ks = true) (hl' : (j, vr_ x) :: pk_ L ks = L') (d : decode cc pc = .ok (.astore_n i, 1)) (pc' : Nat) (hp : pc + 1 = pc') (kk : Sm_ l g E nL en r k n pc' L' st m) : Sm_ l g E nL en r k n pc L (vr_ x :: st) m := by
  subst hp
  cases x with
  | none => exact Sm_go kk (fun H locs ls Q hR hS hl w => lv_astore_nN C.1 C.2.1 d hj hl hn rfl (fun ls2 hl2 => w ls2 (lt_st1 (v := vr_ none) hl2 ks ok hl')))
  | some q => exact Sm_go kk (fun H locs ls Q hR hS hl w => lv_astore_n C.1 C.2.1 d hj hl hn rfl (fun ls2 hl2 => w ls2 (lt_st1 (v := vr_ (some q)) hl2 ks ok hl')))
theorem s_astore (C : Cx_ l g E own cc nL lvl) {j : Nat} {x : Option Nat} (hn : j < nL) (ks : List Nat) (ok : so1_ L j ks = true) (hl' : (j, vr_ x) :: pk_ L ks = L') (d : decode cc pc = .ok (.astore j, 2)) (pc' : Nat) (hp : pc + 2 = pc') (kk : Sm_ l g E nL en r k n pc' L' st m) : Sm_ l g E nL en r k n pc L (vr_ x :: st) m := by
  subst hp
  cases x with
  | none => exact Sm_go kk (fun H locs ls Q hR hS hl w => lv_astoreN C.1 C.2.1 d hl hn rfl (fun ls2 hl2 => w ls2 (lt_st1 (v := vr_ none) hl2 ks ok hl')))
  | some q => exact Sm_go kk (fun H locs ls Q hR hS hl w => lv_astore C.1 C.2.1 d hl hn rfl (fun ls2 hl2 => w ls2 (lt_st1 (v := vr_ (some q)) hl2 ks ok hl')))
theorem s_iinc (C : Cx_ l g E own cc nL lvl) {j : Nat} {z : Int} {x : Int32} (v : Int32) (hv : Int32.ofInt z = v) (p : Nat) (hk : L[p]? = some (j, vi_ x)) (hn : j < nL) (ks : List Nat) (ok : so1_ L j ks = true) (hl' : (j, vi_ (x + v)) :: pk_ L ks = L') (d : decode cc pc = .ok (.iinc j z, 3)) (pc' : Nat) (hp : pc + 3 = pc') (kk : Sm_ l g E nL en r k n pc' L' st m) : Sm_ l g E nL en r k n pc L st m := by
  subst hp; subst hv
  exact Sm_go kk (fun H locs ls Q hR hS hl w => lv_iinc (k := p) C.1 C.2.1 d hl (by rw [lt_, List.getElem?_map, hk]; rfl) rfl hn rfl (fun ls2 hl2 => w ls2 (lt_st1 (v := vi_ (x + Int32.ofInt z)) hl2 ks ok hl')))
theorem s_iadd (C : Cx_ l g E own cc nL lvl) {x y : Int32} (d : decode cc pc = .ok (.iadd, 1)) (pc' : Nat) (hp : pc + 1 = pc') (kk : Sm_ l g E nL en r k n pc' L (vi_ (x + y) :: st) m) : Sm_ l g E nL en r k n pc L (vi_ y :: vi_ x :: st) m := by
  subst hp
  exact Sm_go kk (fun H locs ls Q hR hS hl w => lv_iadd C.1 C.2.1 d (w ls hl))
theorem s_isub (C : Cx_ l g E own cc nL lvl) {x y : Int32} (d : decode cc pc = .ok (.isub, 1)) (pc' : Nat) (hp : pc + 1 = pc') (kk : Sm_ l g E nL en r k n pc' L (vi_ (x - y) :: st) m) : Sm_ l g E nL en r k n pc L (vi_ y :: vi_ x :: st) m := by
  subst hp
  exact Sm_go kk (fun H locs ls Q hR hS hl w => lv_isub C.1 C.2.1 d (w ls hl))
theorem s_imul (C : Cx_ l g E own cc nL lvl) {x y : Int32} (d : decode cc pc = .ok (.imul, 1)) (pc' : Nat) (hp : pc + 1 = pc') (kk : Sm_ l g E nL en r k n pc' L (vi_ (x * y) :: st) m) : Sm_ l g E nL en r k n pc L (vi_ y :: vi_ x :: st) m := by
  subst hp
  exact Sm_go kk (fun H locs ls Q hR hS hl w => lv_imul C.1 C.2.1 d (w ls hl))
theorem s_iand (C : Cx_ l g E own cc nL lvl) {x y : Int32} (d : decode cc pc = .ok (.iand, 1)) (pc' : Nat) (hp : pc + 1 = pc') (kk : Sm_ l g E nL en r k n pc' L (vi_ (x &&& y) :: st) m) : Sm_ l g E nL en r k n pc L (vi_ y :: vi_ x :: st) m := by
  subst hp
  exact Sm_go kk (fun H locs ls Q hR hS hl w => lv_iand C.1 C.2.1 d (w ls hl))
theorem s_ior (C : Cx_ l g E own cc nL lvl) {x y : Int32} (d : decode cc pc = .ok (.ior, 1)) (pc' : Nat) (hp : pc + 1 = pc') (kk : Sm_ l g E nL en r k n pc' L (vi_ (x ||| y) :: st) m) : Sm_ l g E nL en r k n pc L (vi_ y :: vi_ x :: st) m := by
  subst hp
  exact Sm_go kk (fun H locs ls Q hR hS hl w => lv_ior C.1 C.2.1 d (w ls hl))
theorem s_ixor (C : Cx_ l g E own cc nL lvl) {x y : Int32} (d : decode cc pc = .ok (.ixor, 1)) (pc' : Nat) (hp : pc + 1 = pc') (kk : Sm_ l g E nL en r k n pc' L (vi_ (x ^^^ y) :: st) m) : Sm_ l g E nL en r k n pc L (vi_ y :: vi_ x :: st) m := by
  subst hp
  exact Sm_go kk (fun H locs ls Q hR hS hl w => lv_ixor C.1 C.2.1 d (w ls hl))
theorem s_ishl (C : Cx_ l g E own cc nL lvl) {x y : Int32} (d : decode cc pc = .ok (.ishl, 1)) (pc' : Nat) (hp : pc + 1 = pc') (kk : Sm_ l g E nL en r k n pc' L (vi_ (x <<< (y &&& 31)) :: st) m) : Sm_ l g E nL en r k n pc L (vi_ y :: vi_ x :: st) m := by
  subst hp
  exact Sm_go kk (fun H locs ls Q hR hS hl w => lv_ishl C.1 C.2.1 d (w ls hl))
theorem s_ishr (C : Cx_ l g E own cc nL lvl) {x y : Int32} (d : decode cc pc = .ok (.ishr, 1)) (pc' : Nat) (hp : pc + 1 = pc') (kk : Sm_ l g E nL en r k n pc' L (vi_ (x >>> (y &&& 31)) :: st) m) : Sm_ l g E nL en r k n pc L (vi_ y :: vi_ x :: st) m := by
  subst hp
  exact Sm_go kk (fun H locs ls Q hR hS hl w => lv_ishr C.1 C.2.1 d (w ls hl))
theorem s_iushr (C : Cx_ l g E own cc nL lvl) {x y : Int32} (d : decode cc pc = .ok (.iushr, 1)) (pc' : Nat) (hp : pc + 1 = pc') (kk : Sm_ l g E nL en r k n pc' L (vi_ ((x.toUInt32 >>> (y.toUInt32 &&& Int32.toUInt32 31)).toInt32) :: st) m) : Sm_ l g E nL en r k n pc L (vi_ y :: vi_ x :: st) m := by
  subst hp
  exact Sm_go kk (fun H locs ls Q hR hS hl w => lv_iushr C.1 C.2.1 d rfl (w ls hl))
theorem s_ineg (C : Cx_ l g E own cc nL lvl) {x : Int32} (d : decode cc pc = .ok (.ineg, 1)) (pc' : Nat) (hp : pc + 1 = pc') (kk : Sm_ l g E nL en r k n pc' L (vi_ (-x) :: st) m) : Sm_ l g E nL en r k n pc L (vi_ x :: st) m := by
  subst hp
  exact Sm_go kk (fun H locs ls Q hR hS hl w => lv_ineg C.1 C.2.1 d (w ls hl))
theorem s_idiv (C : Cx_ l g E own cc nL lvl) {x y : Int32} (hne : ¬ y = 0) (d : decode cc pc = .ok (.idiv, 1)) (pc' : Nat) (hp : pc + 1 = pc') (kk : Sm_ l g E nL en r k n pc' L (vi_ (x / y) :: st) m) : Sm_ l g E nL en r k n pc L (vi_ y :: vi_ x :: st) m := by
  subst hp
  exact Sm_go kk (fun H locs ls Q hR hS hl w => lv_idiv C.1 C.2.1 d hne (w ls hl))
theorem s_irem (C : Cx_ l g E own cc nL lvl) {x y : Int32} (hne : ¬ y = 0) (d : decode cc pc = .ok (.irem, 1)) (pc' : Nat) (hp : pc + 1 = pc') (kk : Sm_ l g E nL en r k n pc' L (vi_ (x - x / y * y) :: st) m) : Sm_ l g E nL en r k n pc L (vi_ y :: vi_ x :: st) m := by
  subst hp
  exact Sm_go kk (fun H locs ls Q hR hS hl w => lv_irem C.1 C.2.1 d hne (w ls hl))
theorem s_ladd (C : Cx_ l g E own cc nL lvl) {x y : Int64} (d : decode cc pc = .ok (.ladd, 1)) (pc' : Nat) (hp : pc + 1 = pc') (kk : Sm_ l g E nL en r k n pc' L (vj_ (x + y) :: st) m) : Sm_ l g E nL en r k n pc L (vj_ y :: vj_ x :: st) m := by
  subst hp
  exact Sm_go kk (fun H locs ls Q hR hS hl w => lv_ladd C.1 C.2.1 d (w ls hl))
theorem s_lsub (C : Cx_ l g E own cc nL lvl) {x y : Int64} (d : decode cc pc = .ok (.lsub, 1)) (pc' : Nat) (hp : pc + 1 = pc') (kk : Sm_ l g E nL en r k n pc' L (vj_ (x - y) :: st) m) : Sm_ l g E nL en r k n pc L (vj_ y :: vj_ x :: st) m := by
  subst hp
  exact Sm_go kk (fun H locs ls Q hR hS hl w => lv_lsub C.1 C.2.1 d (w ls hl))
theorem s_land (C : Cx_ l g E own cc nL lvl) {x y : Int64} (d : decode cc pc = .ok (.land, 1)) (pc' : Nat) (hp : pc + 1 = pc') (kk : Sm_ l g E nL en r k n pc' L (vj_ (x &&& y) :: st) m) : Sm_ l g E nL en r k n pc L (vj_ y :: vj_ x :: st) m := by
  subst hp
  exact Sm_go kk (fun H locs ls Q hR hS hl w => lv_land C.1 C.2.1 d (w ls hl))
theorem s_lor (C : Cx_ l g E own cc nL lvl) {x y : Int64} (d : decode cc pc = .ok (.lor, 1)) (pc' : Nat) (hp : pc + 1 = pc') (kk : Sm_ l g E nL en r k n pc' L (vj_ (x ||| y) :: st) m) : Sm_ l g E nL en r k n pc L (vj_ y :: vj_ x :: st) m := by
  subst hp
  exact Sm_go kk (fun H locs ls Q hR hS hl w => lv_lor C.1 C.2.1 d (w ls hl))
theorem s_lxor (C : Cx_ l g E own cc nL lvl) {x y : Int64} (d : decode cc pc = .ok (.lxor, 1)) (pc' : Nat) (hp : pc + 1 = pc') (kk : Sm_ l g E nL en r k n pc' L (vj_ (x ^^^ y) :: st) m) : Sm_ l g E nL en r k n pc L (vj_ y :: vj_ x :: st) m := by
  subst hp
  exact Sm_go kk (fun H locs ls Q hR hS hl w => lv_lxor C.1 C.2.1 d (w ls hl))
theorem s_lneg (C : Cx_ l g E own cc nL lvl) {x : Int64} (d : decode cc pc = .ok (.lneg, 1)) (pc' : Nat) (hp : pc + 1 = pc') (kk : Sm_ l g E nL en r k n pc' L (vj_ (-x) :: st) m) : Sm_ l g E nL en r k n pc L (vj_ x :: st) m := by
  subst hp
  exact Sm_go kk (fun H locs ls Q hR hS hl w => lv_lneg C.1 C.2.1 d (w ls hl))
theorem s_lshl (C : Cx_ l g E own cc nL lvl) {x : Int64} {y : Int32} (d : decode cc pc = .ok (.lshl, 1)) (pc' : Nat) (hp : pc + 1 = pc') (kk : Sm_ l g E nL en r k n pc' L (vj_ (x <<< (y.toInt64 &&& 63)) :: st) m) : Sm_ l g E nL en r k n pc L (vi_ y :: vj_ x :: st) m := by
  subst hp
  exact Sm_go kk (fun H locs ls Q hR hS hl w => lv_lshl C.1 C.2.1 d rfl (w ls hl))
theorem s_lshr (C : Cx_ l g E own cc nL lvl) {x : Int64} {y : Int32} (d : decode cc pc = .ok (.lshr, 1)) (pc' : Nat) (hp : pc + 1 = pc') (kk : Sm_ l g E nL en r k n pc' L (vj_ (x >>> (y.toInt64 &&& 63)) :: st) m) : Sm_ l g E nL en r k n pc L (vi_ y :: vj_ x :: st) m := by
  subst hp
  exact Sm_go kk (fun H locs ls Q hR hS hl w => lv_lshr C.1 C.2.1 d rfl (w ls hl))
theorem s_lushr (C : Cx_ l g E own cc nL lvl) {x : Int64} {y : Int32} (d : decode cc pc = .ok (.lushr, 1)) (pc' : Nat) (hp : pc + 1 = pc') (kk : Sm_ l g E nL en r k n pc' L (vj_ ((x.toUInt64 >>> (y.toInt64.toUInt64 &&& Int64.toUInt64 63)).toInt64) :: st) m) : Sm_ l g E nL en r k n pc L (vi_ y :: vj_ x :: st) m := by
  subst hp
  exact Sm_go kk (fun H locs ls Q hR hS hl w => lv_lushr C.1 C.2.1 d rfl (w ls hl))
theorem s_lcmp (C : Cx_ l g E own cc nL lvl) {x y : Int64} (d : decode cc pc = .ok (.lcmp, 1)) (pc' : Nat) (hp : pc + 1 = pc') (kk : Sm_ l g E nL en r k n pc' L (vi_ (lg_cmp x y) :: st) m) : Sm_ l g E nL en r k n pc L (vj_ y :: vj_ x :: st) m := by
  subst hp
  exact Sm_go kk (fun H locs ls Q hR hS hl w => W.lcmp C.1 C.2.1 d (w ls hl))
theorem s_i2l (C : Cx_ l g E own cc nL lvl) {x : Int32} (d : decode cc pc = .ok (.i2l, 1)) (pc' : Nat) (hp : pc + 1 = pc') (kk : Sm_ l g E nL en r k n pc' L (vj_ x.toInt64 :: st) m) : Sm_ l g E nL en r k n pc L (vi_ x :: st) m := by
  subst hp
  exact Sm_go kk (fun H locs ls Q hR hS hl w => lv_i2l C.1 C.2.1 d rfl (w ls hl))
theorem s_l2i (C : Cx_ l g E own cc nL lvl) {x : Int64} (d : decode cc pc = .ok (.l2i, 1)) (pc' : Nat) (hp : pc + 1 = pc') (kk : Sm_ l g E nL en r k n pc' L (vi_ x.toInt32 :: st) m) : Sm_ l g E nL en r k n pc L (vj_ x :: st) m := by
  subst hp
  exact Sm_go kk (fun H locs ls Q hR hS hl w => lv_l2i C.1 C.2.1 d rfl (w ls hl))
theorem s_i2b (C : Cx_ l g E own cc nL lvl) {x : Int32} (d : decode cc pc = .ok (.i2b, 1)) (pc' : Nat) (hp : pc + 1 = pc') (kk : Sm_ l g E nL en r k n pc' L (vi_ x.toInt8.toInt32 :: st) m) : Sm_ l g E nL en r k n pc L (vi_ x :: st) m := by
  subst hp
  exact Sm_go kk (fun H locs ls Q hR hS hl w => lv_i2b C.1 C.2.1 d rfl (w ls hl))
theorem s_i2c (C : Cx_ l g E own cc nL lvl) {x : Int32} (d : decode cc pc = .ok (.i2c, 1)) (pc' : Nat) (hp : pc + 1 = pc') (kk : Sm_ l g E nL en r k n pc' L (vi_ (x.toUInt32 % 65536).toInt32 :: st) m) : Sm_ l g E nL en r k n pc L (vi_ x :: st) m := by
  subst hp
  exact Sm_go kk (fun H locs ls Q hR hS hl w => lv_i2c C.1 C.2.1 d rfl (w ls hl))
theorem s_dup (C : Cx_ l g E own cc nL lvl) {x : TV} (hx : tl_ x = false) (d : decode cc pc = .ok (.dup, 1)) (pc' : Nat) (hp : pc + 1 = pc') (kk : Sm_ l g E nL en r k n pc' L (x :: x :: st) m) : Sm_ l g E nL en r k n pc L (x :: st) m := by
  subst hp
  exact Sm_go kk (fun H locs ls Q hR hS hl w => lv_dup C.1 C.2.1 d (by show (tv_ x).category = 1; rw [tv_cat, hx]; rfl) (w ls hl))
theorem s_pop (C : Cx_ l g E own cc nL lvl) {x : TV} (hx : tl_ x = false) (d : decode cc pc = .ok (.pop, 1)) (pc' : Nat) (hp : pc + 1 = pc') (kk : Sm_ l g E nL en r k n pc' L (st) m) : Sm_ l g E nL en r k n pc L (x :: st) m := by
  subst hp
  exact Sm_go kk (fun H locs ls Q hR hS hl w => lv_pop C.1 C.2.1 d (by show (tv_ x).category = 1; rw [tv_cat, hx]; rfl) (w ls hl))
theorem s_dup_x1 (C : Cx_ l g E own cc nL lvl) {x y : TV} (hx : tl_ x = false) (hy : tl_ y = false) (d : decode cc pc = .ok (.dup_x1, 1)) (pc' : Nat) (hp : pc + 1 = pc') (kk : Sm_ l g E nL en r k n pc' L (x :: y :: x :: st) m) : Sm_ l g E nL en r k n pc L (x :: y :: st) m := by
  subst hp
  exact Sm_go kk (fun H locs ls Q hR hS hl w => lv_dup_x1 C.1 C.2.1 d (by show (tv_ x).category = 1; rw [tv_cat, hx]; rfl) (by show (tv_ y).category = 1; rw [tv_cat, hy]; rfl) (w ls hl))
theorem s_dup_x2 (C : Cx_ l g E own cc nL lvl) {x y z : TV} (hx : tl_ x = false) (hy : tl_ y = false) (hz : tl_ z = false) (d : decode cc pc = .ok (.dup_x2, 1)) (pc' : Nat) (hp : pc + 1 = pc') (kk : Sm_ l g E nL en r k n pc' L (x :: y :: z :: x :: st) m) : Sm_ l g E nL en r k n pc L (x :: y :: z :: st) m := by
  subst hp
  exact Sm_go kk (fun H locs ls Q hR hS hl w => lv_dup_x2 C.1 C.2.1 d (by show (tv_ x).category = 1; rw [tv_cat, hx]; rfl) (by show (tv_ y).category = 1; rw [tv_cat, hy]; rfl) (by show (tv_ z).category = 1; rw [tv_cat, hz]; rfl) (w ls hl))
theorem s_dup2_11 (C : Cx_ l g E own cc nL lvl) {x y : TV} (hx : tl_ x = false) (hy : tl_ y = false) (d : decode cc pc = .ok (.dup2, 1)) (pc' : Nat) (hp : pc + 1 = pc') (kk : Sm_ l g E nL en r k n pc' L (x :: y :: x :: y :: st) m) : Sm_ l g E nL en r k n pc L (x :: y :: st) m := by
  subst hp
  exact Sm_go kk (fun H locs ls Q hR hS hl w => lv_dup2_11 C.1 C.2.1 d (by show (tv_ x).category = 1; rw [tv_cat, hx]; rfl) (by show (tv_ y).category = 1; rw [tv_cat, hy]; rfl) (w ls hl))
theorem s_dup2_2 (C : Cx_ l g E own cc nL lvl) {x : TV} (hx : tl_ x = true) (d : decode cc pc = .ok (.dup2, 1)) (pc' : Nat) (hp : pc + 1 = pc') (kk : Sm_ l g E nL en r k n pc' L (x :: x :: st) m) : Sm_ l g E nL en r k n pc L (x :: st) m := by
  subst hp
  exact Sm_go kk (fun H locs ls Q hR hS hl w => lv_dup2_2 C.1 C.2.1 d (by show (tv_ x).category = 2; rw [tv_cat, hx]; rfl) (w ls hl))
theorem s_pop2_2 (C : Cx_ l g E own cc nL lvl) {x : TV} (hx : tl_ x = true) (d : decode cc pc = .ok (.pop2, 1)) (pc' : Nat) (hp : pc + 1 = pc') (kk : Sm_ l g E nL en r k n pc' L (st) m) : Sm_ l g E nL en r k n pc L (x :: st) m := by
  subst hp
  exact Sm_go kk (fun H locs ls Q hR hS hl w => lv_pop2_2 C.1 C.2.1 d (by show (tv_ x).category = 2; rw [tv_cat, hx]; rfl) (w ls hl))
theorem s_dup2_x1_2 (C : Cx_ l g E own cc nL lvl) {x y : TV} (hx : tl_ x = true) (hy : tl_ y = false) (d : decode cc pc = .ok (.dup2_x1, 1)) (pc' : Nat) (hp : pc + 1 = pc') (kk : Sm_ l g E nL en r k n pc' L (x :: y :: x :: st) m) : Sm_ l g E nL en r k n pc L (x :: y :: st) m := by
  subst hp
  exact Sm_go kk (fun H locs ls Q hR hS hl w => lv_dup2_x1_2 C.1 C.2.1 d (by show (tv_ x).category = 2; rw [tv_cat, hx]; rfl) (by show (tv_ y).category = 1; rw [tv_cat, hy]; rfl) (w ls hl))
theorem s_ldc (C : Cx_ l g E own cc nL lvl) {i : Nat} (v : Int32) (h : (Cond.constant own i v) ∈ lw_all) (d : decode cc pc = .ok (.ldc i, 2)) (pc' : Nat) (hp : pc + 2 = pc') (kk : Sm_ l g E nL en r k n pc' L (vi_ v :: st) m) : Sm_ l g E nL en r k n pc L (st) m := by
  subst hp
  exact Sm_go kk (fun H locs ls Q hR hS hl w => lv_ldc C.1 C.2.1 C.2.2.2.1 (C.2.2.2.2.1 _ h) d (w ls hl))
theorem s_ldc2 (C : Cx_ l g E own cc nL lvl) {i : Nat} (v : Int64) (h : (Cond.constantLong own i v) ∈ lw_all) (d : decode cc pc = .ok (.ldc2_w i, 3)) (pc' : Nat) (hp : pc + 3 = pc') (kk : Sm_ l g E nL en r k n pc' L (vj_ v :: st) m) : Sm_ l g E nL en r k n pc L (st) m := by
  subst hp
  exact Sm_go kk (fun H locs ls Q hR hS hl w => lv_ldc2 C.1 C.2.1 C.2.2.2.1 (C.2.2.2.2.1 _ h) d (w ls hl))
theorem s_goto (C : Cx_ l g E own cc nL lvl) {off : Int} (tgt : Nat) (d : decode cc pc = .ok (.goto off, 3)) (ht : (pc : Int) + off = (tgt : Int)) (kk : Sm_ l g E nL en r k n tgt L st m) : Sm_ l g E nL en r k n pc L st m :=
  Sm_go kk (fun H locs ls Q hR hS hl w => lv_goto C.1 C.2.1 d ht (w ls hl))
theorem Sm_if {c : Prop} {hc : Decidable c} {r1 r2 : Rs α} {pcT pcF : Nat} {st' : List TV}
    (h : ∀ (H : Heap) (locs : List Loc) (ls : Array Slot) (Q : State → Prop), lv_has ls nL (lt_ L) → (c → Wt_ l E H locs k n Q (F0 (eM_ E) pcT ls (sv_ st'))) → (¬ c → Wt_ l E H locs k n Q (F0 (eM_ E) pcF ls (sv_ st'))) → Wt_ l E H locs k n Q (F0 (eM_ E) pc ls (sv_ st)))
    (kt : c → Sm_ l g E nL en r1 k n pcT L st' m) (kf : ¬ c → Sm_ l g E nL en r2 k n pcF L st' m) : Sm_ l g E nL en (@ite (Rs α) c hc r1 r2) k n pc L st m := by
  intro v m' k' n' hr h1 h2 H locs ls hR hS hl
  by_cases hcc : c
  · rw [if_pos hcc] at hr
    exact h H locs ls _ hl (fun q => kt q v m' k' n' hr h1 h2 H locs ls hR hS hl) (fun q => absurd hcc q)
  · rw [if_neg hcc] at hr
    exact h H locs ls _ hl (fun q => absurd q hcc) (fun q => kf q v m' k' n' hr h1 h2 H locs ls hR hS hl)
theorem s_if_eq (C : Cx_ l g E own cc nL lvl) {x : Int32} {off : Int} {r1 r2 : Rs α} (d : decode cc pc = .ok (.ifCond .eq off, 3)) (tgt : Nat) (ht : (pc : Int) + off = (tgt : Int)) (pc' : Nat) (hp : pc + 3 = pc') (kt : x = 0 → Sm_ l g E nL en r1 k n tgt L st m) (kf : ¬ x = 0 → Sm_ l g E nL en r2 k n pc' L st m) : Sm_ l g E nL en (if x = 0 then r1 else r2) k n pc L (vi_ x :: st) m := by
  subst hp
  exact Sm_if (fun H locs ls Q hl wt wf => lv_if_eq C.1 C.2.1 d ht (fun q => wt (q)) (fun q => wf (q))) kt kf
theorem s_if_ne (C : Cx_ l g E own cc nL lvl) {x : Int32} {off : Int} {r1 r2 : Rs α} (d : decode cc pc = .ok (.ifCond .ne off, 3)) (tgt : Nat) (ht : (pc : Int) + off = (tgt : Int)) (pc' : Nat) (hp : pc + 3 = pc') (kt : x = 0 → Sm_ l g E nL en r1 k n pc' L st m) (kf : ¬ x = 0 → Sm_ l g E nL en r2 k n tgt L st m) : Sm_ l g E nL en (if x = 0 then r1 else r2) k n pc L (vi_ x :: st) m := by
  subst hp
  exact Sm_if (fun H locs ls Q hl wt wf => lv_if_ne C.1 C.2.1 d ht (fun q => wf (q)) (fun q => wt (q))) kt kf
theorem s_if_lt (C : Cx_ l g E own cc nL lvl) {x : Int32} {off : Int} {r1 r2 : Rs α} (d : decode cc pc = .ok (.ifCond .lt off, 3)) (tgt : Nat) (ht : (pc : Int) + off = (tgt : Int)) (pc' : Nat) (hp : pc + 3 = pc') (kt : x < 0 → Sm_ l g E nL en r1 k n tgt L st m) (kf : ¬ x < 0 → Sm_ l g E nL en r2 k n pc' L st m) : Sm_ l g E nL en (if x < 0 then r1 else r2) k n pc L (vi_ x :: st) m := by
  subst hp
  exact Sm_if (fun H locs ls Q hl wt wf => lv_if_lt C.1 C.2.1 d ht (fun q => wt (q)) (fun q => wf (q))) kt kf
theorem s_if_ge (C : Cx_ l g E own cc nL lvl) {x : Int32} {off : Int} {r1 r2 : Rs α} (d : decode cc pc = .ok (.ifCond .ge off, 3)) (tgt : Nat) (ht : (pc : Int) + off = (tgt : Int)) (pc' : Nat) (hp : pc + 3 = pc') (kt : x < 0 → Sm_ l g E nL en r1 k n pc' L st m) (kf : ¬ x < 0 → Sm_ l g E nL en r2 k n tgt L st m) : Sm_ l g E nL en (if x < 0 then r1 else r2) k n pc L (vi_ x :: st) m := by
  subst hp
  exact Sm_if (fun H locs ls Q hl wt wf => lv_if_ge C.1 C.2.1 d ht (fun q => wf (Int32.not_lt.mpr q)) (fun q => wt (Int32.not_le.mp q))) kt kf
theorem s_if_gt (C : Cx_ l g E own cc nL lvl) {x : Int32} {off : Int} {r1 r2 : Rs α} (d : decode cc pc = .ok (.ifCond .gt off, 3)) (tgt : Nat) (ht : (pc : Int) + off = (tgt : Int)) (pc' : Nat) (hp : pc + 3 = pc') (kt : 0 < x → Sm_ l g E nL en r1 k n tgt L st m) (kf : ¬ 0 < x → Sm_ l g E nL en r2 k n pc' L st m) : Sm_ l g E nL en (if 0 < x then r1 else r2) k n pc L (vi_ x :: st) m := by
  subst hp
  exact Sm_if (fun H locs ls Q hl wt wf => lv_if_gt C.1 C.2.1 d ht (fun q => wt (q)) (fun q => wf (q))) kt kf
theorem s_if_le (C : Cx_ l g E own cc nL lvl) {x : Int32} {off : Int} {r1 r2 : Rs α} (d : decode cc pc = .ok (.ifCond .le off, 3)) (tgt : Nat) (ht : (pc : Int) + off = (tgt : Int)) (pc' : Nat) (hp : pc + 3 = pc') (kt : 0 < x → Sm_ l g E nL en r1 k n pc' L st m) (kf : ¬ 0 < x → Sm_ l g E nL en r2 k n tgt L st m) : Sm_ l g E nL en (if 0 < x then r1 else r2) k n pc L (vi_ x :: st) m := by
  subst hp
  exact Sm_if (fun H locs ls Q hl wt wf => lv_if_le C.1 C.2.1 d ht (fun q => wf (Int32.not_lt.mpr q)) (fun q => wt (Int32.not_le.mp q))) kt kf
theorem s_icmp_eq (C : Cx_ l g E own cc nL lvl) {x y : Int32} {off : Int} {r1 r2 : Rs α} (d : decode cc pc = .ok (.if_icmp .eq off, 3)) (tgt : Nat) (ht : (pc : Int) + off = (tgt : Int)) (pc' : Nat) (hp : pc + 3 = pc') (kt : x = y → Sm_ l g E nL en r1 k n tgt L st m) (kf : ¬ x = y → Sm_ l g E nL en r2 k n pc' L st m) : Sm_ l g E nL en (if x = y then r1 else r2) k n pc L (vi_ y :: vi_ x :: st) m := by
  subst hp
  exact Sm_if (fun H locs ls Q hl wt wf => lv_icmp_eq C.1 C.2.1 d ht (fun q => wt (q)) (fun q => wf (q))) kt kf
theorem s_icmp_ne (C : Cx_ l g E own cc nL lvl) {x y : Int32} {off : Int} {r1 r2 : Rs α} (d : decode cc pc = .ok (.if_icmp .ne off, 3)) (tgt : Nat) (ht : (pc : Int) + off = (tgt : Int)) (pc' : Nat) (hp : pc + 3 = pc') (kt : x = y → Sm_ l g E nL en r1 k n pc' L st m) (kf : ¬ x = y → Sm_ l g E nL en r2 k n tgt L st m) : Sm_ l g E nL en (if x = y then r1 else r2) k n pc L (vi_ y :: vi_ x :: st) m := by
  subst hp
  exact Sm_if (fun H locs ls Q hl wt wf => lv_icmp_ne C.1 C.2.1 d ht (fun q => wf (q)) (fun q => wt (q))) kt kf
theorem s_icmp_lt (C : Cx_ l g E own cc nL lvl) {x y : Int32} {off : Int} {r1 r2 : Rs α} (d : decode cc pc = .ok (.if_icmp .lt off, 3)) (tgt : Nat) (ht : (pc : Int) + off = (tgt : Int)) (pc' : Nat) (hp : pc + 3 = pc') (kt : x < y → Sm_ l g E nL en r1 k n tgt L st m) (kf : ¬ x < y → Sm_ l g E nL en r2 k n pc' L st m) : Sm_ l g E nL en (if x < y then r1 else r2) k n pc L (vi_ y :: vi_ x :: st) m := by
  subst hp
  exact Sm_if (fun H locs ls Q hl wt wf => lv_icmp_lt C.1 C.2.1 d ht (fun q => wt (q)) (fun q => wf (q))) kt kf
theorem s_icmp_ge (C : Cx_ l g E own cc nL lvl) {x y : Int32} {off : Int} {r1 r2 : Rs α} (d : decode cc pc = .ok (.if_icmp .ge off, 3)) (tgt : Nat) (ht : (pc : Int) + off = (tgt : Int)) (pc' : Nat) (hp : pc + 3 = pc') (kt : x < y → Sm_ l g E nL en r1 k n pc' L st m) (kf : ¬ x < y → Sm_ l g E nL en r2 k n tgt L st m) : Sm_ l g E nL en (if x < y then r1 else r2) k n pc L (vi_ y :: vi_ x :: st) m := by
  subst hp
  exact Sm_if (fun H locs ls Q hl wt wf => lv_icmp_ge C.1 C.2.1 d ht (fun q => wf (Int32.not_lt.mpr q)) (fun q => wt (Int32.not_le.mp q))) kt kf
theorem s_icmp_gt (C : Cx_ l g E own cc nL lvl) {x y : Int32} {off : Int} {r1 r2 : Rs α} (d : decode cc pc = .ok (.if_icmp .gt off, 3)) (tgt : Nat) (ht : (pc : Int) + off = (tgt : Int)) (pc' : Nat) (hp : pc + 3 = pc') (kt : y < x → Sm_ l g E nL en r1 k n tgt L st m) (kf : ¬ y < x → Sm_ l g E nL en r2 k n pc' L st m) : Sm_ l g E nL en (if y < x then r1 else r2) k n pc L (vi_ y :: vi_ x :: st) m := by
  subst hp
  exact Sm_if (fun H locs ls Q hl wt wf => lv_icmp_gt C.1 C.2.1 d ht (fun q => wt (q)) (fun q => wf (q))) kt kf
theorem s_icmp_le (C : Cx_ l g E own cc nL lvl) {x y : Int32} {off : Int} {r1 r2 : Rs α} (d : decode cc pc = .ok (.if_icmp .le off, 3)) (tgt : Nat) (ht : (pc : Int) + off = (tgt : Int)) (pc' : Nat) (hp : pc + 3 = pc') (kt : y < x → Sm_ l g E nL en r1 k n pc' L st m) (kf : ¬ y < x → Sm_ l g E nL en r2 k n tgt L st m) : Sm_ l g E nL en (if y < x then r1 else r2) k n pc L (vi_ y :: vi_ x :: st) m := by
  subst hp
  exact Sm_if (fun H locs ls Q hl wt wf => lv_icmp_le C.1 C.2.1 d ht (fun q => wf (Int32.not_lt.mpr q)) (fun q => wt (Int32.not_le.mp q))) kt kf
theorem s_acmp_eq (C : Cx_ l g E own cc nL lvl) {x y : Option Nat} {off : Int} {r1 r2 : Rs α} (d : decode cc pc = .ok (.if_acmp .eq off, 3)) (tgt : Nat) (ht : (pc : Int) + off = (tgt : Int)) (pc' : Nat) (hp : pc + 3 = pc') (kt : x = y → Sm_ l g E nL en r1 k n tgt L st m) (kf : ¬ x = y → Sm_ l g E nL en r2 k n pc' L st m) : Sm_ l g E nL en (if x = y then r1 else r2) k n pc L (vr_ y :: vr_ x :: st) m := by
  subst hp
  exact Sm_if (fun H locs ls Q hl wt wf => lv_acmp_eq C.1 C.2.1 d ht wt wf) kt kf
theorem s_acmp_ne (C : Cx_ l g E own cc nL lvl) {x y : Option Nat} {off : Int} {r1 r2 : Rs α} (d : decode cc pc = .ok (.if_acmp .ne off, 3)) (tgt : Nat) (ht : (pc : Int) + off = (tgt : Int)) (pc' : Nat) (hp : pc + 3 = pc') (kt : x = y → Sm_ l g E nL en r1 k n pc' L st m) (kf : ¬ x = y → Sm_ l g E nL en r2 k n tgt L st m) : Sm_ l g E nL en (if x = y then r1 else r2) k n pc L (vr_ y :: vr_ x :: st) m := by
  subst hp
  exact Sm_if (fun H locs ls Q hl wt wf => lv_acmp_ne C.1 C.2.1 d ht wf wt) kt kf
theorem s_ifnull (C : Cx_ l g E own cc nL lvl) {x : Option Nat} {off : Int} {r1 r2 : Rs α} (d : decode cc pc = .ok (.ifnull off, 3)) (tgt : Nat) (ht : (pc : Int) + off = (tgt : Int)) (pc' : Nat) (hp : pc + 3 = pc') (kt : x = none → Sm_ l g E nL en r1 k n tgt L st m) (kf : ¬ x = none → Sm_ l g E nL en r2 k n pc' L st m) : Sm_ l g E nL en (if x = none then r1 else r2) k n pc L (vr_ x :: st) m := by
  subst hp
  cases x with
  | none => exact Sm_if (fun H locs ls Q hl wt wf => lv_ifnullN C.1 C.2.1 d ht (wt rfl)) kt kf
  | some q => exact Sm_if (fun H locs ls Q hl wt wf => lv_ifnull C.1 C.2.1 d (wf (fun h => by cases h))) kt kf
theorem s_ifnonnull (C : Cx_ l g E own cc nL lvl) {x : Option Nat} {off : Int} {r1 r2 : Rs α} (d : decode cc pc = .ok (.ifnonnull off, 3)) (tgt : Nat) (ht : (pc : Int) + off = (tgt : Int)) (pc' : Nat) (hp : pc + 3 = pc') (kt : x = none → Sm_ l g E nL en r1 k n pc' L st m) (kf : ¬ x = none → Sm_ l g E nL en r2 k n tgt L st m) : Sm_ l g E nL en (if x = none then r1 else r2) k n pc L (vr_ x :: st) m := by
  subst hp
  cases x with
  | none => exact Sm_if (fun H locs ls Q hl wt wf => lv_ifnonnullN C.1 C.2.1 d (wt rfl)) kt kf
  | some q => exact Sm_if (fun H locs ls Q hl wt wf => lv_ifnonnull C.1 C.2.1 d ht (wf (fun h => by cases h))) kt kf
end RW
