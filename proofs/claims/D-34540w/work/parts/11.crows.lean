section CRW
variable {α : Type} {l : Launch} {g : GG} {E : Me_} {own : String} {cc : ByteArray} {nL lvl : Nat} {en : α → Fn_} {k n pc : Nat} {L L' : List (Nat × TV)} {st : List TV} {m : Mm}
/-- cells made -/
theorem Sm_tk {c z pc' : Nat} {st' : List TV} {m' : Mm} {r : Rs α} (kk : Sm_ l g E nL en r (k + c) (n + z) pc' L st' m')
    (h : ∀ (H : Heap) (locs : List Loc) (ls : Array Slot) (Q : State → Prop), Rp_ g m H → va_S (fr_ g) (eS_ E).heap H locs → lv_has ls nL (lt_ L) → k + c ≤ (eR_ E).cells → n + z ≤ (eR_ E).slots → (∀ H' : Heap, Rp_ g m' H' → va_S (fr_ g) (eS_ E).heap H' locs → Wt_ l E H' locs (k + c) (n + z) Q (F0 (eM_ E) pc' ls (sv_ st'))) → Wt_ l E H locs k n Q (F0 (eM_ E) pc ls (sv_ st))) :
    Sm_ l g E nL en (tk_ c z r) k n pc L st m := by
  intro v m0 k0 n0 hr h1 h2 H locs ls hR hS hl
  cases hrr : r with
  | none => rw [hrr] at hr; cases hr
  | some x =>
    obtain ⟨v1, m1, k1, n1⟩ := x
    rw [hrr] at hr
    cases hr
    refine h H locs ls _ hR hS hl (by omega) (by omega) (fun H' hR' hS' => ?_)
    have e1 : k + (c + k1) = k + c + k1 := by omega
    have e2 : n + (z + n1) = n + z + n1 := by omega
    rw [e1, e2]
    exact kk _ _ _ _ hrr (by omega) (by omega) H' locs ls hR' hS' hl
theorem rp_al {H H' : Heap} {m : Mm} (kd len : Nat) (hR : Rp_ g m H) (ha : ra_ g (al_ m kd len) H' (mz_ m)) (hz : H'.size = mz_ m + 1) (ho : ∀ q, q < mz_ m → H'[q]? = H[q]?) (hst : ∃ ce : Cell, H'[mz_ m]? = some ce ∧ ce.vm.isStatics = false) : Rp_ g (al_ m kd len) H' := by
  obtain ⟨h1, h2, h3, h4, h5, h6, h7, h8⟩ := hR
  refine ⟨hz, h2, Nat.le_succ_of_le h3, fun a => ?_, fun a h => ?_, fun a => ?_, fun q hq => ?_, fun q g1 g2 => ?_⟩
  · by_cases e : a = mz_ m
    · rw [e]; exact ha
    · by_cases hlt : a < mz_ m
      · exact ra_kept (h4 a) (ho a hlt) (by rw [mk_al, if_neg e]) (by rw [ml_al, if_neg e]) (fun j => by rw [mi_al, if_neg e]) (fun j => by rw [mj_al, if_neg e]) (fun j => by rw [mr_al, if_neg e])
      · have h0 : mk_ (al_ m kd len) a = 0 := by rw [mk_al, if_neg e]; exact h5 a (by omega)
        refine ⟨fun ci r e1 _ => ?_, fun t ty e1 _ => ?_, fun i _ e1 => ?_, fun i _ e1 => ?_⟩ <;> omega
  · rw [mk_al, if_neg (by rw [mz_al] at h; omega)]
    exact h5 a (by rw [mz_al] at h; omega)
  · by_cases e : a = mz_ m
    · exact Or.inr (Or.inr (by rw [e]; exact h3))
    · rw [mk_al, if_neg e]; exact h6 a
  · rw [ho q (by omega)]; exact h7 q hq
  · by_cases e : q = mz_ m
    · rw [e]; exact hst
    · rw [mz_al] at g2
      rw [ho q (by omega)]
      exact h8 q g1 (by omega)
theorem vs_al {H H' : Heap} {m : Mm} {locs : List Loc} {s : State} (hR : Rp_ g m H) (hS : va_S (fr_ g) s.heap H locs) (hz : H'.size = mz_ m + 1) (ho : ∀ q, q < mz_ m → H'[q]? = H[q]?) : va_S (fr_ g) s.heap H' locs :=
  ⟨by have h1 := hS.1; have h2 := hR.1; omega, fun q h1 h2 => (ho q (by have h3 := hS.1; have h4 := hR.1; omega)).trans (hS.2.1 q h1 h2), hS.2.2⟩
theorem x_nw (C : Cx_ l g E own cc nL lvl) {i : Nat} (ci : Nat) (q : vw_C) (hc : clT[ci]? = some q) (hlink : (Cond.classLink own i q.1) ∈ lw_all) (hinst : (Cond.instantiable q.1 q.2.2) ∈ lw_all) (hini : (Cond.initialized q.1) ∈ lw_all) (kd N : Nat) (hkd : ci + 1 = kd) (hN : q.2.2 = N) (d : decode cc pc = .ok (.new i, 3)) (pc' : Nat) (hp : pc + 3 = pc') {f : Nat → Mm → Rs α} (kk : ∀ a m', Sm_ l g E nL en (f a m') (k + 1) (n + N) pc' L (vr_ (some a) :: st) m') : Sm_ l g E nL en (nw_ m kd N f) k n pc L st m := by
  subst hkd; subst hp; subst hN
  refine Sm_tk (kk _ _) (fun H locs ls Q hR hS hl r1 r2 w => ?_)
  have hK := C.2.2.2.2.2.2.1
  have hKn := hK.1.1 ci _ hc
  have hts := C.2.2.2.2.1
  refine W.newcK C.1 C.2.1 C.2.2.2.1 (hts _ hlink) (hts _ hinst) (hts _ hini) rfl d r1 r2 hKn.2.1 hR.1 (fun H1 kC hkC e1 z1 o1 => ?_)
  refine w H1 (rp_al (ci + 1) 0 hR ⟨fun c2 r e c => ?_, fun t ty e c => ?_, fun i hi e => ?_, fun i hi e => ?_⟩ z1 o1 ⟨_, e1, rfl⟩) (vs_al hR hS z1 o1)
  · have : c2 = ci := by
      rw [mk_al, if_pos rfl] at e
      omega
    subst this
    cases c.symm.trans hc
    refine (u_born (tyT c2) hts (clT_in c2 _ hc) hKn hkC e1 (clT_ty c2 _ hc)).to (fun j hj => ?_)
    cases tyT c2 j <;> simp [vt_, mi_al, mj_al, mr_al, defaultValue, va_rf]
  · have := clT_lt hc
    rw [mk_al, if_pos rfl] at e
    omega
  · have := clT_lt hc
    rw [mk_al, if_pos rfl] at e
    omega
  · have := clT_lt hc
    rw [mk_al, if_pos rfl] at e
    omega
/-- a new array of numbers -/
theorem x_na (C : Cx_ l g E own cc nL lvl) {x : Int32} (t : Nat) (atype : ArrayType) (ht : atT[t]? = some (newarray.typeOf atype)) (hb8 : componentBytes (newarray.typeOf atype) ≤ 8) (har : (Cond.arrayClass (newarray.typeOf atype)) ∈ lw_all) (hdv : ∀ (m : Mm) a j, vt_ (newarray.typeOf atype) (al_ m (200 + t) a) (mz_ m) j = defaultValue (newarray.typeOf atype)) (hra : ∀ (U : State) (cA : ClassId), va_RA U cA (newarray.typeOf atype) → U.vm.findClass ("[" ++ (newarray.typeOf atype).toString) = some cA) (kd : Nat) (hkd : 200 + t = kd) (d : decode cc pc = .ok (.newarray atype, 2)) (pc' : Nat) (hp : pc + 2 = pc') {f : Nat → Mm → Rs α} (kk : ∀ a m', Sm_ l g E nL en (f a m') (k + 1) (n + x.toInt.toNat) pc' L (vr_ (some a) :: st) m') : Sm_ l g E nL en (na_ m kd x f) k n pc L (vi_ x :: st) m := by
  subst hkd; subst hp
  unfold na_
  split
  case isFalse => exact Sm_none
  case isTrue hx =>
    refine Sm_tk (kk _ _) (fun H locs ls Q hR hS hl r1 r2 w => ?_)
    have hK := C.2.2.2.2.2.2.1
    refine va_newaK C.1 C.2.1 (C.2.2.2.2.1 _ har) rfl d rfl (by have := hx.1; intro h; rw [Int32.lt_iff_toInt_lt] at h; simp at h; omega) (N := x.toInt.toNat) rfl (by
      have h1 : x.toInt.toNat ≤ 1000000 := by omega
      have h2 := Nat.mul_le_mul h1 hb8
      omega) r1 r2 hR.1 (fun H1 cA e1 z1 o1 hAr hNm => ?_)
    have hcA : cA = gA_ g t := Option.some.inj (hNm.symm.trans (hra _ _ (hK.1.2 t _ (atL_at ht)).2))
    subst hcA
    refine w H1 (rp_al (200 + t) x.toInt.toNat hR (ra_arr (t := t) (by rw [mk_al, if_pos rfl]) ht ?_) z1 o1 ⟨_, e1, rfl⟩) (vs_al hR hS z1 o1)
    rw [e1, ml_al, if_pos rfl]
    congr 2
    funext j
    exact (hdv m _ j).symm
/-- a new array of references -/
theorem x_nq (C : Cx_ l g E own cc nL lvl) {i : Nat} {x : Int32} (t : Nat) (nm : String) (ht : atT[t]? = some (.object nm)) (hlink : (Cond.classLink own i nm) ∈ lw_all) (hao : va_AO nm (eS_ E)) (kd : Nat) (hkd : 200 + t = kd) (d : decode cc pc = .ok (.anewarray i, 3)) (pc' : Nat) (hp : pc + 3 = pc') {f : Nat → Mm → Rs α} (kk : ∀ a m', Sm_ l g E nL en (f a m') (k + 1) (n + x.toInt.toNat) pc' L (vr_ (some a) :: st) m') : Sm_ l g E nL en (na_ m kd x f) k n pc L (vi_ x :: st) m := by
  subst hkd; subst hp
  unfold na_
  split
  case isFalse => exact Sm_none
  case isTrue hx =>
    refine Sm_tk (kk _ _) (fun H locs ls Q hR hS hl r1 r2 w => ?_)
    have hK := C.2.2.2.2.2.2.1
    refine W.anew C.1 C.2.1 C.2.2.2.1 (C.2.2.2.2.1 _ hlink) (va_AO.use hao) rfl d rfl (by have := hx.1; intro h; rw [Int32.lt_iff_toInt_lt] at h; simp at h; omega) (by show x.toInt.toNat * 4 ≤ _; omega) r1 r2 (fun cA kA comp f1 f2 f3 f4 => ?_)
    obtain ⟨_, _, _, _, _, h9⟩ := (hK.1.2 t _ (atL_at ht)).2
    have hcA : cA = gA_ g t := Option.some.inj (f1.symm.trans h9)
    subst hcA
    generalize hH1 : H.push ({ cls := gA_ g t, slots := Array.replicate x.toNatClampNeg .null, vm := .none } : Cell) = H1
    have z1 : H1.size = mz_ m + 1 := by rw [← hH1, Array.size_push, hR.1]
    have e1 : H1[mz_ m]? = some (arrV (gA_ g t) x.toInt.toNat (fun _ => .null)) := by rw [← hH1, ← hR.1, Array.getElem?_push_size, ← arrV_new]; rfl
    have o1 : ∀ q : Nat, q < mz_ m → H1[q]? = H[q]? := fun q hq => by rw [← hH1, Array.getElem?_push, if_neg (by rw [hR.1]; exact Nat.ne_of_lt hq)]
    rw [hR.1]
    refine w H1 (rp_al (200 + t) x.toInt.toNat hR (ra_arr (t := t) (by rw [mk_al, if_pos rfl]) ht ?_) z1 o1 ⟨_, e1, rfl⟩) (vs_al hR hS z1 o1)
    rw [e1, ml_al, if_pos rfl]
    congr 2
    funext j
    simp [vt_, mr_al, va_rf]
/-- what the start's heap held below the base is there -/
theorem x_gs (C : Cx_ l g E own cc nL lvl) {i : Nat} (j : Nat) {Cn nm de ref : String} (v : TV) (hj : (st_ g)[j]? = some (Cn, nm, de, tv_ v)) (hlink : (Cond.fieldLink own i ref nm de) ∈ lw_all) (hsame : Cn = ref) (d : decode cc pc = .ok (.getstatic i, 3)) (pc' : Nat) (hp : pc + 3 = pc') {f : Rs α} (kk : Sm_ l g E nL en f k n pc' L (v :: st) m) : Sm_ l g E nL en f k n pc L st m := by
  subst hp; subst hsame
  refine Sm_go kk (fun H locs ls Q hR hS hl w => ?_)
  have hK := C.2.2.2.2.2.2.1
  have hZ := hK.2.2.2.2.1 _ (List.mem_of_getElem? hj)
  obtain ⟨m0, hR0⟩ := C.2.2.2.2.2.2.2.1
  have hZ1 : va_Z Cn nm de (tv_ v) (fr_ g) (eS_ E) (eS_ E).heap := hZ.kept (fun a _ h => hR0.2.2.2.2.2.2.1 a (Nat.not_le.mp h))
  exact va_gets C.1 C.2.1 hZ1 hS C.2.2.2.1 (C.2.2.2.2.1 _ hlink) (fun x h => h) d (w ls hl)
theorem x_ls (C : Cx_ l g E own cc nL lvl) {i : Nat} (j : Nat) {tx : String} (a : Nat) (hj : skL[j]? = some (own, i, tx, a)) (d : decode cc pc = .ok (.ldc i, 2)) (pc' : Nat) (hp : pc + 2 = pc') {f : Rs α} (kk : Sm_ l g E nL en f k n pc' L (vr_ (some (gE_ g (100 + a))) :: st) m) : Sm_ l g E nL en f k n pc L st m := by
  subst hp
  refine Sm_go kk (fun H locs ls Q hR hS hl w => ?_)
  have hK := C.2.2.2.2.2.2.1
  exact va_ldcS C.1 C.2.1 C.2.2.2.1 (hK.2.2.2.2.2.2.2.1 _ (List.mem_of_getElem? hj)) d (w ls hl)
/-! returns -/
theorem x_ret (C : Cx_ l g E own cc nL lvl) {v : α} {ov : Option Value} (hen : en v = .inl ov) (row : ∀ (H : Heap) (locs : List Loc) (ls : Array Slot), (∀ q ∈ locs, fr_ g q.base) → (∀ t : State, t.heap = H → (eS_ E).WarmedH t.vm → Qc_ g (.inl ov) m (eA_ E) (eS_ E) (.returned ov) t) → Wt_ l E H locs k n (MQ (eB_ E) (Qc_ g (.inl ov) m) (eA_ E) (eS_ E) k n (fr_ g)) (F0 (eM_ E) pc ls (sv_ st))) : Sm_ l g E nL en (rt_ v m) k n pc L st m := by
  intro v0 m0 k0 n0 hr h1 h2 H locs ls hR hS hl
  cases hr
  rw [hen]
  refine vx_ret (row H locs ls hS.2.2 (fun t ht hW => ⟨⟨ov, rfl, rfl⟩, by rw [ht]; exact hR, hS.F ht⟩))
theorem x_iret (C : Cx_ l g E own cc nL lvl) (hret : (eT_ E).sig.returnType = some .int) {v : α} {x : Int32} (hen : en v = .inl (some (.int x))) (d : decode cc pc = .ok (.ireturn, 1)) : Sm_ l g E nL en (rt_ v m) k n pc L [vi_ x] m :=
  x_ret C hen (fun H locs ls hf hq => W.iret C.1 C.2.1 hret hq hf d C.2.2.2.2.2.1)
theorem narrow_b01 {x : Int32} (h : x = 0 ∨ x = 1) : narrow .boolean (.int x) = .int x := by rcases h with rfl | rfl <;> decide
/-- a boolean answer -/
def rz_ {α : Type} (x : Int32) (v : α) (m : Mm) : Rs α := if x = 0 ∨ x = 1 then rt_ v m else none
theorem x_zret (C : Cx_ l g E own cc nL lvl) (hret : (eT_ E).sig.returnType = some .boolean) {v : α} {x : Int32} (hen : en v = .inl (some (.int x))) (d : decode cc pc = .ok (.ireturn, 1)) : Sm_ l g E nL en (rz_ x v m) k n pc L [vi_ x] m := by
  unfold rz_
  split
  case isTrue h => exact x_ret C hen (fun H locs ls hf hq => W.zret C.1 C.2.1 hret (narrow_b01 h) hq hf d C.2.2.2.2.2.1)
  case isFalse => exact Sm_none
theorem x_zret0 (C : Cx_ l g E own cc nL lvl) (hret : (eT_ E).sig.returnType = some .boolean) {v : α} {x : Int32} (hx : x = 0 ∨ x = 1) (hen : en v = .inl (some (.int x))) (d : decode cc pc = .ok (.ireturn, 1)) : Sm_ l g E nL en (rt_ v m) k n pc L [vi_ x] m :=
  x_ret C hen (fun H locs ls hf hq => W.zret C.1 C.2.1 hret (narrow_b01 hx) hq hf d C.2.2.2.2.2.1)
theorem x_lret (C : Cx_ l g E own cc nL lvl) (hret : (eT_ E).sig.returnType = some .long) {v : α} {x : Int64} (hen : en v = .inl (some (.long x))) (d : decode cc pc = .ok (.lreturn, 1)) : Sm_ l g E nL en (rt_ v m) k n pc L [vj_ x] m :=
  x_ret C hen (fun H locs ls hf hq => W.lret C.1 C.2.1 hret hq hf d C.2.2.2.2.2.1)
theorem x_vret (C : Cx_ l g E own cc nL lvl) (hret : (eT_ E).sig.returnType = none) {v : α} (hen : en v = .inl none) (d : decode cc pc = .ok (.return_, 1)) : Sm_ l g E nL en (rt_ v m) k n pc L [] m :=
  x_ret C hen (fun H locs ls hf hq => W.vret C.1 C.2.1 hret hq hf d C.2.2.2.2.2.1)
theorem x_aret (C : Cx_ l g E own cc nL lvl) {rt : FieldType} (hret : (eT_ E).sig.returnType = some rt) (hrt : (∃ n, rt = .object n) ∨ ∃ t, rt = .array t) {v : α} {x : Option Nat} (hen : en v = .inl (some (va_rf x))) (d : decode cc pc = .ok (.areturn, 1)) : Sm_ l g E nL en (rt_ v m) k n pc L [vr_ x] m := by
  refine x_ret C hen (fun H locs ls hf hq => W.aret C.1 C.2.1 hret hrt ?_ hq hf d C.2.2.2.2.2.1)
  cases x with
  | none => exact Or.inl rfl
  | some a => exact Or.inr ⟨a, rfl⟩
end CRW
