/-! arrays copied -/
def okr_ (m : Mm) (r : Option Nat) : Bool := match r with
  | none => true
  | some y => [2, 5, 6, 7, 8, 9, 10, 11, 27, 200].contains (mk_ m y)
def cr_ (m : Mm) (src sp dst dp n : Nat) : Mm := (mk_ m, ml_ m, mi_ m, mj_ m, fun b j => if b = dst ∧ dp ≤ j ∧ j < dp + n then mr_ m src (sp + (j - dp)) else mr_ m b j, mz_ m, mb_ m)
def ci_ (m : Mm) (src sp dst dp n : Nat) : Mm := (mk_ m, ml_ m, fun b j => if b = dst ∧ dp ≤ j ∧ j < dp + n then mi_ m src (sp + (j - dp)) else mi_ m b j, mj_ m, mr_ m, mz_ m, mb_ m)
theorem mk_cr (m a b c d e) : mk_ (cr_ m a b c d e) = mk_ m := rfl
theorem ml_cr (m a b c d e) : ml_ (cr_ m a b c d e) = ml_ m := rfl
theorem mi_cr (m a b c d e) : mi_ (cr_ m a b c d e) = mi_ m := rfl
theorem mj_cr (m a b c d e) : mj_ (cr_ m a b c d e) = mj_ m := rfl
theorem mz_cr (m a b c d e) : mz_ (cr_ m a b c d e) = mz_ m := rfl
theorem mb_cr (m a b c d e) : mb_ (cr_ m a b c d e) = mb_ m := rfl
theorem mr_cr (m src sp dst dp n b j) : mr_ (cr_ m src sp dst dp n) b j = if b = dst ∧ dp ≤ j ∧ j < dp + n then mr_ m src (sp + (j - dp)) else mr_ m b j := rfl
theorem mk_ci (m a b c d e) : mk_ (ci_ m a b c d e) = mk_ m := rfl
theorem ml_ci (m a b c d e) : ml_ (ci_ m a b c d e) = ml_ m := rfl
theorem mr_ci (m a b c d e) : mr_ (ci_ m a b c d e) = mr_ m := rfl
theorem mj_ci (m a b c d e) : mj_ (ci_ m a b c d e) = mj_ m := rfl
theorem mz_ci (m a b c d e) : mz_ (ci_ m a b c d e) = mz_ m := rfl
theorem mb_ci (m a b c d e) : mb_ (ci_ m a b c d e) = mb_ m := rfl
theorem mi_ci (m src sp dst dp n b j) : mi_ (ci_ m src sp dst dp n) b j = if b = dst ∧ dp ≤ j ∧ j < dp + n then mi_ m src (sp + (j - dp)) else mi_ m b j := rfl
/-- System.arraycopy of Object[] -/
def ac_ {α : Type} (m : Mm) (r0 : Option Nat) (sp : Int32) (r1 : Option Nat) (dp n : Int32) (f : Mm → Rs α) : Rs α := match r0, r1 with
  | some a, some b => if mk_ m a = 204 ∧ mk_ m b = 204 ∧ mb_ m ≤ b ∧ 0 ≤ sp.toInt ∧ 0 ≤ dp.toInt ∧ 0 ≤ n.toInt ∧ sp.toInt + n.toInt ≤ ml_ m a ∧ dp.toInt + n.toInt ≤ ml_ m b ∧ (∀ i, i < n.toInt.toNat → okr_ m (mr_ m a (sp.toInt.toNat + i)) = true) then f (cr_ m a sp.toInt.toNat b dp.toInt.toNat n.toInt.toNat) else none
  | _, _ => none
/-- .. of byte[] -/
def ab_ {α : Type} (m : Mm) (r0 : Option Nat) (sp : Int32) (r1 : Option Nat) (dp n : Int32) (f : Mm → Rs α) : Rs α := match r0, r1 with
  | some a, some b => if mk_ m a = 202 ∧ mk_ m b = 202 ∧ mb_ m ≤ b ∧ 0 ≤ sp.toInt ∧ 0 ≤ dp.toInt ∧ 0 ≤ n.toInt ∧ sp.toInt + n.toInt ≤ ml_ m a ∧ dp.toInt + n.toInt ≤ ml_ m b ∧ (∀ i, i < n.toInt.toNat → -128 ≤ (mi_ m a (sp.toInt.toNat + i)).toInt ∧ (mi_ m a (sp.toInt.toNat + i)).toInt ≤ 127) then f (ci_ m a sp.toInt.toNat b dp.toInt.toNat n.toInt.toNat) else none
  | _, _ => none
theorem i0_nlt {x : Int32} (h : 0 ≤ x.toInt) : ¬ x < 0 := by
  intro h9
  rw [Int32.lt_iff_toInt_lt] at h9
  simp at h9
  omega
theorem i0_cl {x : Int32} (h : 0 ≤ x.toInt) : x.toInt = (x.toNatClampNeg : Int) := by
  show x.toInt = ((x.toInt.toNat : Nat) : Int)
  omega
section EXW
variable {α β : Type} {l : Launch} {g : GG} {E : Me_} {own : String} {cc : ByteArray} {nL lvl : Nat} {en : α → Fn_} {k n pc : Nat} {L L' : List (Nat × TV)} {st stA : List TV} {m : Mm}
theorem rp_arrset {H : Heap} {m m' : Mm} {a t : Nat} {ty : FieldType} {ce : Cell} (hR : Rp_ g m H) (ht : atT[t]? = some ty) (hk : mk_ m a = 200 + t) (hb : mb_ m ≤ a) (hce : ce = arrV (gA_ g t) (ml_ m a) (fun j => vt_ ty m' a j))
    (hkk : mk_ m' = mk_ m) (hll : ml_ m' = ml_ m) (hi : ∀ b j, b ≠ a → mi_ m' b j = mi_ m b j) (hj : ∀ b j, b ≠ a → mj_ m' b j = mj_ m b j) (hr : ∀ b j, b ≠ a → mr_ m' b j = mr_ m b j) (hmz : mz_ m' = mz_ m) (hmb : mb_ m' = mb_ m) : Rp_ g m' (H.setIfInBounds a ce) := by
  have e0 := (hR.2.2.2.1 a).2.1 t ty hk ht
  have hlt : a < H.size := (Array.getElem?_eq_some_iff.mp e0).1
  have e1 : (H.setIfInBounds a ce)[a]? = some ce := by simp [Array.getElem?_setIfInBounds, hlt]
  refine rp_set hR (ra_arr (t := t) (by rw [hkk]; exact hk) ht ?_) (by simp) (fun q hq => by simp [Array.getElem?_setIfInBounds, Ne.symm hq]) hb hlt ⟨ce, e1, by rw [hce]; rfl⟩ (fun b _ => by rw [hkk]) (Or.inl (by rw [hkk])) (fun b _ => by rw [hll]) hi hj hr hmz hmb
  rw [e1, hce, hll]
theorem vs_set {H : Heap} {m : Mm} {s : State} {locs L2 : List Loc} {a : Nat} {ce : Cell} (hR : Rp_ g m H) (hb : mb_ m ≤ a) (hS : va_S (fr_ g) s.heap H locs) (hL : ∀ q ∈ L2, q.base = a) : va_S (fr_ g) s.heap (H.setIfInBounds a ce) (locs ++ L2) := by
  have ha : fr_ g a := by show gB_ g ≤ a; rw [hR.2.1]; exact hb
  refine ⟨by simp; exact hS.1, fun q g1 g2 => ?_, fun q hq => ?_⟩
  · have : q ≠ a := fun e => g2 (by rw [e]; exact ha)
    rw [show (H.setIfInBounds a ce)[q]? = H[q]? by simp [Array.getElem?_setIfInBounds, Ne.symm this]]
    exact hS.2.1 q g1 g2
  · rcases List.mem_append.mp hq with h | h
    · exact hS.2.2 q h
    · rw [hL q h]; exact ha
theorem x_ac (C : Cx_ l g E own cc nL lvl) {i : Nat} {r0 r1 : Option Nat} {sp dp z : Int32} (q1 : Cond.methodLink own i arraycopyName ∈ lw_all) (q2 : Cond.native arraycopyName ∈ lw_all) (q3 : Cond.static arraycopyName ∈ lw_all) (q4 : Cond.initialized "java/lang/System" ∈ lw_all) (hlv : 1 ≤ lvl) (hst : tc_ st ≤ 8) (d : decode cc pc = .ok (.invokestatic i, 3)) (pc' : Nat) (hp : pc + 3 = pc') {f : Mm → Rs α} (kk : ∀ m', Sm_ l g E nL en (f m') k n pc' L st m') : Sm_ l g E nL en (ac_ m r0 sp r1 dp z f) k n pc L (vi_ z :: vi_ dp :: vr_ r1 :: vi_ sp :: vr_ r0 :: st) m := by
  subst hp
  unfold ac_
  split
  case h_2 => exact Sm_none
  case h_1 a b =>
    split
    case isFalse => exact Sm_none
    case isTrue h =>
      obtain ⟨ha, hb, hbb, h1, h2, h3, h4, h5, hel⟩ := h
      intro v0 m0 k0 n0 hr0 g1 g2 H locs ls hR hS hl T hT X
      have hK := C.2.2.2.2.2.2.1
      have hts := C.2.2.2.2.1
      have e0 := (hR.2.2.2.1 a).2.1 4 _ ha rfl
      have e1 := (hR.2.2.2.1 b).2.1 4 _ hb rfl
      obtain ⟨-, ka, hka, cma, hkka⟩ := (hK.1.2 4 _ rfl).1 (ml_ m a) (fun j => vt_ (.object "java/lang/Object") m a j)
      obtain ⟨-, kb, hkb, cmb, hkkb⟩ := (hK.1.2 4 _ rfl).1 (ml_ m b) (fun j => vt_ (.object "java/lang/Object") m b j)
      have c1 := i0_cl h1
      have c2 := i0_cl h2
      have c3 := i0_cl h3
      have hfr := C.2.2.2.2.2.2.2.2.2
      obtain ⟨vm', X', step⟩ := X.arraycopy C.1 C.2.2.2.1 (hts _ q1) (hts _ q2) (hts _ q3) (hts _ q4) (src := a) (dst := b) (cs := arrV (gA_ g 4) (ml_ m a) (fun j => vt_ (.object "java/lang/Object") m a j)) (cd := arrV (gA_ g 4) (ml_ m b) (fun j => vt_ (.object "java/lang/Object") m b j)) (srcPos := sp) (destPos := dp) (n := z) (by rw [hT]; exact e0) (by rw [hT]; exact e1)
        (fun _ h => by cases h) (fun _ h => by cases h) (fun h => by cases h) (fun h => by cases h) hka hkb hkka hkkb rfl (i0_nlt h1) (i0_nlt h2) (i0_nlt h3)
        (by rw [arrV_size]; omega) (by rw [arrV_size]; omega)
        (fun vm₁ hal i hi => by
          have hi' : i < z.toInt.toNat := hi
          have e : (arrV (gA_ g 4) (ml_ m a) (fun j => vt_ (.object "java/lang/Object") m a j)).slots.getD (sp.toNatClampNeg + i) .null = va_rf (mr_ m a (sp.toInt.toNat + i)) := by
            rw [Array.getD_eq_getD_getElem?, arrV_read _ _ (by omega)]
            rfl
          rw [e]
          have hoki := hel i hi'
          cases hy : mr_ m a (sp.toInt.toNat + i) with
          | none => exact ⟨rfl, trivial⟩
          | some y =>
            rw [hy] at hoki
            have hin : mk_ m y ∈ [2, 5, 6, 7, 8, 9, 10, 11, 27, 200] := List.contains_iff_mem.mp hoki
            obtain ⟨kA, comp, r1, r2, r3, -⟩ := (hK.1.2 4 _ rfl).2
            obtain ⟨cellV, g3, g4, ⟨kC, hkC⟩, hasg⟩ := rp_asg hK hR (caO _ hin) r3
            cases hkb.symm.trans r1
            cases hkkb.symm.trans r2
            obtain ⟨kE, hkE, -⟩ := Vm.findClass_spec r3
            obtain ⟨kC', hkC', -⟩ := hal.2.2 _ _ hkC
            obtain ⟨kE', hkE', -⟩ := hal.2.2 _ _ hkE
            refine ⟨rfl, cellV, (show T.heap[y]? = some cellV by rw [hT]; exact g3), (fun q h => by rw [h] at g4; cases g4), ⟨kC', hkC'⟩, ⟨kE', hkE'⟩, ?_⟩
            show vm₁.assignable _ _ = true
            rw [hal.assignable]
            exact hasg)
        (g := F0 (eM_ E) pc ls (sv_ (vi_ z :: vi_ dp :: vr_ (some b) :: vi_ sp :: vr_ (some a) :: st))) rfl (by rw [C.2.2.1]; exact hl.1) (rest := sv_ st) rfl (by rw [C.2.1]; exact d) (by rw [hfr.1]; exact hlv)
        (by
          have hw : nativeFrameWords "java/lang/System" "arraycopy" 5 ≤ 40 := by decide
          have := tc_sum st
          rw [hfr.2]
          show 2 * 0 + _ + _ ≤ _
          rw [this]
          omega)
      have ecp : copied (arrV (gA_ g 4) (ml_ m a) (fun j => vt_ (.object "java/lang/Object") m a j)) (arrV (gA_ g 4) (ml_ m b) (fun j => vt_ (.object "java/lang/Object") m b j)) sp dp z = arrV (gA_ g 4) (ml_ m b) (fun j => va_rf (va_cpy (mr_ m a) (mr_ m b) sp.toNatClampNeg dp.toNatClampNeg z.toNatClampNeg j)) :=
        va_copied (fun w => va_rf w) (gA_ g 4) (gA_ g 4) (mr_ m a) (mr_ m b) (show sp.toNatClampNeg + z.toNatClampNeg ≤ _ by omega)
      rw [ecp] at X' step
      have hheap : ((T.setVm vm').setCell b (arrV (gA_ g 4) (ml_ m b) (fun j => va_rf (va_cpy (mr_ m a) (mr_ m b) sp.toNatClampNeg dp.toNatClampNeg z.toNatClampNeg j)))).heap = H.setIfInBounds b (arrV (gA_ g 4) (ml_ m b) (fun j => va_rf (va_cpy (mr_ m a) (mr_ m b) sp.toNatClampNeg dp.toNatClampNeg z.toNatClampNeg j))) := by rw [← hT]; rfl
      have hce : arrV (gA_ g 4) (ml_ m b) (fun j => va_rf (va_cpy (mr_ m a) (mr_ m b) sp.toNatClampNeg dp.toNatClampNeg z.toNatClampNeg j)) = arrV (gA_ g 4) (ml_ m b) (fun j => vt_ (.object "java/lang/Object") (cr_ m a sp.toInt.toNat b dp.toInt.toNat z.toInt.toNat) b j) := by
        congr 1
        funext j
        show va_rf _ = va_rf (mr_ _ b j)
        rw [mr_cr]
        simp only [va_cpy, true_and]
        rfl
      have hkk := fun (L2 : List Loc) (hL2 : ∀ q ∈ L2, q.base = b) => kk (cr_ m a sp.toInt.toNat b dp.toInt.toNat z.toInt.toNat) v0 m0 k0 n0 hr0 g1 g2 _ (locs ++ L2) ls (rp_arrset (ty := .object "java/lang/Object") (t := 4) (m' := (cr_ m a sp.toInt.toNat b dp.toInt.toNat z.toInt.toNat)) hR rfl hb hbb (ce := arrV (gA_ g 4) (ml_ m b) (fun j => va_rf (va_cpy (mr_ m a) (mr_ m b) sp.toNatClampNeg dp.toNatClampNeg z.toNatClampNeg j))) hce rfl rfl (fun _ _ _ => rfl) (fun _ _ _ => rfl) (fun b' j hn => by rw [mr_cr, if_neg (fun z9 => hn z9.1)]) rfl rfl) (vs_set hR hbb hS hL2) hl
      obtain ⟨t, a1, b1⟩ := hkk _ (fun q hq => by
        obtain ⟨z9, -, hz⟩ := List.mem_map.mp hq
        rw [← hz]) _ hheap X'
      exact ⟨t, step t a1, b1⟩
theorem x_ab (C : Cx_ l g E own cc nL lvl) {i : Nat} {r0 r1 : Option Nat} {sp dp z : Int32} (q1 : Cond.methodLink own i arraycopyName ∈ lw_all) (q2 : Cond.native arraycopyName ∈ lw_all) (q3 : Cond.static arraycopyName ∈ lw_all) (q4 : Cond.initialized "java/lang/System" ∈ lw_all) (hlv : 1 ≤ lvl) (hst : tc_ st ≤ 8) (d : decode cc pc = .ok (.invokestatic i, 3)) (pc' : Nat) (hp : pc + 3 = pc') {f : Mm → Rs α} (kk : ∀ m', Sm_ l g E nL en (f m') k n pc' L st m') : Sm_ l g E nL en (ab_ m r0 sp r1 dp z f) k n pc L (vi_ z :: vi_ dp :: vr_ r1 :: vi_ sp :: vr_ r0 :: st) m := by
  subst hp
  unfold ab_
  split
  case h_2 => exact Sm_none
  case h_1 a b =>
    split
    case isFalse => exact Sm_none
    case isTrue h =>
      obtain ⟨ha, hb, hbb, h1, h2, h3, h4, h5, hel⟩ := h
      intro v0 m0 k0 n0 hr0 g1 g2 H locs ls hR hS hl T hT X
      have hK := C.2.2.2.2.2.2.1
      have hts := C.2.2.2.2.1
      have e0 := (hR.2.2.2.1 a).2.1 2 _ ha rfl
      have e1 := (hR.2.2.2.1 b).2.1 2 _ hb rfl
      obtain ⟨-, ka, hka, cma, hkka⟩ := (hK.1.2 2 _ rfl).1 (ml_ m a) (fun j => vt_ .byte m a j)
      obtain ⟨-, kb, hkb, cmb, hkkb⟩ := (hK.1.2 2 _ rfl).1 (ml_ m b) (fun j => vt_ .byte m b j)
      have c1 := i0_cl h1
      have c2 := i0_cl h2
      have c3 := i0_cl h3
      have hfr := C.2.2.2.2.2.2.2.2.2
      obtain ⟨vm', X', step⟩ := X.arraycopy C.1 C.2.2.2.1 (hts _ q1) (hts _ q2) (hts _ q3) (hts _ q4) (src := a) (dst := b) (cs := arrV (gA_ g 2) (ml_ m a) (fun j => vt_ .byte m a j)) (cd := arrV (gA_ g 2) (ml_ m b) (fun j => vt_ .byte m b j)) (srcPos := sp) (destPos := dp) (n := z) (by rw [hT]; exact e0) (by rw [hT]; exact e1)
        (fun _ h => by cases h) (fun _ h => by cases h) (fun h => by cases h) (fun h => by cases h) hka hkb hkka hkkb (by simp [refKind]) (i0_nlt h1) (i0_nlt h2) (i0_nlt h3)
        (by rw [arrV_size]; omega) (by rw [arrV_size]; omega)
        (fun vm₁ hal i hi => by
          have hi' : i < z.toInt.toNat := hi
          have e : (arrV (gA_ g 2) (ml_ m a) (fun j => vt_ .byte m a j)).slots.getD (sp.toNatClampNeg + i) .null = .int (mi_ m a (sp.toInt.toNat + i)) := by
            rw [Array.getD_eq_getD_getElem?, arrV_read _ _ (by omega)]
            rfl
          rw [e]
          refine ⟨?_, trivial⟩
          have := hel i hi'
          show (decide (-128 ≤ mi_ m a (sp.toInt.toNat + i)) && decide (mi_ m a (sp.toInt.toNat + i) ≤ 127)) = true
          rw [Bool.and_eq_true, decide_eq_true_eq, decide_eq_true_eq, Int32.le_iff_toInt_le, Int32.le_iff_toInt_le]
          exact this)
        (g := F0 (eM_ E) pc ls (sv_ (vi_ z :: vi_ dp :: vr_ (some b) :: vi_ sp :: vr_ (some a) :: st))) rfl (by rw [C.2.2.1]; exact hl.1) (rest := sv_ st) rfl (by rw [C.2.1]; exact d) (by rw [hfr.1]; exact hlv)
        (by
          have hw : nativeFrameWords "java/lang/System" "arraycopy" 5 ≤ 40 := by decide
          have := tc_sum st
          rw [hfr.2]
          show 2 * 0 + _ + _ ≤ _
          rw [this]
          omega)
      have ecp : copied (arrV (gA_ g 2) (ml_ m a) (fun j => vt_ .byte m a j)) (arrV (gA_ g 2) (ml_ m b) (fun j => vt_ .byte m b j)) sp dp z = arrV (gA_ g 2) (ml_ m b) (fun j => .int (va_cpy (mi_ m a) (mi_ m b) sp.toNatClampNeg dp.toNatClampNeg z.toNatClampNeg j)) :=
        va_copied (fun w => .int w) (gA_ g 2) (gA_ g 2) (mi_ m a) (mi_ m b) (show sp.toNatClampNeg + z.toNatClampNeg ≤ _ by omega)
      rw [ecp] at X' step
      have hheap : ((T.setVm vm').setCell b (arrV (gA_ g 2) (ml_ m b) (fun j => .int (va_cpy (mi_ m a) (mi_ m b) sp.toNatClampNeg dp.toNatClampNeg z.toNatClampNeg j)))).heap = H.setIfInBounds b (arrV (gA_ g 2) (ml_ m b) (fun j => .int (va_cpy (mi_ m a) (mi_ m b) sp.toNatClampNeg dp.toNatClampNeg z.toNatClampNeg j))) := by rw [← hT]; rfl
      have hce : arrV (gA_ g 2) (ml_ m b) (fun j => .int (va_cpy (mi_ m a) (mi_ m b) sp.toNatClampNeg dp.toNatClampNeg z.toNatClampNeg j)) = arrV (gA_ g 2) (ml_ m b) (fun j => vt_ (.byte) (ci_ m a sp.toInt.toNat b dp.toInt.toNat z.toInt.toNat) b j) := by
        congr 1
        funext j
        show Value.int _ = Value.int (mi_ _ b j)
        rw [mi_ci]
        simp only [va_cpy, true_and]
        rfl
      have hkk := fun (L2 : List Loc) (hL2 : ∀ q ∈ L2, q.base = b) => kk (ci_ m a sp.toInt.toNat b dp.toInt.toNat z.toInt.toNat) v0 m0 k0 n0 hr0 g1 g2 _ (locs ++ L2) ls (rp_arrset (ty := .byte) (t := 2) (m' := (ci_ m a sp.toInt.toNat b dp.toInt.toNat z.toInt.toNat)) hR rfl hb hbb (ce := arrV (gA_ g 2) (ml_ m b) (fun j => .int (va_cpy (mi_ m a) (mi_ m b) sp.toNatClampNeg dp.toNatClampNeg z.toNatClampNeg j))) hce rfl rfl (fun b' j hn => by rw [mi_ci, if_neg (fun z9 => hn z9.1)]) (fun _ _ _ => rfl) (fun _ _ _ => rfl) rfl rfl) (vs_set hR hbb hS hL2) hl
      obtain ⟨t, a1, b1⟩ := hkk _ (fun q hq => by
        obtain ⟨z9, -, hz⟩ := List.mem_map.mp hq
        rw [← hz]) _ hheap X'
      exact ⟨t, step t a1, b1⟩
end EXW
