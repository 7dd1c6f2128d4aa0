section ARW
variable {α : Type} {l : Launch} {g : GG} {E : Me_} {own : String} {cc : ByteArray} {nL lvl : Nat} {en : α → Fn_} {k n pc : Nat} {L L' : List (Nat × TV)} {st : List TV} {m : Mm}
def ti_ (ty : FieldType) : Bool := match ty with
  | .int | .boolean | .byte | .char | .short => true
  | _ => false
def tr_ (ty : FieldType) : Bool := match ty with
  | .object _ | .array _ => true
  | _ => false
theorem vt_i {ty : FieldType} (h : ti_ ty = true) (m : Mm) (a k : Nat) : vt_ ty m a k = tv_ (vi_ (mi_ m a k)) := by cases ty <;> first | rfl | cases h
theorem vt_r {ty : FieldType} (h : tr_ ty = true) (m : Mm) (a k : Nat) : vt_ ty m a k = tv_ (vr_ (mr_ m a k)) := by cases ty <;> first | rfl | cases h
/-! fields, as the runs have them -/
theorem x_gi (C : Cx_ l g E own cc nL lvl) {i : Nat} {r0 : Option Nat} (ci : Nat) (q : vw_C) (hc : clT[ci]? = some q) {ref : String} (j : Nat) (hj : j < q.2.2) (hlink : (Cond.fieldLink own i ref (q.2.1 j).2.1 (q.2.1 j).2.2.1) ∈ lw_all) (hsame : (q.2.1 j).1 = ref ∨ (Cond.sameField ref (q.2.1 j).1 (q.2.1 j).2.1 (q.2.1 j).2.2.1) ∈ lw_all) (hty : ti_ (tyT ci j) = true) (kd : Nat) (hkd : ci + 1 = kd) (d : decode cc pc = .ok (.getfield i, 3)) (pc' : Nat) (hp : pc + 3 = pc') {f : Int32 → Rs α} (kk : ∀ x, Sm_ l g E nL en (f x) k n pc' L (vi_ x :: st) m) : Sm_ l g E nL en (gi_ m r0 kd j f) k n pc L (vr_ r0 :: st) m := by
  subst hkd
  cases r0 with
  | none => exact Sm_none
  | some a =>
    show Sm_ l g E nL en (if _ then _ else _) _ _ _ _ _ _
    split
    · exact s_getf C (by assumption) hc j hj hlink hsame _ (vt_i hty _ _ _) d pc' hp (kk _)
    · exact Sm_none
theorem x_gj (C : Cx_ l g E own cc nL lvl) {i : Nat} {r0 : Option Nat} (ci : Nat) (q : vw_C) (hc : clT[ci]? = some q) {ref : String} (j : Nat) (hj : j < q.2.2) (hlink : (Cond.fieldLink own i ref (q.2.1 j).2.1 (q.2.1 j).2.2.1) ∈ lw_all) (hsame : (q.2.1 j).1 = ref ∨ (Cond.sameField ref (q.2.1 j).1 (q.2.1 j).2.1 (q.2.1 j).2.2.1) ∈ lw_all) (hty : tyT ci j = .long) (kd : Nat) (hkd : ci + 1 = kd) (d : decode cc pc = .ok (.getfield i, 3)) (pc' : Nat) (hp : pc + 3 = pc') {f : Int64 → Rs α} (kk : ∀ x, Sm_ l g E nL en (f x) k n pc' L (vj_ x :: st) m) : Sm_ l g E nL en (gj_ m r0 kd j f) k n pc L (vr_ r0 :: st) m := by
  subst hkd
  cases r0 with
  | none => exact Sm_none
  | some a =>
    show Sm_ l g E nL en (if _ then _ else _) _ _ _ _ _ _
    split
    · exact s_getf C (by assumption) hc j hj hlink hsame (vj_ (mj_ m a j)) (by rw [hty]; rfl) d pc' hp (kk _)
    · exact Sm_none
theorem x_gr (C : Cx_ l g E own cc nL lvl) {i : Nat} {r0 : Option Nat} (ci : Nat) (q : vw_C) (hc : clT[ci]? = some q) {ref : String} (j : Nat) (hj : j < q.2.2) (hlink : (Cond.fieldLink own i ref (q.2.1 j).2.1 (q.2.1 j).2.2.1) ∈ lw_all) (hsame : (q.2.1 j).1 = ref ∨ (Cond.sameField ref (q.2.1 j).1 (q.2.1 j).2.1 (q.2.1 j).2.2.1) ∈ lw_all) (hty : tr_ (tyT ci j) = true) (kd : Nat) (hkd : ci + 1 = kd) (d : decode cc pc = .ok (.getfield i, 3)) (pc' : Nat) (hp : pc + 3 = pc') {f : Option Nat → Rs α} (kk : ∀ x, Sm_ l g E nL en (f x) k n pc' L (vr_ x :: st) m) : Sm_ l g E nL en (gr_ m r0 kd j f) k n pc L (vr_ r0 :: st) m := by
  subst hkd
  cases r0 with
  | none => exact Sm_none
  | some a =>
    show Sm_ l g E nL en (if _ then _ else _) _ _ _ _ _ _
    split
    · exact s_getf C (by assumption) hc j hj hlink hsame _ (vt_r hty _ _ _) d pc' hp (kk _)
    · exact Sm_none
theorem x_giN (C : Cx_ l g E own cc nL lvl) {i : Nat} {r0 : Option Nat} (ci : Nat) (q : vw_C) (hc : clT[ci]? = some q) {ref host : String} (j : Nat) (hj : j < q.2.2) (hlink : (Cond.fieldLinkNest own i ref (q.2.1 j).2.1 (q.2.1 j).2.2.1 host) ∈ lw_tbl) (hsame : (q.2.1 j).1 = ref) (hty : ti_ (tyT ci j) = true) (kd : Nat) (hkd : ci + 1 = kd) (d : decode cc pc = .ok (.getfield i, 3)) (pc' : Nat) (hp : pc + 3 = pc') {f : Int32 → Rs α} (kk : ∀ x, Sm_ l g E nL en (f x) k n pc' L (vi_ x :: st) m) : Sm_ l g E nL en (gi_ m r0 kd j f) k n pc L (vr_ r0 :: st) m := by
  subst hkd
  cases r0 with
  | none => exact Sm_none
  | some a =>
    show Sm_ l g E nL en (if _ then _ else _) _ _ _ _ _ _
    split
    · exact s_getfN C (by assumption) hc j hj hlink hsame _ (vt_i hty _ _ _) d pc' hp (kk _)
    · exact Sm_none
theorem x_gjN (C : Cx_ l g E own cc nL lvl) {i : Nat} {r0 : Option Nat} (ci : Nat) (q : vw_C) (hc : clT[ci]? = some q) {ref host : String} (j : Nat) (hj : j < q.2.2) (hlink : (Cond.fieldLinkNest own i ref (q.2.1 j).2.1 (q.2.1 j).2.2.1 host) ∈ lw_tbl) (hsame : (q.2.1 j).1 = ref) (hty : tyT ci j = .long) (kd : Nat) (hkd : ci + 1 = kd) (d : decode cc pc = .ok (.getfield i, 3)) (pc' : Nat) (hp : pc + 3 = pc') {f : Int64 → Rs α} (kk : ∀ x, Sm_ l g E nL en (f x) k n pc' L (vj_ x :: st) m) : Sm_ l g E nL en (gj_ m r0 kd j f) k n pc L (vr_ r0 :: st) m := by
  subst hkd
  cases r0 with
  | none => exact Sm_none
  | some a =>
    show Sm_ l g E nL en (if _ then _ else _) _ _ _ _ _ _
    split
    · exact s_getfN C (by assumption) hc j hj hlink hsame (vj_ (mj_ m a j)) (by rw [hty]; rfl) d pc' hp (kk _)
    · exact Sm_none
theorem x_grN (C : Cx_ l g E own cc nL lvl) {i : Nat} {r0 : Option Nat} (ci : Nat) (q : vw_C) (hc : clT[ci]? = some q) {ref host : String} (j : Nat) (hj : j < q.2.2) (hlink : (Cond.fieldLinkNest own i ref (q.2.1 j).2.1 (q.2.1 j).2.2.1 host) ∈ lw_tbl) (hsame : (q.2.1 j).1 = ref) (hty : tr_ (tyT ci j) = true) (kd : Nat) (hkd : ci + 1 = kd) (d : decode cc pc = .ok (.getfield i, 3)) (pc' : Nat) (hp : pc + 3 = pc') {f : Option Nat → Rs α} (kk : ∀ x, Sm_ l g E nL en (f x) k n pc' L (vr_ x :: st) m) : Sm_ l g E nL en (gr_ m r0 kd j f) k n pc L (vr_ r0 :: st) m := by
  subst hkd
  cases r0 with
  | none => exact Sm_none
  | some a =>
    show Sm_ l g E nL en (if _ then _ else _) _ _ _ _ _ _
    split
    · exact s_getfN C (by assumption) hc j hj hlink hsame _ (vt_r hty _ _ _) d pc' hp (kk _)
    · exact Sm_none
/-! arrays -/
theorem ra_arr {H' : Heap} {m' : Mm} {a t : Nat} {ty : FieldType} (hk : mk_ m' a = 200 + t) (ht : atT[t]? = some ty) (h : H'[a]? = some (arrV (gA_ g t) (ml_ m' a) (fun j => vt_ ty m' a j))) : ra_ g m' H' a := by
  have htl : t < 9 := by
    have := (List.getElem?_eq_some_iff.mp ht).1
    simpa [atT] using this
  refine ⟨fun c2 r e c => ?_, fun t2 ty2 e c => ?_, fun i hi e => ?_, fun i hi e => ?_⟩
  · have := clT_lt c
    omega
  · have : t2 = t := by omega
    subst this
    cases c.symm.trans ht
    exact h
  · omega
  · omega
theorem atL_at {g : GG} {t : Nat} {ty : FieldType} (ht : atT[t]? = some ty) : (atL g)[t]? = some (gA_ g t, ty) := by
  have htl : t < 9 := by
    have := (List.getElem?_eq_some_iff.mp ht).1
    simpa [atT] using this
  rcases show t = 0 ∨ t = 1 ∨ t = 2 ∨ t = 3 ∨ t = 4 ∨ t = 5 ∨ t = 6 ∨ t = 7 ∨ t = 8 by omega with h | h | h | h | h | h | h | h | h <;> subst h <;> cases ht <;> rfl
theorem ix_vp {i : Int32} {n : Nat} (h : 0 ≤ i.toInt ∧ i.toInt < n) : vp_in i n := vp_in_iff.mpr h
theorem ix_lt {i : Int32} {n : Nat} (h : 0 ≤ i.toInt ∧ i.toInt < n) : i.toNatClampNeg < n := Nat.not_le.mp fun q => ix_vp h (Or.inr q)
theorem ix_out {i : Int32} {c : ClassId} {n : Nat} {z : Nat → Value} (h : 0 ≤ i.toInt ∧ i.toInt < n) : ¬ (i < 0 ∨ (arrV c n z).slots.size ≤ i.toNatClampNeg) := by rw [arrV_size]; exact ix_vp h
theorem x_arr {f : Rs α} {a t : Nat} {ty : FieldType} {i : Int32} {v : TV} {pc' : Nat} (ht : atT[t]? = some ty) (hk : mk_ m a = 200 + t) (h : 0 ≤ i.toInt ∧ i.toInt < ml_ m a) (hv : vt_ ty m a i.toInt.toNat = tv_ v)
    (row : ∀ (H : Heap) (locs : List Loc) (ls : Array Slot) (Q : State → Prop), Rp_ g m H → H[a]? = some (arrV (gA_ g t) (ml_ m a) (fun j => vt_ ty m a j)) → (arrV (gA_ g t) (ml_ m a) (fun j => vt_ ty m a j)).slots[i.toNatClampNeg]? = some (tv_ v) → Wt_ l E H locs k n Q (F0 (eM_ E) pc' ls (sv_ (v :: st))) → Wt_ l E H locs k n Q (F0 (eM_ E) pc ls (sv_ (vi_ i :: vr_ (some a) :: st))))
    (kk : Sm_ l g E nL en f k n pc' L (v :: st) m) : Sm_ l g E nL en f k n pc L (vi_ i :: vr_ (some a) :: st) m := by
  refine Sm_go kk (fun H locs ls Q hR hS hl w => ?_)
  refine row H locs ls Q hR ((hR.2.2.2.1 a).2.1 t ty hk ht) ?_ (w ls hl)
  rw [arrV_read _ _ (ix_lt h)]
  exact congrArg some hv
theorem x_ai0 (C : Cx_ l g E own cc nL lvl) {i : Int32} {r0 : Option Nat} (kd : Nat) (hkd : 200 = kd) (d : decode cc pc = .ok (.iaload, 1)) (pc' : Nat) (hp : pc + 1 = pc') {f : Int32 → Rs α} (kk : ∀ x, Sm_ l g E nL en (f x) k n pc' L (vi_ x :: st) m) : Sm_ l g E nL en (ai_ m r0 kd i f) k n pc L (vi_ i :: vr_ r0 :: st) m := by
  subst hkd; subst hp
  cases r0 with
  | none => exact Sm_none
  | some a =>
    show Sm_ l g E nL en (if _ then _ else _) _ _ _ _ _ _
    split
    case isTrue h => exact x_arr (pc' := pc + 1) (v := vi_ (mi_ m a i.toInt.toNat)) (t := 0) (ty := .int) rfl h.1 h.2 rfl (fun H locs ls Q hR e1 e2 w => W.iald C.1 C.2.1 e1 ((C.2.2.2.2.2.2.1.1.2 0 _ rfl).1 _ _) (fun q => by cases q) (ix_out h.2) e2 rfl rfl d w) (kk _)
    case isFalse h => exact Sm_none
theorem x_ai1 (C : Cx_ l g E own cc nL lvl) {i : Int32} {r0 : Option Nat} (kd : Nat) (hkd : 201 = kd) (d : decode cc pc = .ok (.baload, 1)) (pc' : Nat) (hp : pc + 1 = pc') {f : Int32 → Rs α} (kk : ∀ x, Sm_ l g E nL en (f x) k n pc' L (vi_ x :: st) m) : Sm_ l g E nL en (ai_ m r0 kd i f) k n pc L (vi_ i :: vr_ r0 :: st) m := by
  subst hkd; subst hp
  cases r0 with
  | none => exact Sm_none
  | some a =>
    show Sm_ l g E nL en (if _ then _ else _) _ _ _ _ _ _
    split
    case isTrue h => exact x_arr (pc' := pc + 1) (v := vi_ (mi_ m a i.toInt.toNat)) (t := 1) (ty := .boolean) rfl h.1 h.2 rfl (fun H locs ls Q hR e1 e2 w => W.zald C.1 C.2.1 e1 ((C.2.2.2.2.2.2.1.1.2 1 _ rfl).1 _ _) (fun q => by cases q) (ix_out h.2) e2 rfl rfl d w) (kk _)
    case isFalse h => exact Sm_none
theorem x_ai2 (C : Cx_ l g E own cc nL lvl) {i : Int32} {r0 : Option Nat} (kd : Nat) (hkd : 202 = kd) (d : decode cc pc = .ok (.baload, 1)) (pc' : Nat) (hp : pc + 1 = pc') {f : Int32 → Rs α} (kk : ∀ x, Sm_ l g E nL en (f x) k n pc' L (vi_ x :: st) m) : Sm_ l g E nL en (ai_ m r0 kd i f) k n pc L (vi_ i :: vr_ r0 :: st) m := by
  subst hkd; subst hp
  cases r0 with
  | none => exact Sm_none
  | some a =>
    show Sm_ l g E nL en (if _ then _ else _) _ _ _ _ _ _
    split
    case isTrue h => exact x_arr (pc' := pc + 1) (v := vi_ (mi_ m a i.toInt.toNat)) (t := 2) (ty := .byte) rfl h.1 h.2 rfl (fun H locs ls Q hR e1 e2 w => W.bald C.1 C.2.1 e1 ((C.2.2.2.2.2.2.1.1.2 2 _ rfl).1 _ _) (fun q => by cases q) (ix_out h.2) e2 rfl rfl d w) (kk _)
    case isFalse h => exact Sm_none
theorem x_aj3 (C : Cx_ l g E own cc nL lvl) {i : Int32} {r0 : Option Nat} (kd : Nat) (hkd : 203 = kd) (d : decode cc pc = .ok (.laload, 1)) (pc' : Nat) (hp : pc + 1 = pc') {f : Int64 → Rs α} (kk : ∀ x, Sm_ l g E nL en (f x) k n pc' L (vj_ x :: st) m) : Sm_ l g E nL en (aj_ m r0 kd i f) k n pc L (vi_ i :: vr_ r0 :: st) m := by
  subst hkd; subst hp
  cases r0 with
  | none => exact Sm_none
  | some a =>
    show Sm_ l g E nL en (if _ then _ else _) _ _ _ _ _ _
    split
    case isTrue h => exact x_arr (pc' := pc + 1) (t := 3) (ty := .long) (v := vj_ (mj_ m a i.toInt.toNat)) rfl h.1 h.2 rfl (fun H locs ls Q hR e1 e2 w => W.lald C.1 C.2.1 e1 ((C.2.2.2.2.2.2.1.1.2 3 _ rfl).1 _ _) (fun q => by cases q) (ix_out h.2) e2 rfl rfl d w) (kk _)
    case isFalse h => exact Sm_none
theorem x_ar (C : Cx_ l g E own cc nL lvl) {i : Int32} {r0 : Option Nat} (t : Nat) (ty : FieldType) (ht : atT[t]? = some ty) (hty : ty.isReference = true) (hr : tr_ ty = true) (kd : Nat) (hkd : 200 + t = kd) (d : decode cc pc = .ok (.aaload, 1)) (pc' : Nat) (hp : pc + 1 = pc') {f : Option Nat → Rs α} (kk : ∀ x, Sm_ l g E nL en (f x) k n pc' L (vr_ x :: st) m) : Sm_ l g E nL en (ar_ m r0 kd i f) k n pc L (vi_ i :: vr_ r0 :: st) m := by
  subst hkd; subst hp
  cases r0 with
  | none => exact Sm_none
  | some a =>
    show Sm_ l g E nL en (if _ then _ else _) _ _ _ _ _ _
    split
    case isTrue h => exact x_arr (pc' := pc + 1) (v := vr_ (mr_ m a i.toInt.toNat)) (t := t) (ty := ty) ht h.1 h.2 (vt_r hr _ _ _) (fun H locs ls Q hR e1 e2 w => W.aald (ty := ty) C.1 C.2.1 e1 ((C.2.2.2.2.2.2.1.1.2 t _ (atL_at ht)).1 _ _) hty (fun q => by cases q) (ix_out h.2) e2 rfl rfl d w) (kk _)
    case isFalse h => exact Sm_none
theorem x_ln (C : Cx_ l g E own cc nL lvl) {r0 : Option Nat} (t : Nat) (ty : FieldType) (ht : atT[t]? = some ty) (kd : Nat) (hkd : 200 + t = kd) (d : decode cc pc = .ok (.arraylength, 1)) (pc' : Nat) (hp : pc + 1 = pc') {f : Int32 → Rs α} (kk : ∀ x, Sm_ l g E nL en (f x) k n pc' L (vi_ x :: st) m) : Sm_ l g E nL en (ln_ m r0 kd f) k n pc L (vr_ r0 :: st) m := by
  subst hkd; subst hp
  cases r0 with
  | none => exact Sm_none
  | some a =>
    show Sm_ l g E nL en (if _ then _ else _) _ _ _ _ _ _
    split
    case isTrue h =>
      refine Sm_go (kk _) (fun H locs ls Q hR hS hl w => ?_)
      exact W.alen (n := Int32.ofNat (ml_ m a)) C.1 C.2.1 ((hR.2.2.2.1 a).2.1 t ty h ht) ((C.2.2.2.2.2.2.1.1.2 t _ (atL_at ht)).1 _ _) (by rw [arrV_size] <;> rfl) rfl rfl d (w ls hl)
    case isFalse h => exact Sm_none
/-- an array's place written -/
theorem x_ast {f : Rs α} {a t : Nat} {ty : FieldType} {i : Int32} {v w : TV} {pc' : Nat} (ht : atT[t]? = some ty) (hk : mk_ m a = 200 + t) (hb : mb_ m ≤ a) (h : 0 ≤ i.toInt ∧ i.toInt < ml_ m a) (hv : vt_ ty (sv1_ m a i.toInt.toNat w) a i.toInt.toNat = tv_ w)
    (row : ∀ (H : Heap) (locs : List Loc) (ls : Array Slot) (Q : State → Prop), Rp_ g m H → va_S (fr_ g) (eS_ E).heap H locs → H[a]? = some (arrV (gA_ g t) (ml_ m a) (fun j => vt_ ty m a j)) → (∀ H' : Heap, H'[a]? = some ((arrV (gA_ g t) (ml_ m a) (fun j => vt_ ty m a j)).setSlot i.toNatClampNeg (tv_ w)) → H'.size = H.size → (∀ q, q ≠ a → H'[q]? = H[q]?) → Wt_ l E H' (locs ++ [⟨a, i.toNatClampNeg⟩]) k n Q (F0 (eM_ E) pc' ls (sv_ st))) → Wt_ l E H locs k n Q (F0 (eM_ E) pc ls (sv_ (v :: vi_ i :: vr_ (some a) :: st))))
    (kk : Sm_ l g E nL en f k n pc' L st (sv1_ m a i.toInt.toNat w)) : Sm_ l g E nL en f k n pc L (v :: vi_ i :: vr_ (some a) :: st) m := by
  intro v0 m0 k0 n0 hr0 h1 h2 H locs ls hR hS hl
  have e0 := (hR.2.2.2.1 a).2.1 t ty hk ht
  have hlt : a < H.size := (Array.getElem?_eq_some_iff.mp e0).1
  refine row H locs ls _ hR hS e0 (fun H' e1 e2 e3 => ?_)
  have hm : mk_ (sv1_ m a i.toInt.toNat w) = mk_ m ∧ ml_ (sv1_ m a i.toInt.toNat w) = ml_ m ∧ mz_ (sv1_ m a i.toInt.toNat w) = mz_ m ∧ mb_ (sv1_ m a i.toInt.toNat w) = mb_ m := by rcases w with x | x | x <;> exact ⟨rfl, rfl, rfl, rfl⟩
  have ho : ∀ ty b j, ¬ (b = a ∧ j = i.toInt.toNat) → vt_ ty (sv1_ m a i.toInt.toNat w) b j = vt_ ty m b j := by
    intro ty b j hn
    rcases w with x | x | x
    · exact vt_si _ _ _ _ _ _ _ hn
    · exact vt_sj _ _ _ _ _ _ _ hn
    · exact vt_sr _ _ _ _ _ _ _ hn
  refine kk v0 m0 k0 n0 hr0 h1 h2 H' _ ls (rp_set hR (ra_arr (t := t) (by rw [hm.1]; exact hk) ht ?_) e2 e3 hb hlt ⟨_, e1, rfl⟩ (fun b _ => by rw [hm.1]) (Or.inl (by rw [hm.1])) (fun b _ => by rw [hm.2.1]) ?_ ?_ ?_ hm.2.2.1 hm.2.2.2) (hS.put e2 e3 (by show gB_ g ≤ a; rw [hR.2.1]; exact hb)) hl
  · rw [e1, arrV_store, hm.2.1]
    congr 2
    funext j
    by_cases e : j = i.toNatClampNeg
    · subst e
      rw [updV, if_pos rfl]
      exact hv.symm
    · rw [updV, if_neg e, ho _ _ _ (fun z => e z.2)]
  · intro b j hn
    rcases w with x | x | x
    · exact (by rw [sv1_, mi_si, if_neg (fun z => hn z.1)])
    · rfl
    · rfl
  · intro b j hn
    rcases w with x | x | x
    · rfl
    · exact (by rw [sv1_, mj_sj, if_neg (fun z => hn z.1)])
    · rfl
  · intro b j hn
    rcases w with x | x | x
    · rfl
    · rfl
    · exact (by rw [sv1_, mr_sr, if_neg (fun z => hn z.1)])
theorem x_bi0 (C : Cx_ l g E own cc nL lvl) {i x : Int32} {r0 : Option Nat} (kd : Nat) (hkd : 200 = kd) (d : decode cc pc = .ok (.iastore, 1)) (pc' : Nat) (hp : pc + 1 = pc') {f : Mm → Rs α} (kk : ∀ m', Sm_ l g E nL en (f m') k n pc' L st m') : Sm_ l g E nL en (bi_ m r0 kd i x f) k n pc L (vi_ x :: vi_ i :: vr_ r0 :: st) m := by
  subst hkd; subst hp
  cases r0 with
  | none => exact Sm_none
  | some a =>
    show Sm_ l g E nL en (if _ then _ else _) _ _ _ _ _ _
    split
    case isTrue h => exact x_ast (pc' := pc + 1) (t := 0) (ty := .int) (w := vi_ x) rfl h.1 h.2.1 h.2.2 (by simp [sv1_, vt_, mi_si, tv_]) (fun H locs ls Q hR hS e1 w => W.iast C.1 C.2.1 e1 ((C.2.2.2.2.2.2.1.1.2 0 _ rfl).1 _ _) (fun q => by cases q) (ix_out h.2.2) rfl rfl d w) (kk _)
    case isFalse h => exact Sm_none
/-- booleans: what is written is 0 or 1 -/
theorem x_bi1 (C : Cx_ l g E own cc nL lvl) {i x : Int32} {r0 : Option Nat} (kd : Nat) (hkd : 201 = kd) (d : decode cc pc = .ok (.bastore, 1)) (pc' : Nat) (hp : pc + 1 = pc') {f : Mm → Rs α} (kk : ∀ m', Sm_ l g E nL en (f m') k n pc' L st m') : Sm_ l g E nL en (bi_ m r0 kd i (vp_nar .boolean x) f) k n pc L (vi_ x :: vi_ i :: vr_ r0 :: st) m := by
  subst hkd; subst hp
  cases r0 with
  | none => exact Sm_none
  | some a =>
    show Sm_ l g E nL en (if _ then _ else _) _ _ _ _ _ _
    split
    case isTrue h => exact x_ast (pc' := pc + 1) (t := 1) (ty := .boolean) (w := vi_ (vp_nar .boolean x)) rfl h.1 h.2.1 h.2.2 (by simp [sv1_, vt_, mi_si, tv_]) (fun H locs ls Q hR hS e1 w => W.zast C.1 C.2.1 e1 ((C.2.2.2.2.2.2.1.1.2 1 _ rfl).1 _ _) (fun q => by cases q) (ix_out h.2.2) rfl rfl d w) (kk _)
    case isFalse h => exact Sm_none
theorem x_bi2 (C : Cx_ l g E own cc nL lvl) {i x : Int32} {r0 : Option Nat} (kd : Nat) (hkd : 202 = kd) (d : decode cc pc = .ok (.bastore, 1)) (pc' : Nat) (hp : pc + 1 = pc') {f : Mm → Rs α} (kk : ∀ m', Sm_ l g E nL en (f m') k n pc' L st m') : Sm_ l g E nL en (bi_ m r0 kd i x.toInt8.toInt32 f) k n pc L (vi_ x :: vi_ i :: vr_ r0 :: st) m := by
  subst hkd; subst hp
  cases r0 with
  | none => exact Sm_none
  | some a =>
    show Sm_ l g E nL en (if _ then _ else _) _ _ _ _ _ _
    split
    case isTrue h => exact x_ast (pc' := pc + 1) (t := 2) (ty := .byte) (w := vi_ x.toInt8.toInt32) rfl h.1 h.2.1 h.2.2 (by simp [sv1_, vt_, mi_si, tv_]) (fun H locs ls Q hR hS e1 w => W.bast C.1 C.2.1 e1 ((C.2.2.2.2.2.2.1.1.2 2 _ rfl).1 _ _) (fun q => by cases q) (ix_out h.2.2) rfl rfl d w) (kk _)
    case isFalse h => exact Sm_none
theorem x_bj3 (C : Cx_ l g E own cc nL lvl) {i : Int32} {x : Int64} {r0 : Option Nat} (kd : Nat) (hkd : 203 = kd) (d : decode cc pc = .ok (.lastore, 1)) (pc' : Nat) (hp : pc + 1 = pc') {f : Mm → Rs α} (kk : ∀ m', Sm_ l g E nL en (f m') k n pc' L st m') : Sm_ l g E nL en (bj_ m r0 kd i x f) k n pc L (vj_ x :: vi_ i :: vr_ r0 :: st) m := by
  subst hkd; subst hp
  cases r0 with
  | none => exact Sm_none
  | some a =>
    show Sm_ l g E nL en (if _ then _ else _) _ _ _ _ _ _
    split
    case isTrue h => exact x_ast (pc' := pc + 1) (t := 3) (ty := .long) (w := vj_ x) rfl h.1 h.2.1 h.2.2 (by simp [sv1_, vt_, mj_sj, tv_]) (fun H locs ls Q hR hS e1 w => W.last C.1 C.2.1 e1 ((C.2.2.2.2.2.2.1.1.2 3 _ rfl).1 _ _) (fun q => by cases q) (ix_out h.2.2) rfl rfl d w) (kk _)
    case isFalse h => exact Sm_none
end ARW
