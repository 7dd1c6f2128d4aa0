/-! a receiver of a kind; not null; two kinds; no division by zero -/
def ck_ {α : Type} (m : Mm) (r : Option Nat) (kd : Nat) (f : Rs α) : Rs α := match r with
  | none => none
  | some a => if mk_ m a = kd then f else none
def ok_ {α : Type} (r : Option Nat) (f : Rs α) : Rs α := match r with
  | none => none
  | some _ => f
def cs_ {α : Type} (m : Mm) (r : Option Nat) (kd : Nat) (f f2 : Rs α) : Rs α := match r with
  | none => none
  | some a => if mk_ m a = kd then f else f2
def dz_ {α : Type} (y : Int32) (f : Rs α) : Rs α := if y = 0 then none else f
section GLW
variable {α β : Type} {l : Launch} {g : GG} {E : Me_} {own : String} {cc : ByteArray} {nL lvl : Nat} {en : α → Fn_} {k n pc : Nat} {L L' : List (Nat × TV)} {st stA : List TV} {m : Mm}
theorem x_ck {r0 : Option Nat} {kd : Nat} {f : Rs α} (kk : (∀ a, r0 = some a → mk_ m a = kd) → r0 ≠ none → Sm_ l g E nL en f k n pc L st m) : Sm_ l g E nL en (ck_ m r0 kd f) k n pc L st m := by
  cases r0 with
  | none => exact Sm_none
  | some a =>
    show Sm_ l g E nL en (if _ then _ else _) _ _ _ _ _ _
    split
    case isTrue h => exact kk (fun b hb => by cases hb; exact h) (fun h => by cases h)
    case isFalse => exact Sm_none
theorem x_cs {r0 : Option Nat} {kd : Nat} {f f2 : Rs α} (kk : (∀ a, r0 = some a → mk_ m a = kd) → r0 ≠ none → Sm_ l g E nL en f k n pc L st m) (kf : Sm_ l g E nL en f2 k n pc L st m) : Sm_ l g E nL en (cs_ m r0 kd f f2) k n pc L st m := by
  cases r0 with
  | none => exact Sm_none
  | some a =>
    show Sm_ l g E nL en (if _ then _ else _) _ _ _ _ _ _
    split
    case isTrue h => exact kk (fun b hb => by cases hb; exact h) (fun h => by cases h)
    case isFalse => exact kf
theorem x_ok {r0 : Option Nat} {f : Rs α} (kk : r0 ≠ none → Sm_ l g E nL en f k n pc L st m) : Sm_ l g E nL en (ok_ r0 f) k n pc L st m := by
  cases r0 with
  | none => exact Sm_none
  | some a => exact kk (fun h => by cases h)
theorem x_dz {y : Int32} {f : Rs α} (kk : ¬ y = 0 → Sm_ l g E nL en f k n pc L st m) : Sm_ l g E nL en (dz_ y f) k n pc L st m := by
  unfold dz_
  split
  case isTrue => exact Sm_none
  case isFalse h => exact kk h
/-! answers of a type, behind a call -/
theorem tv_int {t : TV} {x : Int32} (h : tv_ t = .int x) : t = vi_ x := by
  rcases t with y | y | y
  · cases h; rfl
  · cases h
  · cases y <;> cases h
theorem tv_long {t : TV} {x : Int64} (h : tv_ t = .long x) : t = vj_ x := by
  rcases t with y | y | y
  · cases h
  · cases h; rfl
  · cases y <;> cases h
theorem tv_ref {t : TV} {x : Option Nat} (h : tv_ t = va_rf x) : t = vr_ x := by
  rcases t with y | y | y
  · cases x <;> cases h
  · cases x <;> cases h
  · cases x <;> cases y <;> cases h <;> rfl
theorem sv_one {t : List TV} {v : Value} (h : sv_ t = [v]) : ∃ u, t = [u] ∧ tv_ u = v := by
  match t, h with
  | [u], h => exact ⟨u, rfl, (List.cons.inj h).1⟩
theorem hen_i : ∀ (v : Int32) ov, en_i v = .inl ov → ∃ t, sv_ t = ov.toList := fun v ov h => by cases h; exact ⟨[vi_ v], rfl⟩
theorem hen_j : ∀ (v : Int64) ov, en_j v = .inl ov → ∃ t, sv_ t = ov.toList := fun v ov h => by cases h; exact ⟨[vj_ v], rfl⟩
theorem hen_r : ∀ (v : Option Nat) ov, en_r v = .inl ov → ∃ t, sv_ t = ov.toList := fun v ov h => by cases h; exact ⟨[vr_ v], rfl⟩
theorem hen_v : ∀ (v : Unit) ov, en_v v = .inl ov → ∃ t, sv_ t = ov.toList := fun v ov h => by cases h; exact ⟨[], rfl⟩
theorem hen_x {e : β → Fn_} (h : ∀ v ov, e v = .inl ov → ∃ t, sv_ t = ov.toList) : ∀ (v : β ⊕ Nat) ov, xe_ e v = .inl ov → ∃ t, sv_ t = ov.toList := fun v ov hv => by
  cases v with
  | inl x => exact h x ov hv
  | inr i => cases hv
theorem kk_i {f : Int32 → Mm → Rs α} {pc' : Nat} (kk : ∀ x m1 k1 n1, Sm_ l g E nL en (f x m1) (k + k1) (n + n1) pc' L (vi_ x :: st) m1) : ∀ v m1 k1 n1 (t : List TV) ov, en_i v = .inl ov → sv_ t = ov.toList → Sm_ l g E nL en (f v m1) (k + k1) (n + n1) pc' L (t ++ st) m1 := by
  intro v m1 k1 n1 t ov h1 h2
  cases h1
  obtain ⟨u, rfl, hu⟩ := sv_one h2
  rw [tv_int hu]
  exact kk v m1 k1 n1
theorem kk_j {f : Int64 → Mm → Rs α} {pc' : Nat} (kk : ∀ x m1 k1 n1, Sm_ l g E nL en (f x m1) (k + k1) (n + n1) pc' L (vj_ x :: st) m1) : ∀ v m1 k1 n1 (t : List TV) ov, en_j v = .inl ov → sv_ t = ov.toList → Sm_ l g E nL en (f v m1) (k + k1) (n + n1) pc' L (t ++ st) m1 := by
  intro v m1 k1 n1 t ov h1 h2
  cases h1
  obtain ⟨u, rfl, hu⟩ := sv_one h2
  rw [tv_long hu]
  exact kk v m1 k1 n1
theorem kk_r {f : Option Nat → Mm → Rs α} {pc' : Nat} (kk : ∀ x m1 k1 n1, Sm_ l g E nL en (f x m1) (k + k1) (n + n1) pc' L (vr_ x :: st) m1) : ∀ v m1 k1 n1 (t : List TV) ov, en_r v = .inl ov → sv_ t = ov.toList → Sm_ l g E nL en (f v m1) (k + k1) (n + n1) pc' L (t ++ st) m1 := by
  intro v m1 k1 n1 t ov h1 h2
  cases h1
  obtain ⟨u, rfl, hu⟩ := sv_one h2
  rw [tv_ref hu]
  exact kk v m1 k1 n1
theorem kk_v {f : Unit → Mm → Rs α} {pc' : Nat} (kk : ∀ m1 k1 n1, Sm_ l g E nL en (f () m1) (k + k1) (n + n1) pc' L st m1) : ∀ v m1 k1 n1 (t : List TV) ov, en_v v = .inl ov → sv_ t = ov.toList → Sm_ l g E nL en (f v m1) (k + k1) (n + n1) pc' L (t ++ st) m1 := by
  intro v m1 k1 n1 t ov h1 h2
  cases h1
  have : t = [] := by cases t with
    | nil => rfl
    | cons a b => cases h2
  subst this
  exact kk m1 k1 n1
theorem kx_n {e : β → Fn_} (he : ∀ v i, e v ≠ .inr i) {f : β → Mm → Rs α} : ∀ v m1 k1 n1 i, e v = .inr i → Sx_ l g E nL en (f v m1) (k + k1) (n + n1) pc L st i m1 := fun v m1 k1 n1 i h => absurd h (he v i)
theorem he_i : ∀ (v : Int32) i, en_i v ≠ .inr i := fun v i h => by cases h
theorem he_j : ∀ (v : Int64) i, en_j v ≠ .inr i := fun v i h => by cases h
theorem he_r : ∀ (v : Option Nat) i, en_r v ≠ .inr i := fun v i h => by cases h
theorem he_v : ∀ (v : Unit) i, en_v v ≠ .inr i := fun v i h => by cases h
/-- a callee that may throw: its answer -/
theorem kk_x {α' : Type} {en' : α' → Fn_} {e : β → Fn_} {pc' : Nat} {f : β → Mm → Rs (α' ⊕ Nat)} (kk : ∀ v m1 k1 n1 (t : List TV) ov, e v = .inl ov → sv_ t = ov.toList → Sm_ l g E nL (xe_ en') (f v m1) (k + k1) (n + n1) pc' L (t ++ st) m1) : ∀ (v : β ⊕ Nat) m1 k1 n1 (t : List TV) ov, xe_ e v = .inl ov → sv_ t = ov.toList → Sm_ l g E nL (xe_ en') (xf_ f v m1) (k + k1) (n + n1) pc' L (t ++ st) m1 := by
  intro v m1 k1 n1 t ov h1 h2
  cases v with
  | inl x => exact kk x m1 k1 n1 t ov h1 h2
  | inr i => cases h1
/-- .. its exception goes on -/
theorem kx_x {α' : Type} {en' : α' → Fn_} (C : Cx_ l g E own cc nL lvl) (h0 : ∀ x ∈ (eC_ E).exceptionTable.toList, False) {e : β → Fn_} (he : ∀ v i, e v ≠ .inr i) {f : β → Mm → Rs (α' ⊕ Nat)} : ∀ (v : β ⊕ Nat) m1 k1 n1 i, xe_ e v = .inr i → Sx_ l g E nL (xe_ en') (xf_ f v m1) (k + k1) (n + n1) pc L st i m1 := by
  intro v m1 k1 n1 i h
  cases v with
  | inl x => exact absurd h (he x i)
  | inr j => exact Sx_out C h0 h
/-- .. or is none here -/
theorem kk_n {e : β → Fn_} {pc' : Nat} {f : β → Mm → Rs α} (kk : ∀ v m1 k1 n1 (t : List TV) ov, e v = .inl ov → sv_ t = ov.toList → Sm_ l g E nL en (f v m1) (k + k1) (n + n1) pc' L (t ++ st) m1) : ∀ (v : β ⊕ Nat) m1 k1 n1 (t : List TV) ov, xe_ e v = .inl ov → sv_ t = ov.toList → Sm_ l g E nL en (nf_ f v m1) (k + k1) (n + n1) pc' L (t ++ st) m1 := by
  intro v m1 k1 n1 t ov h1 h2
  cases v with
  | inl x => exact kk x m1 k1 n1 t ov h1 h2
  | inr i => cases h1
theorem kx_0 {e : β → Fn_} (he : ∀ v i, e v ≠ .inr i) {f : β → Mm → Rs α} : ∀ (v : β ⊕ Nat) m1 k1 n1 i, xe_ e v = .inr i → Sx_ l g E nL en (nf_ f v m1) (k + k1) (n + n1) pc L st i m1 := by
  intro v m1 k1 n1 i h
  cases v with
  | inl x => exact absurd h (he x i)
  | inr j => exact Sx_none
/-- Object's constructor -/
theorem x_obj (C : Cx_ l g E own cc nL lvl) {b : Option Nat} {i : Nat} (hb : b ≠ none) (q1 : Cond.methodLink own i objectInit ∈ lw_all) (q2 : Cond.instanceMethod objectInit ∈ lw_all) (q3 : Cond.code objectInit ⟨#[0xb1]⟩ 1 none ∈ lw_all) (hlv : 1 ≤ lvl) (hst : tc_ st ≤ 8) (d : decode cc pc = .ok (.invokespecial i, 3)) (pc' : Nat) (hp : pc + 3 = pc') {r : Rs α} (kk : Sm_ l g E nL en r k n pc' L st m) : Sm_ l g E nL en r k n pc L (vr_ b :: st) m := by
  subst hp
  cases b with
  | none => exact absurd rfl hb
  | some a =>
    refine Sm_go kk (fun H locs ls Q hR hS hl w => ?_)
    have hts := C.2.2.2.2.1
    have hf := C.2.2.2.2.2.2.2.2.2
    refine W.objInit C.1 C.2.1 C.2.2.2.1 (hts _ q1) (hts _ q2) (hts _ q3) rfl (by rw [C.2.2.1]; exact hl.1) rfl d (by rw [hf.1]; exact hlv) ?_ (w ls hl)
    have := tc_room (m0 := eM_ E) (pc := pc) (ls := ls) (st0 := sv_ (vr_ (some a) :: st)) hst
    rw [hf.2]
    have h2 : 64 ≤ 64 * lvl := by omega
    have h3 : ∀ x : Nat, x ≤ 8 → x + 12 ≤ 64 * lvl := fun x hx => by omega
    exact h3 _ this
theorem x_naI (C : Cx_ l g E own cc nL lvl) {x : Int32} (d : decode cc pc = .ok (.newarray .int, 2)) (pc' : Nat) (hp : pc + 2 = pc') {f : Nat → Mm → Rs α} (kk : ∀ a m', Sm_ l g E nL en (f a m') (k + 1) (n + x.toInt.toNat) pc' L (vr_ (some a) :: st) m') : Sm_ l g E nL en (na_ m 200 x f) k n pc L (vi_ x :: st) m :=
  x_na C 0 .int rfl (by decide) q235 (fun m a j => by show Value.int _ = _; rw [mi_al, if_pos rfl]; rfl) (fun U cA h => h) 200 rfl d pc' hp kk
theorem x_naZ (C : Cx_ l g E own cc nL lvl) {x : Int32} (d : decode cc pc = .ok (.newarray .boolean, 2)) (pc' : Nat) (hp : pc + 2 = pc') {f : Nat → Mm → Rs α} (kk : ∀ a m', Sm_ l g E nL en (f a m') (k + 1) (n + x.toInt.toNat) pc' L (vr_ (some a) :: st) m') : Sm_ l g E nL en (na_ m 201 x f) k n pc L (vi_ x :: st) m :=
  x_na C 1 .boolean rfl (by decide) q3357 (fun m a j => by show Value.int _ = _; rw [mi_al, if_pos rfl]; rfl) (fun U cA h => h) 201 rfl d pc' hp kk
theorem x_naB (C : Cx_ l g E own cc nL lvl) {x : Int32} (d : decode cc pc = .ok (.newarray .byte, 2)) (pc' : Nat) (hp : pc + 2 = pc') {f : Nat → Mm → Rs α} (kk : ∀ a m', Sm_ l g E nL en (f a m') (k + 1) (n + x.toInt.toNat) pc' L (vr_ (some a) :: st) m') : Sm_ l g E nL en (na_ m 202 x f) k n pc L (vi_ x :: st) m :=
  x_na C 2 .byte rfl (by decide) q581 (fun m a j => by show Value.int _ = _; rw [mi_al, if_pos rfl]; rfl) (fun U cA h => h) 202 rfl d pc' hp kk
theorem x_naJ (C : Cx_ l g E own cc nL lvl) {x : Int32} (d : decode cc pc = .ok (.newarray .long, 2)) (pc' : Nat) (hp : pc + 2 = pc') {f : Nat → Mm → Rs α} (kk : ∀ a m', Sm_ l g E nL en (f a m') (k + 1) (n + x.toInt.toNat) pc' L (vr_ (some a) :: st) m') : Sm_ l g E nL en (na_ m 203 x f) k n pc L (vi_ x :: st) m :=
  x_na C 3 .long rfl (by decide) q294 (fun m a j => by show Value.long _ = _; rw [mj_al, if_pos rfl]; rfl) (fun U cA h => h) 203 rfl d pc' hp kk
/-- what may lie in an Object[] -/
theorem caO : ∀ k ∈ [2, 5, 6, 7, 8, 9, 10, 11, 27, 200], ca_ k "java/lang/Object" := by
  intro k hk
  simp only [List.mem_cons, List.not_mem_nil, or_false] at hk
  rcases hk with h | h | h | h | h | h | h | h | h | h <;> subst h
  · exact ⟨rfl, Or.inl q3751⟩
  · exact ⟨rfl, Or.inl q3755⟩
  · exact ⟨rfl, Or.inl q3761⟩
  · exact ⟨rfl, Or.inl q3768⟩
  · exact ⟨rfl, Or.inl q3786⟩
  · exact ⟨rfl, Or.inl q3787⟩
  · exact ⟨rfl, Or.inl q3788⟩
  · exact ⟨rfl, Or.inl q3789⟩
  · exact ⟨rfl, Or.inl q3764⟩
  · exact ⟨rfl, Or.inl q3802⟩
end GLW
