/-! exceptions caught here -/
def ch_ {α β : Type} (f : β → Mm → Rs α) (h : Nat → Mm → Rs α) (v : β ⊕ Nat) (m : Mm) : Rs α := match v with
  | .inl x => f x m
  | .inr i => h i m
section CAW
variable {α β : Type} {l : Launch} {g : GG} {E : Me_} {own : String} {cc : ByteArray} {nL lvl : Nat} {en : α → Fn_} {k n pc : Nat} {L L' : List (Nat × TV)} {st stA : List TV} {m : Mm}
theorem kk_c {e : β → Fn_} {pc' : Nat} {f : β → Mm → Rs α} {h : Nat → Mm → Rs α} (kk : ∀ v m1 k1 n1 (t : List TV) ov, e v = .inl ov → sv_ t = ov.toList → Sm_ l g E nL en (f v m1) (k + k1) (n + n1) pc' L (t ++ st) m1) : ∀ (v : β ⊕ Nat) m1 k1 n1 (t : List TV) ov, xe_ e v = .inl ov → sv_ t = ov.toList → Sm_ l g E nL en (ch_ f h v m1) (k + k1) (n + n1) pc' L (t ++ st) m1 := by
  intro v m1 k1 n1 t ov h1 h2
  cases v with
  | inl x => exact kk x m1 k1 n1 t ov h1 h2
  | inr i => cases h1
theorem kx_c {e : β → Fn_} (he : ∀ v i, e v ≠ .inr i) {f : β → Mm → Rs α} {h : Nat → Mm → Rs α} (kh : ∀ i m1 k1 n1, Sx_ l g E nL en (h i m1) (k + k1) (n + n1) pc L st i m1) : ∀ (v : β ⊕ Nat) m1 k1 n1 i, xe_ e v = .inr i → Sx_ l g E nL en (ch_ f h v m1) (k + k1) (n + n1) pc L st i m1 := by
  intro v m1 k1 n1 i h1
  cases v with
  | inl x => exact absurd h1 (he x i)
  | inr j => cases h1; exact kh _ m1 k1 n1
theorem Sx_if {i j : Nat} {A B : Rs α} (h1 : Sx_ l g E nL en A k n pc L st j m) (h2 : Sx_ l g E nL en B k n pc L st i m) : Sx_ l g E nL en (if i = j then A else B) k n pc L st i m := by
  split
  case isTrue h => rw [h]; exact h1
  case isFalse => exact h2
theorem Sx_ctch {hh : List (Nat × Nat × Nat × Nat)} {r : Rs α} (C : Cx_ l g E own cc nL lvl) (htab : (eC_ E).exceptionTable.toList = tableOf hh) (i : Nat) (pre : List ExceptionTableEntry) (x : ExceptionTableEntry) (suf : List ExceptionTableEntry) (hsplit : tableOf hh = pre ++ x :: suf)
    (hpass : ∀ z ∈ pre, covers z pc = false ∨ (z.catchType ≠ 0 ∧ ∃ nm : String, Cond.classLink own z.catchType nm ∈ lw_all ∧ (xn_ i, nm) ∈ ncL)) (hx : covers x pc = true) (h0 : x.catchType ≠ 0) (hlink : Cond.classLink own x.catchType (xn_ i) ∈ lw_all) (hcast : Cond.castable (xn_ i) (xn_ i) ∈ lw_tbl) (ph : Nat) (hph : x.handlerPc = ph) (kk : ∀ q, Sm_ l g E nL en r k n ph L [vr_ (some q)] m) : Sx_ l g E nL en r k n pc L st i m := by
  subst hph
  intro v0 m0 k0 n0 hr h1 h2 H locs ls q ce hR hS hl hi hce hv hcl
  have hK := C.2.2.2.2.2.2.1
  have hts := C.2.2.2.2.1
  exact vx_catch C.2.2.2.1 pre x suf (by rw [htab]; exact hsplit) (fun z hz => by
    rcases hpass z hz with h | ⟨z0, nm, hl1, hn1⟩
    · exact Or.inl h
    · exact Or.inr ⟨z0, nm, hts _ hl1, hK.2.2.2.2.2.2.2.2.2.2.2.2.2.1 _ hn1⟩) hx h0 (hts _ hlink) (va_Nw.use rfl (KN.use hK hcast rfl)) hce hv hcl (kk q v0 m0 k0 n0 hr h1 h2 H locs ls hR hS hl)
/-- instanceof of a class that the object hasn't -/
def io0_ {α : Type} (m : Mm) (r : Option Nat) (kd : Nat) (f : Rs α) : Rs α := match r with
  | none => none
  | some a => if mk_ m a = kd then f else none
theorem x_io0 (C : Cx_ l g E own cc nL lvl) {i : Nat} {r0 : Option Nat} (nm : String) (kd : Nat) (hkk : kk_ kd = true) (hc : (cn_ kd, nm) ∈ ncL) (hlink : (Cond.classLink own i nm) ∈ lw_all) (d : decode cc pc = .ok (.instanceof i, 3)) (pc' : Nat) (hp : pc + 3 = pc') {f : Rs α} (kk : Sm_ l g E nL en f k n pc' L (vi_ 0 :: st) m) : Sm_ l g E nL en (io0_ m r0 kd f) k n pc L (vr_ r0 :: st) m := by
  subst hp
  unfold io0_
  split
  · exact Sm_none
  · rename_i a
    split
    case isFalse => exact Sm_none
    case isTrue hk =>
      refine Sm_go kk (fun H locs ls Q hR hS hl w => ?_)
      have hK := C.2.2.2.2.2.2.1
      exact va_instNo C.1 C.2.1 C.2.2.2.1 (C.2.2.2.2.1 _ hlink) (hK.2.2.2.2.2.2.2.2.2.2.2.2.2.1 _ hc) (rp_recv (s := eS_ E) hK hR kd hk hkk rfl) d (w ls hl)
end CAW
/-- a contract of a method with handlers -/
theorem Ct_ofW {α : Type} {l : Launch} {g : GG} {y : MethodName} {lvl : Nat} {av : List TV} {m : Mm} {cc : ByteArray} {maxL : Nat} {ret : Option FieldType} {own : String} {en : α → Fn_} {r : Rs α} {hh : List (Nat × Nat × Nat × Nat)}
    (hy : plainName y.cls = true) (ho : y.cls = own) (hst : l.stackTraces = false) (hn : ls_ av ≤ maxL) {L0 : List (Nat × TV)} (hL : la_ 0 av = L0)
    (body : ∀ E : Me_, Cx_ l g E own cc maxL lvl → (eT_ E).sig.returnType = ret → ((eC_ E).exceptionTable.toList = tableOf hh) → ((eT_ E).name = y.name) → Sm_ l g E maxL en r 0 0 0 L0 [] m) :
    ∀ (v : α) (m' : Mm) (k n : Nat), r = some (v, m', k, n) → Ct_ l g y (wsW_ y cc maxL ret hh) lvl av m (en v) m' k n := by
  intro v m' k n hr
  refine vx_ofWH (cc := cc) (maxL := maxL) (ret := ret) (hh := hh) (by exact hy) rfl ?_
  intro p e s mi args below meth c s₁ B hml hv
  obtain ⟨rfl, hK, hR⟩ := hv
  have hts0 := atoms_spec B.pre
  have hts : ∀ w ∈ lw_all, w.before (sv_ av).toArray s = true := fun w h => hts0 w (List.mem_cons_of_mem _ h)
  have htb : c.exceptionTable.toList = tableOf hh := vx_table (x := y) B (hts0 _ List.mem_cons_self)
  have hown : s.vm.findClass own = some mi.cls := by rw [← ho]; exact findClass_of_methodNamed B.named
  have hl := lv_entry (sv_ av) (n := maxL) (by rw [ls_len]; exact hn)
  rw [lg_entry_eq]
  generalize (lg_sl (sv_ av) ++ List.replicate (maxL - (lg_sl (sv_ av)).length) Slot.unset).toArray = ls at hl ⊢
  rw [la_args, hL] at hl
  have hb := body (p, e, ({ frames := lvl, cells := k, slots := n, locals := 64 * lvl } : Room), s, mi, (sv_ av).toArray, below, meth, c) ⟨B.exec, B.bytes, hml, hown, hts, B.notSynchronized, hK, ⟨m, hR⟩, hst, rfl, rfl⟩ B.returns htb (name_of_methodNamed B.named B.method).1 v m' k n hr (by show 0 + k ≤ k; omega) (by show 0 + n ≤ n; omega) s.heap [] ls hR va_S.rf hl
  rw [Nat.zero_add, Nat.zero_add] at hb
  exact hb
section CAX
variable {α β : Type} {l : Launch} {g : GG} {E : Me_} {own : String} {cc : ByteArray} {nL lvl : Nat} {en : α → Fn_} {k n pc : Nat} {L L' : List (Nat × TV)} {st stA : List TV} {m : Mm}
theorem x_callSW {enc : β → Fn_} {rc : Rs β} {f : β → Mm → Rs α} (C : Cx_ l g E own cc nL lvl) {i : Nat} {y : MethodName} {bytes : ByteArray} {maxL : Nat} {ret : Option FieldType} {hh : List (Nat × Nat × Nat × Nat)} (lv na : Nat) (As : List TV)  (hCt : ∀ v m1 k1 n1, rc = some (v, m1, k1, n1) → Ct_ l g y (wsW_ y bytes maxL ret hh) lv As m (enc v) m1 k1 n1) (q1 : Cond.methodLink own i y ∈ lw_all) (q2 : Cond.static y ∈ lw_all) (q3 : Cond.initialized y.cls ∈ lw_all) (q4 : Cond.codeWith y bytes maxL ret hh ∈ lw_all) (hd : y.cls ≠ "java/lang/invoke/MethodHandle" ∧ y.cls ≠ "java/lang/invoke/VarHandle" ∧ (parseMethodDescriptor y.desc).map (fun d => d.parameters.length) = some na) (hlv : lv < lvl) (hmx : maxL ≤ 45) (hna : As.length = na) (hst : tc_ st ≤ 8) (d : decode cc pc = .ok (.invokestatic i, 3)) (pc' : Nat) (hp : pc + 3 = pc') (hA : As.reverse ++ st = stA)
    (hen : ∀ v ov, enc v = .inl ov → ∃ t, sv_ t = ov.toList)
    (kk : ∀ v m1 k1 n1 (t : List TV) ov, enc v = .inl ov → sv_ t = ov.toList → Sm_ l g E nL en (f v m1) (k + k1) (n + n1) pc' L (t ++ st) m1)
    (kx : ∀ v m1 k1 n1 i, enc v = .inr i → Sx_ l g E nL en (f v m1) (k + k1) (n + n1) pc L st i m1) : Sm_ l g E nL en (bd_ rc f) k n pc L stA m := by
  subst hp; subst hA
  have hK := C.2.2.2.2.2.2.1
  have hts := C.2.2.2.2.1
  refine x_run3 (av := (sv_ As).toArray) (fun v m1 k1 n1 hrc H locs ls hR hl hf => ?_) kk hen kx
  exact vx_runSX (cx_fix C) (hCt v m1 k1 n1 hrc) (vx_cwSW na hts (lw_SW q1 q2 q3 q4) rfl rfl rfl hd (cx_room C hlv hmx)) ⟨ct_blind g m As, fun U hU hW => ct_pre hK hR U hU hW⟩ rfl (by show (sv_ As).length = na; rw [sv_, List.length_map]; exact hna) hl.1 (sv_rev0 As st) (tc_room hst) d hf
end CAX
