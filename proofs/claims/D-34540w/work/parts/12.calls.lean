/-! answers by type -/
def en_i (x : Int32) : Fn_ := .inl (some (.int x))
def en_j (x : Int64) : Fn_ := .inl (some (.long x))
def en_r (x : Option Nat) : Fn_ := .inl (some (va_rf x))
def en_v (_ : Unit) : Fn_ := .inl none
def xe_ {β : Type} (e : β → Fn_) : β ⊕ Nat → Fn_
  | .inl x => e x
  | .inr i => .inr i
section CLW
variable {α β : Type} {l : Launch} {g : GG} {E : Me_} {own : String} {cc : ByteArray} {nL lvl : Nat} {en : α → Fn_} {k n pc : Nat} {L L' : List (Nat × TV)} {st stA : List TV} {m : Mm}
/-- an exception under way -/
def Sx_ {α : Type} (l : Launch) (g : GG) (E : Me_) (nL : Nat) (en : α → Fn_) (r : Rs α) (k n pc : Nat) (L : List (Nat × TV)) (st : List TV) (i : Nat) (m : Mm) : Prop :=
  ∀ (v : α) (m' : Mm) (k' n' : Nat), r = some (v, m', k', n') → k + k' ≤ (eR_ E).cells → n + n' ≤ (eR_ E).slots → ∀ (H : Heap) (locs : List Loc) (ls : Array Slot) (q : Nat) (ce : Cell), Rp_ g m H → va_S (fr_ g) (eS_ E).heap H locs → lv_has ls nL (lt_ L) → i < 3 → H[q]? = some ce → ce.vm = .none → (eS_ E).vm.findClass (xn_ i) = some ce.cls → Wx_ l E H locs k n (Qf_ g E (en v) m' (k + k') (n + n')) (F0 (eM_ E) pc ls (sv_ st)) q
theorem Sx_none {i : Nat} : Sx_ l g E nL en (none : Rs α) k n pc L st i m := fun v m' k' n' hr => by cases hr
/-- not caught here -/
theorem Sx_out (C : Cx_ l g E own cc nL lvl) (h0 : ∀ x ∈ (eC_ E).exceptionTable.toList, False) {v : α} {i : Nat} (hen : en v = .inr i) : Sx_ l g E nL en (rt_ v m) k n pc L st i m := by
  intro v0 m0 k0 n0 hr h1 h2 H locs ls q ce hR hS hl hi hc hv hcl
  cases hr
  rw [hen]
  exact vx_out (fun x hx => (h0 x hx).elim) C.2.2.2.2.2.1 hc hv hcl (fun t ht hW => ⟨⟨i, hi, rfl, rfl⟩, by rw [ht]; exact hR, hS.F ht⟩) hS.2.2 (Nat.le_refl _) (Nat.le_refl _)

theorem x_run3 {enc : β → Fn_} {rc : Rs β} {f : β → Mm → Rs α} {av : Array Value}
    (run : ∀ v m1 k1 n1, rc = some (v, m1, k1, n1) → ∀ (H : Heap) (locs : List Loc) (ls : Array Slot), Rp_ g m H → lv_has ls nL (lt_ L) → k + k1 ≤ (eR_ E).cells ∧ n + n1 ≤ (eR_ E).slots → vx_Run E.1 l E.2.1 (eR_ E) (eS_ E) (eM_ E) (eA_ E) (eB_ E) (eT_ E) (eC_ E) H locs k n k1 n1 (F0 (eM_ E) pc ls (sv_ stA)) (sv_ st) (Qc_ g (enc v) m1 av) (Xc_ g (enc v) m1) (fr_ g))
    (kk : ∀ v m1 k1 n1 (t : List TV) ov, enc v = .inl ov → sv_ t = ov.toList → Sm_ l g E nL en (f v m1) (k + k1) (n + n1) (pc + 3) L (t ++ st) m1)
    (hen : ∀ v ov, enc v = .inl ov → ∃ t, sv_ t = ov.toList)
    (kx : ∀ v m1 k1 n1 i, enc v = .inr i → Sx_ l g E nL en (f v m1) (k + k1) (n + n1) pc L st i m1) : Sm_ l g E nL en (bd_ rc f) k n pc L stA m := by
  intro v0 m0 k0 n0 hr h1 h2 H locs ls hR hS hl
  cases hrc : rc with
  | none => rw [hrc] at hr; cases hr
  | some x =>
    obtain ⟨v, m1, k1, n1⟩ := x
    rw [hrc] at hr
    cases hf : f v m1 with
    | none =>
      have : bd_ (some (v, m1, k1, n1)) f = tk_ k1 n1 (f v m1) := rfl
      rw [this, hf] at hr
      cases hr
    | some y =>
      obtain ⟨v2, m2, k2, n2⟩ := y
      have : bd_ (some (v, m1, k1, n1)) f = tk_ k1 n1 (f v m1) := rfl
      rw [this, hf] at hr
      cases hr
      have e1 : k + (k1 + k2) = k + k1 + k2 := by omega
      have e2 : n + (n1 + n2) = n + n1 + n2 := by omega
      intro T hT X
      rcases run v m1 k1 n1 hrc H locs ls hR hl ⟨by omega, by omega⟩ T hT X with ⟨ov, st₀, t, T', L2, q0, X', hL, e3, e4, ⟨⟨ov', hov, ho⟩, hR1, hF⟩, stp⟩ | ⟨q, st₀, t, T', L2, N, ce, q0, X', hL, e3, e4, ⟨⟨i, hi3, hi, hN⟩, hR1, hF⟩, hce, hcv, hcl, stp⟩
      · cases ho
        obtain ⟨hz, hk9⟩ := hF
        rw [q0] at hz hk9
        obtain ⟨tt, htt⟩ := hen v _ hov
        have hk := kk v m1 k1 n1 tt _ hov htt _ _ _ _ hf (by omega) (by omega) T'.heap (locs ++ L2) ls (by rw [e3]; exact hR1) ⟨Nat.le_trans hS.1 (by rw [e3]; exact hz), fun q g1 g2 => by rw [e3, hk9 q (Nat.lt_of_lt_of_le g1 hS.1) g2]; exact hS.2.1 q g1 g2, fun q hq => by
          rcases List.mem_append.mp hq with h | h
          · exact hS.2.2 q h
          · exact hL q h⟩ hl
        rw [e1, e2]
        obtain ⟨t2, a1, b1⟩ := hk T' rfl X'
        refine ⟨t2, stp t2 ?_, b1⟩
        have hst : sv_ (tt ++ st) = ov.toList ++ sv_ st := by rw [← htt]; exact List.map_append
        rw [hst] at a1
        exact a1
      · obtain ⟨hz, hk9⟩ := hF
        rw [q0] at hz hk9
        have hk := kx v m1 k1 n1 i hi _ _ _ _ hf (by omega) (by omega) T'.heap (locs ++ L2) ls q ce (by rw [e3]; exact hR1) ⟨Nat.le_trans hS.1 (by rw [e3]; exact hz), fun q g1 g2 => by rw [e3, hk9 q (Nat.lt_of_lt_of_le g1 hS.1) g2]; exact hS.2.1 q g1 g2, fun q hq => by
          rcases List.mem_append.mp hq with h | h
          · exact hS.2.2 q h
          · exact hL q h⟩ hl hi3 (by rw [e3]; exact hce) hcv (by rw [← hN]; exact hcl)
        rw [e1, e2]
        obtain ⟨t2, a1, b1⟩ := hk T' rfl X'
        exact ⟨t2, stp.trans a1, b1⟩
theorem x_run5 {enc : β → Fn_} {rc : Rs β} {f : β → Mm → Rs α} {av : Array Value}
    (run : ∀ v m1 k1 n1, rc = some (v, m1, k1, n1) → ∀ (H : Heap) (locs : List Loc) (ls : Array Slot), Rp_ g m H → lv_has ls nL (lt_ L) → k + k1 ≤ (eR_ E).cells ∧ n + n1 ≤ (eR_ E).slots → vx_Run5 E.1 l E.2.1 (eR_ E) (eS_ E) (eM_ E) (eA_ E) (eB_ E) (eT_ E) (eC_ E) H locs k n k1 n1 (F0 (eM_ E) pc ls (sv_ stA)) (sv_ st) (Qc_ g (enc v) m1 av) (Xc_ g (enc v) m1) (fr_ g))
    (kk : ∀ v m1 k1 n1 (t : List TV) ov, enc v = .inl ov → sv_ t = ov.toList → Sm_ l g E nL en (f v m1) (k + k1) (n + n1) (pc + 5) L (t ++ st) m1)
    (hen : ∀ v ov, enc v = .inl ov → ∃ t, sv_ t = ov.toList)
    (kx : ∀ v m1 k1 n1 i, enc v = .inr i → Sx_ l g E nL en (f v m1) (k + k1) (n + n1) pc L st i m1) : Sm_ l g E nL en (bd_ rc f) k n pc L stA m := by
  intro v0 m0 k0 n0 hr h1 h2 H locs ls hR hS hl
  cases hrc : rc with
  | none => rw [hrc] at hr; cases hr
  | some x =>
    obtain ⟨v, m1, k1, n1⟩ := x
    rw [hrc] at hr
    cases hf : f v m1 with
    | none =>
      have : bd_ (some (v, m1, k1, n1)) f = tk_ k1 n1 (f v m1) := rfl
      rw [this, hf] at hr
      cases hr
    | some y =>
      obtain ⟨v2, m2, k2, n2⟩ := y
      have : bd_ (some (v, m1, k1, n1)) f = tk_ k1 n1 (f v m1) := rfl
      rw [this, hf] at hr
      cases hr
      have e1 : k + (k1 + k2) = k + k1 + k2 := by omega
      have e2 : n + (n1 + n2) = n + n1 + n2 := by omega
      intro T hT X
      rcases run v m1 k1 n1 hrc H locs ls hR hl ⟨by omega, by omega⟩ T hT X with ⟨ov, st₀, t, T', L2, q0, X', hL, e3, e4, ⟨⟨ov', hov, ho⟩, hR1, hF⟩, stp⟩ | ⟨q, st₀, t, T', L2, N, ce, q0, X', hL, e3, e4, ⟨⟨i, hi3, hi, hN⟩, hR1, hF⟩, hce, hcv, hcl, stp⟩
      · cases ho
        obtain ⟨hz, hk9⟩ := hF
        rw [q0] at hz hk9
        obtain ⟨tt, htt⟩ := hen v _ hov
        have hk := kk v m1 k1 n1 tt _ hov htt _ _ _ _ hf (by omega) (by omega) T'.heap (locs ++ L2) ls (by rw [e3]; exact hR1) ⟨Nat.le_trans hS.1 (by rw [e3]; exact hz), fun q g1 g2 => by rw [e3, hk9 q (Nat.lt_of_lt_of_le g1 hS.1) g2]; exact hS.2.1 q g1 g2, fun q hq => by
          rcases List.mem_append.mp hq with h | h
          · exact hS.2.2 q h
          · exact hL q h⟩ hl
        rw [e1, e2]
        obtain ⟨t2, a1, b1⟩ := hk T' rfl X'
        refine ⟨t2, stp t2 ?_, b1⟩
        have hst : sv_ (tt ++ st) = ov.toList ++ sv_ st := by rw [← htt]; exact List.map_append
        rw [hst] at a1
        exact a1
      · obtain ⟨hz, hk9⟩ := hF
        rw [q0] at hz hk9
        have hk := kx v m1 k1 n1 i hi _ _ _ _ hf (by omega) (by omega) T'.heap (locs ++ L2) ls q ce (by rw [e3]; exact hR1) ⟨Nat.le_trans hS.1 (by rw [e3]; exact hz), fun q g1 g2 => by rw [e3, hk9 q (Nat.lt_of_lt_of_le g1 hS.1) g2]; exact hS.2.1 q g1 g2, fun q hq => by
          rcases List.mem_append.mp hq with h | h
          · exact hS.2.2 q h
          · exact hL q h⟩ hl hi3 (by rw [e3]; exact hce) hcv (by rw [← hN]; exact hcl)
        rw [e1, e2]
        obtain ⟨t2, a1, b1⟩ := hk T' rfl X'
        exact ⟨t2, stp.trans a1, b1⟩
theorem ct_blind (g : GG) (m : Mm) (av : List TV) : FrameBlind (fun a U => a = (sv_ av).toArray ∧ KN g U ∧ Rp_ g m U.heap) := fun a U f mk h => ⟨h.1, KN.same (by rfl) h.2.1, h.2.2⟩
theorem ct_pre {s : State} {H : Heap} {av : List TV} (hK : KN g s) (hR : Rp_ g m H) (U : State) (hU : U.heap = H) (hW : s.WarmedH U.vm) : (sv_ av).toArray = (sv_ av).toArray ∧ KN g U ∧ Rp_ g m U.heap := ⟨rfl, hK.warm hW, by rw [hU]; exact hR⟩
theorem cx_fix (C : Cx_ l g E own cc nL lvl) : CallFix E.1 (eM_ E) (eC_ E) cc nL (eS_ E) (eA_ E) lw_all own := ⟨C.1, C.2.1, C.2.2.1, C.2.2.2.1, C.2.2.2.2.1⟩
theorem cx_room (C : Cx_ l g E own cc nL lvl) {lv maxL : Nat} (h1 : lv < lvl) (h2 : maxL ≤ 45) : lv + 1 ≤ (eR_ E).frames ∧ 8 + (maxL + 11) + 64 * lv ≤ (eR_ E).locals := by
  obtain ⟨-, -, -, -, -, -, -, -, -, a, b⟩ := C
  rw [a, b]
  constructor <;> omega
theorem sv_rev (As : List TV) (b : Option Nat) (st : List TV) : sv_ (As.reverse ++ vr_ b :: st) = (sv_ As).reverse ++ va_rf b :: sv_ st := by
  simp [sv_, tv_]
theorem sv_rev0 (As : List TV) (st : List TV) : sv_ (As.reverse ++ st) = (sv_ As).reverse ++ sv_ st := by
  simp [sv_]
def tc_ : List TV → Nat
  | [] => 0
  | v :: vs => (if tl_ v then 2 else 1) + tc_ vs
theorem tc_sum : ∀ st : List TV, ((sv_ st).map fun v => v.category).sum = tc_ st
  | [] => rfl
  | v :: vs => by
    show (((tv_ v) :: sv_ vs).map fun v => v.category).sum = _
    rw [List.map_cons, List.sum_cons, tc_sum vs, tv_cat]
    rfl
theorem tc_room {m0 : MethodId} {pc : Nat} {ls : Array Slot} {st0 : List Value} {st : List TV} (h : tc_ st ≤ 8) : 2 * (F0 m0 pc ls st0).monitorRoom + ((sv_ st).map fun v => v.category).sum ≤ 8 := lv_room (by rw [tc_sum]; exact h)
/-- the receiver is of a class -/
theorem rp_recv {s : State} {H : Heap} {a : Nat} {Cn : String} (hK : KN g s) (hR : Rp_ g m H) (kd : Nat) (hk : mk_ m a = kd) (h : kk_ kd = true) (hn : cn_ kd = Cn) : ∃ cell : Cell, H[a]? = some cell ∧ cell.vm.isStatics = false ∧ s.vm.findClass Cn = some cell.cls := by
  subst hk; subst hn
  exact rp_cls hK hR h
theorem x_callS {enc : β → Fn_} {rc : Rs β} {f : β → Mm → Rs α} (C : Cx_ l g E own cc nL lvl) {i : Nat} {y : MethodName} {bytes : ByteArray} {maxL : Nat} {ret : Option FieldType} (lv na : Nat) (As : List TV)  (hCt : ∀ v m1 k1 n1, rc = some (v, m1, k1, n1) → Ct_ l g y (ws_ y bytes maxL ret) lv As m (enc v) m1 k1 n1) (q1 : Cond.methodLink own i y ∈ lw_all) (q2 : Cond.static y ∈ lw_all) (q3 : Cond.initialized y.cls ∈ lw_all) (q4 : Cond.code y bytes maxL ret ∈ lw_all) (hd : y.cls ≠ "java/lang/invoke/MethodHandle" ∧ y.cls ≠ "java/lang/invoke/VarHandle" ∧ (parseMethodDescriptor y.desc).map (fun d => d.parameters.length) = some na) (hlv : lv < lvl) (hmx : maxL ≤ 45) (hna : As.length = na) (hst : tc_ st ≤ 8) (d : decode cc pc = .ok (.invokestatic i, 3)) (pc' : Nat) (hp : pc + 3 = pc') (hA : As.reverse ++ st = stA)
    (hen : ∀ v ov, enc v = .inl ov → ∃ t, sv_ t = ov.toList)
    (kk : ∀ v m1 k1 n1 (t : List TV) ov, enc v = .inl ov → sv_ t = ov.toList → Sm_ l g E nL en (f v m1) (k + k1) (n + n1) pc' L (t ++ st) m1)
    (kx : ∀ v m1 k1 n1 i, enc v = .inr i → Sx_ l g E nL en (f v m1) (k + k1) (n + n1) pc L st i m1) : Sm_ l g E nL en (bd_ rc f) k n pc L stA m := by
  subst hp; subst hA
  have hK := C.2.2.2.2.2.2.1
  have hts := C.2.2.2.2.1
  refine x_run3 (av := (sv_ As).toArray) (fun v m1 k1 n1 hrc H locs ls hR hl hf => ?_) kk hen kx
  exact vx_runS (cx_fix C) (hCt v m1 k1 n1 hrc) (va_cwS na hts (lw_S q1 q2 q3 q4) rfl rfl rfl hd (cx_room C hlv hmx)) ⟨ct_blind g m As, fun U hU hW => ct_pre hK hR U hU hW⟩ rfl (by show (sv_ As).length = na; rw [sv_, List.length_map]; exact hna) hl.1 (sv_rev0 As st) (tc_room hst) d hf
theorem x_callV {enc : β → Fn_} {rc : Rs β} {f : β → Mm → Rs α} (C : Cx_ l g E own cc nL lvl) {i : Nat} {y : MethodName} {bytes : ByteArray} {maxL : Nat} {ret : Option FieldType} (lv na : Nat) (As : List TV) {b : Option Nat} (kd : Nat) (hCt : ∀ v m1 k1 n1, rc = some (v, m1, k1, n1) → Ct_ l g y (ws_ y bytes maxL ret) lv (vr_ b :: As) m (enc v) m1 k1 n1) (hb : ∀ a, b = some a → mk_ m a = kd) (hb0 : b ≠ none) (hkd : kk_ kd = true) (hcn : cn_ kd = y.cls) (q1 : Cond.methodLink own i y ∈ lw_all) (q2 : Cond.instanceMethod y ∈ lw_all) (q3 : Cond.selects y.cls y y ∈ lw_all) (q4 : Cond.initialized y.cls ∈ lw_all) (q5 : Cond.code y bytes maxL ret ∈ lw_all) (hd : y.cls ≠ "java/lang/invoke/MethodHandle" ∧ y.cls ≠ "java/lang/invoke/VarHandle" ∧ (parseMethodDescriptor y.desc).map (fun d => d.parameters.length) = some na) (hlv : lv < lvl) (hmx : maxL ≤ 45) (hna : As.length = na) (hst : tc_ st ≤ 8) (d : decode cc pc = .ok (.invokevirtual i, 3)) (pc' : Nat) (hp : pc + 3 = pc') (hA : As.reverse ++ vr_ b :: st = stA)
    (hen : ∀ v ov, enc v = .inl ov → ∃ t, sv_ t = ov.toList)
    (kk : ∀ v m1 k1 n1 (t : List TV) ov, enc v = .inl ov → sv_ t = ov.toList → Sm_ l g E nL en (f v m1) (k + k1) (n + n1) pc' L (t ++ st) m1)
    (kx : ∀ v m1 k1 n1 i, enc v = .inr i → Sx_ l g E nL en (f v m1) (k + k1) (n + n1) pc L st i m1) : Sm_ l g E nL en (bd_ rc f) k n pc L stA m := by
  subst hp; subst hA
  have hK := C.2.2.2.2.2.2.1
  have hts := C.2.2.2.2.1
  cases b with
  | none => exact absurd rfl hb0
  | some a =>
    refine x_run3 (av := (sv_ (vr_ (some a) :: As)).toArray) (fun v m1 k1 n1 hrc H locs ls hR hl hf => ?_) kk hen kx
    exact vx_runV (cx_fix C) (hCt v m1 k1 n1 hrc) (cwV na hts (lw_V q1 q2 q3 q4 q5) rfl rfl rfl ⟨rfl, hd⟩ (cx_room C hlv hmx)) ⟨ct_blind g m (vr_ (some a) :: As), rp_recv hK hR kd (hb a rfl) hkd hcn, fun U hU hW => ct_pre (av := vr_ (some a) :: As) hK hR U hU hW⟩ rfl (by show (sv_ As).length = na; rw [sv_, List.length_map]; exact hna) hl.1 (sv_rev As (some a) st) (tc_room hst) d hf
theorem x_callI {enc : β → Fn_} {rc : Rs β} {f : β → Mm → Rs α} (C : Cx_ l g E own cc nL lvl) {i : Nat} {y : MethodName} {bytes : ByteArray} {maxL : Nat} {ret : Option FieldType} (lv na : Nat) (As : List TV) {b : Option Nat} (hCt : ∀ v m1 k1 n1, rc = some (v, m1, k1, n1) → Ct_ l g y (ws_ y bytes maxL ret) lv (vr_ b :: As) m (enc v) m1 k1 n1) (hb0 : b ≠ none) (hini : y.name = "<init>") (q1 : Cond.methodLink own i y ∈ lw_all) (q2 : Cond.instanceMethod y ∈ lw_all) (q3 : Cond.initialized y.cls ∈ lw_all) (q4 : Cond.code y bytes maxL ret ∈ lw_all) (hret : ret = none) (hd : y.cls ≠ "java/lang/invoke/MethodHandle" ∧ y.cls ≠ "java/lang/invoke/VarHandle" ∧ (parseMethodDescriptor y.desc).map (fun d => d.parameters.length) = some na) (hlv : lv < lvl) (hmx : maxL ≤ 45) (hna : As.length = na) (hst : tc_ st ≤ 8) (d : decode cc pc = .ok (.invokespecial i, 3)) (pc' : Nat) (hp : pc + 3 = pc') (hA : As.reverse ++ vr_ b :: st = stA)
    (hen : ∀ v ov, enc v = .inl ov → ∃ t, sv_ t = ov.toList)
    (kk : ∀ v m1 k1 n1 (t : List TV) ov, enc v = .inl ov → sv_ t = ov.toList → Sm_ l g E nL en (f v m1) (k + k1) (n + n1) pc' L (t ++ st) m1)
    (kx : ∀ v m1 k1 n1 i, enc v = .inr i → Sx_ l g E nL en (f v m1) (k + k1) (n + n1) pc L st i m1) : Sm_ l g E nL en (bd_ rc f) k n pc L stA m := by
  subst hp; subst hA
  have hK := C.2.2.2.2.2.2.1
  have hts := C.2.2.2.2.1
  subst hret
  cases b with
  | none => exact absurd rfl hb0
  | some a =>
    refine x_run3 (av := (sv_ (vr_ (some a) :: As)).toArray) (fun v m1 k1 n1 hrc H locs ls hR hl hf => ?_) kk hen kx
    exact vx_runI (cx_fix C) (hCt v m1 k1 n1 hrc) (cwI na hts (lw_meth q4) rfl rfl rfl (hts _ q3) (hts _ q1) (hts _ q2) hini hd (cx_room C hlv hmx)) ⟨ct_blind g m (vr_ (some a) :: As), fun U hU hW => ct_pre (av := vr_ (some a) :: As) hK hR U hU hW⟩ rfl (by show (sv_ As).length = na; rw [sv_, List.length_map]; exact hna) hl.1 (sv_rev As (some a) st) (tc_room hst) d hf
theorem x_callIN {enc : β → Fn_} {rc : Rs β} {f : β → Mm → Rs α} (C : Cx_ l g E own cc nL lvl) {i : Nat} {y : MethodName} {bytes : ByteArray} {maxL : Nat} {ret : Option FieldType} (lv na : Nat) (As : List TV) {b : Option Nat} {host : String} (hCt : ∀ v m1 k1 n1, rc = some (v, m1, k1, n1) → Ct_ l g y (ws_ y bytes maxL ret) lv (vr_ b :: As) m (enc v) m1 k1 n1) (hb0 : b ≠ none) (hini : y.name = "<init>") (q1 : Cond.methodLinkNest own i y host ∈ lw_tbl) (q2 : Cond.instanceMethod y ∈ lw_all) (q3 : Cond.initialized y.cls ∈ lw_all) (q4 : Cond.code y bytes maxL ret ∈ lw_all) (hret : ret = none) (hd : y.cls ≠ "java/lang/invoke/MethodHandle" ∧ y.cls ≠ "java/lang/invoke/VarHandle" ∧ (parseMethodDescriptor y.desc).map (fun d => d.parameters.length) = some na) (hlv : lv < lvl) (hmx : maxL ≤ 45) (hna : As.length = na) (hst : tc_ st ≤ 8) (d : decode cc pc = .ok (.invokespecial i, 3)) (pc' : Nat) (hp : pc + 3 = pc') (hA : As.reverse ++ vr_ b :: st = stA)
    (hen : ∀ v ov, enc v = .inl ov → ∃ t, sv_ t = ov.toList)
    (kk : ∀ v m1 k1 n1 (t : List TV) ov, enc v = .inl ov → sv_ t = ov.toList → Sm_ l g E nL en (f v m1) (k + k1) (n + n1) pc' L (t ++ st) m1)
    (kx : ∀ v m1 k1 n1 i, enc v = .inr i → Sx_ l g E nL en (f v m1) (k + k1) (n + n1) pc L st i m1) : Sm_ l g E nL en (bd_ rc f) k n pc L stA m := by
  subst hp; subst hA
  have hK := C.2.2.2.2.2.2.1
  have hts := C.2.2.2.2.1
  subst hret
  cases b with
  | none => exact absurd rfl hb0
  | some a =>
    refine x_run3 (av := (sv_ (vr_ (some a) :: As)).toArray) (fun v m1 k1 n1 hrc H locs ls hR hl hf => ?_) kk hen kx
    exact vx_runIN (cx_fix C) (hCt v m1 k1 n1 hrc) ⟨va_cnB na hts (lw_meth q4) rfl rfl rfl (KN.use hK q1 rfl) (hts _ q3) hd (cx_room C hlv hmx), hini, hts _ q2⟩ ⟨ct_blind g m (vr_ (some a) :: As), fun U hU hW => ct_pre (av := vr_ (some a) :: As) hK hR U hU hW⟩ rfl (by show (sv_ As).length = na; rw [sv_, List.length_map]; exact hna) hl.1 (sv_rev As (some a) st) (tc_room hst) d hf
theorem x_callVN {enc : β → Fn_} {rc : Rs β} {f : β → Mm → Rs α} (C : Cx_ l g E own cc nL lvl) {i : Nat} {y : MethodName} {bytes : ByteArray} {maxL : Nat} {ret : Option FieldType} (lv na : Nat) (As : List TV) {b : Option Nat} {host : String} (kd : Nat) (hCt : ∀ v m1 k1 n1, rc = some (v, m1, k1, n1) → Ct_ l g y (ws_ y bytes maxL ret) lv (vr_ b :: As) m (enc v) m1 k1 n1) (hb : ∀ a, b = some a → mk_ m a = kd) (hb0 : b ≠ none) (hkd : kk_ kd = true) (hcn : cn_ kd = y.cls) (q1 : Cond.methodLinkNest own i y host ∈ lw_tbl) (q2 : Cond.instanceMethod y ∈ lw_all) (q3 : Cond.selects y.cls y y ∈ lw_all) (q4 : Cond.initialized y.cls ∈ lw_all) (q5 : Cond.code y bytes maxL ret ∈ lw_all) (hd : y.cls ≠ "java/lang/invoke/MethodHandle" ∧ y.cls ≠ "java/lang/invoke/VarHandle" ∧ (parseMethodDescriptor y.desc).map (fun d => d.parameters.length) = some na) (hlv : lv < lvl) (hmx : maxL ≤ 45) (hna : As.length = na) (hst : tc_ st ≤ 8) (d : decode cc pc = .ok (.invokevirtual i, 3)) (pc' : Nat) (hp : pc + 3 = pc') (hA : As.reverse ++ vr_ b :: st = stA)
    (hen : ∀ v ov, enc v = .inl ov → ∃ t, sv_ t = ov.toList)
    (kk : ∀ v m1 k1 n1 (t : List TV) ov, enc v = .inl ov → sv_ t = ov.toList → Sm_ l g E nL en (f v m1) (k + k1) (n + n1) pc' L (t ++ st) m1)
    (kx : ∀ v m1 k1 n1 i, enc v = .inr i → Sx_ l g E nL en (f v m1) (k + k1) (n + n1) pc L st i m1) : Sm_ l g E nL en (bd_ rc f) k n pc L stA m := by
  subst hp; subst hA
  have hK := C.2.2.2.2.2.2.1
  have hts := C.2.2.2.2.1
  cases b with
  | none => exact absurd rfl hb0
  | some a =>
    refine x_run3 (av := (sv_ (vr_ (some a) :: As)).toArray) (fun v m1 k1 n1 hrc H locs ls hR hl hf => ?_) kk hen kx
    exact vx_runVN (cx_fix C) (hCt v m1 k1 n1 hrc) ⟨va_cnB na hts (lw_meth q5) rfl rfl rfl (KN.use hK q1 rfl) (hts _ q4) hd (cx_room C hlv hmx), hts _ q2, hts _ q3⟩ ⟨ct_blind g m (vr_ (some a) :: As), rp_recv hK hR kd (hb a rfl) hkd hcn, fun U hU hW => ct_pre (av := vr_ (some a) :: As) hK hR U hU hW⟩ rfl (by show (sv_ As).length = na; rw [sv_, List.length_map]; exact hna) hl.1 (sv_rev As (some a) st) (tc_room hst) d hf
theorem x_callSN {enc : β → Fn_} {rc : Rs β} {f : β → Mm → Rs α} (C : Cx_ l g E own cc nL lvl) {i : Nat} {y : MethodName} {bytes : ByteArray} {maxL : Nat} {ret : Option FieldType} (lv na : Nat) (As : List TV) {host : String} (hCt : ∀ v m1 k1 n1, rc = some (v, m1, k1, n1) → Ct_ l g y (ws_ y bytes maxL ret) lv As m (enc v) m1 k1 n1) (q1 : Cond.methodLinkNest own i y host ∈ lw_tbl) (q2 : Cond.static y ∈ lw_all) (q3 : Cond.initialized y.cls ∈ lw_all) (q4 : Cond.code y bytes maxL ret ∈ lw_all) (hd : y.cls ≠ "java/lang/invoke/MethodHandle" ∧ y.cls ≠ "java/lang/invoke/VarHandle" ∧ (parseMethodDescriptor y.desc).map (fun d => d.parameters.length) = some na) (hlv : lv < lvl) (hmx : maxL ≤ 45) (hna : As.length = na) (hst : tc_ st ≤ 8) (d : decode cc pc = .ok (.invokestatic i, 3)) (pc' : Nat) (hp : pc + 3 = pc') (hA : As.reverse ++ st = stA)
    (hen : ∀ v ov, enc v = .inl ov → ∃ t, sv_ t = ov.toList)
    (kk : ∀ v m1 k1 n1 (t : List TV) ov, enc v = .inl ov → sv_ t = ov.toList → Sm_ l g E nL en (f v m1) (k + k1) (n + n1) pc' L (t ++ st) m1)
    (kx : ∀ v m1 k1 n1 i, enc v = .inr i → Sx_ l g E nL en (f v m1) (k + k1) (n + n1) pc L st i m1) : Sm_ l g E nL en (bd_ rc f) k n pc L stA m := by
  subst hp; subst hA
  have hK := C.2.2.2.2.2.2.1
  have hts := C.2.2.2.2.1
  refine x_run3 (av := (sv_ As).toArray) (fun v m1 k1 n1 hrc H locs ls hR hl hf => ?_) kk hen kx
  exact vx_runSN (cx_fix C) (hCt v m1 k1 n1 hrc) ⟨va_cnB na hts (lw_meth q4) rfl rfl rfl (KN.use hK q1 rfl) (hts _ q3) hd (cx_room C hlv hmx), hts _ q2, trivial⟩ ⟨ct_blind g m As, fun U hU hW => ct_pre hK hR U hU hW⟩ rfl (by show (sv_ As).length = na; rw [sv_, List.length_map]; exact hna) hl.1 (sv_rev0 As st) (tc_room hst) d hf
theorem x_callF {enc : β → Fn_} {rc : Rs β} {f : β → Mm → Rs α} (C : Cx_ l g E own cc nL lvl) {i : Nat} {y : MethodName} {bytes : ByteArray} {maxL : Nat} {ret : Option FieldType} (lv na : Nat) (As : List TV) {b : Option Nat} {x : MethodName} {Cn : String} {ct : Nat} (kd : Nat) (hCt : ∀ v m1 k1 n1, rc = some (v, m1, k1, n1) → Ct_ l g y (ws_ y bytes maxL ret) lv (vr_ b :: As) m (enc v) m1 k1 n1) (hb : ∀ a, b = some a → mk_ m a = kd) (hb0 : b ≠ none) (hkd : kk_ kd = true) (hcn : cn_ kd = Cn) (hcl : (clT.map (·.1))[kd - 1]? = some Cn) (qF : (Cn, x, y) ∈ fwL) (q1 : Cond.methodLink own i x ∈ lw_all) (q2 : Cond.selects Cn x y ∈ lw_all) (q3 : Cond.instanceMethod y ∈ lw_all) (q4 : Cond.initialized y.cls ∈ lw_all) (q5 : Cond.code y bytes maxL ret ∈ lw_all) (hd : x.cls ≠ "java/lang/invoke/MethodHandle" ∧ x.cls ≠ "java/lang/invoke/VarHandle" ∧ (parseMethodDescriptor x.desc).map (fun d => d.parameters.length) = some na) (hlv : lv < lvl) (hmx : maxL ≤ 45) (hna : As.length = na) (hst : tc_ st ≤ 8) (d : decode cc pc = .ok (.invokeinterface i ct, 5)) (pc' : Nat) (hp : pc + 5 = pc') (hA : As.reverse ++ vr_ b :: st = stA)
    (hen : ∀ v ov, enc v = .inl ov → ∃ t, sv_ t = ov.toList)
    (kk : ∀ v m1 k1 n1 (t : List TV) ov, enc v = .inl ov → sv_ t = ov.toList → Sm_ l g E nL en (f v m1) (k + k1) (n + n1) pc' L (t ++ st) m1)
    (kx : ∀ v m1 k1 n1 i, enc v = .inr i → Sx_ l g E nL en (f v m1) (k + k1) (n + n1) pc L st i m1) : Sm_ l g E nL en (bd_ rc f) k n pc L stA m := by
  subst hp; subst hA
  have hK := C.2.2.2.2.2.2.1
  have hts := C.2.2.2.2.1
  cases b with
  | none => exact absurd rfl hb0
  | some a =>
    refine x_run5 (av := (sv_ (vr_ (some a) :: As)).toArray) (fun v m1 k1 n1 hrc H locs ls hR hl hf => ?_) kk hen kx
    obtain ⟨q, hq, hqn⟩ : ∃ q, clT[kd - 1]? = some q ∧ q.1 = Cn := by
      rw [List.getElem?_map] at hcl
      cases hcq : clT[kd - 1]? with
      | none => rw [hcq] at hcl; cases hcl
      | some q => rw [hcq] at hcl; exact ⟨q, rfl, Option.some.inj hcl⟩
    have hat : ClassAt (eS_ E) Cn ((gD_ g).1 (kd - 1)) := by rw [← hqn]; exact (hK.1.1 _ _ hq).2
    exact vx_runF hat (cx_fix C) (hCt v m1 k1 n1 hrc) (va_cwF na hts (lw_app (a := [.methodLink own i x, .selects Cn x y, .instanceMethod y, .initialized y.cls]) (fun w hw => by
      simp only [List.mem_cons, List.not_mem_nil, or_false] at hw
      rcases hw with e | e | e | e <;> (rw [e]; assumption)) (lw_meth q5)) rfl rfl rfl (hK.2.2.1 _ qF) hd (cx_room C hlv hmx)) ⟨ct_blind g m (vr_ (some a) :: As), rp_recv hK hR kd (hb a rfl) hkd hcn, fun U hU hW => ct_pre (av := vr_ (some a) :: As) hK hR U hU hW⟩ rfl (by show (sv_ As).length = na; rw [sv_, List.length_map]; exact hna) hl.1 (sv_rev As (some a) st) (tc_room hst) d hf
end CLW
