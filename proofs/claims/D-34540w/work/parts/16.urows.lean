section URW
variable {α β : Type} {l : Launch} {g : GG} {E : Me_} {own : String} {cc : ByteArray} {nL lvl : Nat} {en : α → Fn_} {k n pc : Nat} {L L' : List (Nat × TV)} {st stA : List TV} {m : Mm}
theorem x_callU {enc : β → Fn_} {rc : Rs β} {f : β → Mm → Rs α} (C : Cx_ l g E own cc nL lvl) {i : Nat} {x y : MethodName} {Cn owner : String} {bytes : ByteArray} {maxL : Nat} {ret : Option FieldType} (lv na : Nat) (As : List TV) {b : Option Nat} (kd : Nat) (hCt : ∀ v m1 k1 n1, rc = some (v, m1, k1, n1) → Ct_ l g y (ws_ y bytes maxL ret) lv (vr_ b :: As) m (enc v) m1 k1 n1) (hb : ∀ a, b = some a → mk_ m a = kd) (hb0 : b ≠ none) (hkd : kk_ kd = true) (hcn : cn_ kd = Cn) (q1 : Cond.methodLink own i x ∈ lw_all) (q2 : Cond.sameMethod x.cls owner x.name x.desc ∈ lw_all) (q3 : Cond.selects Cn x y ∈ lw_all) (q4 : Cond.instanceMethod y ∈ lw_all) (q5 : Cond.initialized y.cls ∈ lw_all) (q6 : Cond.code y bytes maxL ret ∈ lw_all) (hyx : y = ⟨owner, x.name, x.desc⟩) (hd : owner ≠ "java/lang/invoke/MethodHandle" ∧ owner ≠ "java/lang/invoke/VarHandle" ∧ (parseMethodDescriptor x.desc).map (fun d => d.parameters.length) = some na) (hlv : lv < lvl) (hmx : maxL ≤ 45) (hna : As.length = na) (hst : tc_ st ≤ 8) (d : decode cc pc = .ok (.invokevirtual i, 3)) (pc' : Nat) (hp : pc + 3 = pc') (hA : As.reverse ++ vr_ b :: st = stA)
    (hen : ∀ v ov, enc v = .inl ov → ∃ t, sv_ t = ov.toList)
    (kk : ∀ v m1 k1 n1 (t : List TV) ov, enc v = .inl ov → sv_ t = ov.toList → Sm_ l g E nL en (f v m1) (k + k1) (n + n1) pc' L (t ++ st) m1)
    (kx : ∀ v m1 k1 n1 i, enc v = .inr i → Sx_ l g E nL en (f v m1) (k + k1) (n + n1) pc L st i m1) : Sm_ l g E nL en (bd_ rc f) k n pc L stA m := by
  subst hp; subst hA
  have hK := C.2.2.2.2.2.2.1
  have hts := C.2.2.2.2.1
  cases b with
  | none => exact absurd rfl hb0
  | some a =>
    refine x_run3 (av := (sv_ (vr_ (some a) :: As)).toArray) (fun v m1 k1 n1 hrc H locs ls hR hl hf => ?_) kk hen kx
    exact vx_runU (cx_fix C) (hCt v m1 k1 n1 hrc) (va_cwU na hts (lw_app (a := [.methodLink own i x, .sameMethod x.cls owner x.name x.desc, .selects Cn x y, .instanceMethod y, .initialized y.cls]) (fun w hw => by
      simp only [List.mem_cons, List.not_mem_nil, or_false] at hw
      rcases hw with e | e | e | e | e <;> (rw [e]; assumption)) (lw_meth q6)) rfl rfl rfl hyx hd (cx_room C hlv hmx)) ⟨ct_blind g m (vr_ (some a) :: As), rp_recv hK hR kd (hb a rfl) hkd hcn, fun U hU hW => ct_pre (av := vr_ (some a) :: As) hK hR U hU hW⟩ rfl (by show (sv_ As).length = na; rw [sv_, List.length_map]; exact hna) hl.1 (sv_rev As (some a) st) (tc_room hst) d hf
theorem x_callA {enc : β → Fn_} {rc : Rs β} {f : β → Mm → Rs α} (C : Cx_ l g E own cc nL lvl) {i : Nat} {x y : MethodName} {Cn owner : String} {bytes : ByteArray} {maxL : Nat} {ret : Option FieldType} (lv na : Nat) (As : List TV) {b : Option Nat} (kd : Nat) (hCt : ∀ v m1 k1 n1, rc = some (v, m1, k1, n1) → Ct_ l g y (ws_ y bytes maxL ret) lv (vr_ b :: As) m (enc v) m1 k1 n1) (hb : ∀ a, b = some a → mk_ m a = kd) (hb0 : b ≠ none) (hkd : kk_ kd = true) (hcn : cn_ kd = Cn) (q1 : Cond.methodLink own i x ∈ lw_all) (q2 : Cond.sameMethod x.cls owner x.name x.desc ∈ lw_all) (q3 : Cond.selects Cn x y ∈ lw_all) (q4 : Cond.instanceMethod y ∈ lw_all) (q5 : Cond.initialized y.cls ∈ lw_all) (q6 : Cond.code y bytes maxL ret ∈ lw_all) (qA : Cond.declares ⟨owner, x.name, x.desc⟩ ∈ lw_tbl) (hd : owner ≠ "java/lang/invoke/MethodHandle" ∧ owner ≠ "java/lang/invoke/VarHandle" ∧ (parseMethodDescriptor x.desc).map (fun d => d.parameters.length) = some na) (hlv : lv < lvl) (hmx : maxL ≤ 45) (hna : As.length = na) (hst : tc_ st ≤ 8) (d : decode cc pc = .ok (.invokevirtual i, 3)) (pc' : Nat) (hp : pc + 3 = pc') (hA : As.reverse ++ vr_ b :: st = stA)
    (hen : ∀ v ov, enc v = .inl ov → ∃ t, sv_ t = ov.toList)
    (kk : ∀ v m1 k1 n1 (t : List TV) ov, enc v = .inl ov → sv_ t = ov.toList → Sm_ l g E nL en (f v m1) (k + k1) (n + n1) pc' L (t ++ st) m1)
    (kx : ∀ v m1 k1 n1 i, enc v = .inr i → Sx_ l g E nL en (f v m1) (k + k1) (n + n1) pc L st i m1) : Sm_ l g E nL en (bd_ rc f) k n pc L stA m := by
  subst hp; subst hA
  have hK := C.2.2.2.2.2.2.1
  have hts := C.2.2.2.2.1
  cases b with
  | none => exact absurd rfl hb0
  | some a =>
    refine x_run3 (av := (sv_ (vr_ (some a) :: As)).toArray) (fun v m1 k1 n1 hrc H locs ls hR hl hf => ?_) kk hen kx
    exact vx_runU (cx_fix C) (hCt v m1 k1 n1 hrc) (va_cwA na hts (lw_app (a := [.methodLink own i x, .sameMethod x.cls owner x.name x.desc, .selects Cn x y, .instanceMethod y, .initialized y.cls]) (fun w hw => by
      simp only [List.mem_cons, List.not_mem_nil, or_false] at hw
      rcases hw with e | e | e | e | e <;> (rw [e]; assumption)) (lw_meth q6)) rfl rfl rfl (KN.use hK qA rfl) hd (cx_room C hlv hmx)) ⟨ct_blind g m (vr_ (some a) :: As), rp_recv hK hR kd (hb a rfl) hkd hcn, fun U hU hW => ct_pre (av := vr_ (some a) :: As) hK hR U hU hW⟩ rfl (by show (sv_ As).length = na; rw [sv_, List.length_map]; exact hna) hl.1 (sv_rev As (some a) st) (tc_room hst) d hf
theorem x_callO {enc : β → Fn_} {rc : Rs β} {f : β → Mm → Rs α} (C : Cx_ l g E own cc nL lvl) {i : Nat} {x y : MethodName} {Cn owner : String} {bytes : ByteArray} {maxL : Nat} {ret : Option FieldType} (lv na : Nat) (As : List TV) {b : Option Nat} (kd : Nat) (hCt : ∀ v m1 k1 n1, rc = some (v, m1, k1, n1) → Ct_ l g y (ws_ y bytes maxL ret) lv (vr_ b :: As) m (enc v) m1 k1 n1) (hb : ∀ a, b = some a → mk_ m a = kd) (hb0 : b ≠ none) (hkd : kk_ kd = true) (hcn : cn_ kd = Cn) (q1 : Cond.methodLink own i x ∈ lw_all) (q2 : Cond.sameMethod x.cls owner x.name x.desc ∈ lw_all) (q3 : Cond.selects Cn x y ∈ lw_all) (q4 : Cond.instanceMethod y ∈ lw_all) (q5 : Cond.initialized y.cls ∈ lw_all) (q6 : Cond.code y bytes maxL ret ∈ lw_all) (qO : Cond.instanceMethod ⟨owner, x.name, x.desc⟩ ∈ lw_all) {b0 : ByteArray} {m0 : Nat} {r0 : Option FieldType} (qC : Cond.code ⟨owner, x.name, x.desc⟩ b0 m0 r0 ∈ lw_all) (hd : owner ≠ "java/lang/invoke/MethodHandle" ∧ owner ≠ "java/lang/invoke/VarHandle" ∧ (parseMethodDescriptor x.desc).map (fun d => d.parameters.length) = some na) (hlv : lv < lvl) (hmx : maxL ≤ 45) (hna : As.length = na) (hst : tc_ st ≤ 8) (d : decode cc pc = .ok (.invokevirtual i, 3)) (pc' : Nat) (hp : pc + 3 = pc') (hA : As.reverse ++ vr_ b :: st = stA)
    (hen : ∀ v ov, enc v = .inl ov → ∃ t, sv_ t = ov.toList)
    (kk : ∀ v m1 k1 n1 (t : List TV) ov, enc v = .inl ov → sv_ t = ov.toList → Sm_ l g E nL en (f v m1) (k + k1) (n + n1) pc' L (t ++ st) m1)
    (kx : ∀ v m1 k1 n1 i, enc v = .inr i → Sx_ l g E nL en (f v m1) (k + k1) (n + n1) pc L st i m1) : Sm_ l g E nL en (bd_ rc f) k n pc L stA m := by
  subst hp; subst hA
  have hK := C.2.2.2.2.2.2.1
  have hts := C.2.2.2.2.1
  cases b with
  | none => exact absurd rfl hb0
  | some a =>
    refine x_run3 (av := (sv_ (vr_ (some a) :: As)).toArray) (fun v m1 k1 n1 hrc H locs ls hR hl hf => ?_) kk hen kx
    exact vx_runU (cx_fix C) (hCt v m1 k1 n1 hrc) (va_cwO na hts (lw_app (a := [.methodLink own i x, .sameMethod x.cls owner x.name x.desc, .instanceMethod ⟨owner, x.name, x.desc⟩, .selects Cn x y, .instanceMethod y, .initialized y.cls]) (fun w hw => by
      simp only [List.mem_cons, List.not_mem_nil, or_false] at hw
      rcases hw with e | e | e | e | e | e <;> (rw [e]; assumption)) (lw_meth q6)) rfl rfl rfl qC hd (cx_room C hlv hmx)) ⟨ct_blind g m (vr_ (some a) :: As), rp_recv hK hR kd (hb a rfl) hkd hcn, fun U hU hW => ct_pre (av := vr_ (some a) :: As) hK hR U hU hW⟩ rfl (by show (sv_ As).length = na; rw [sv_, List.length_map]; exact hna) hl.1 (sv_rev As (some a) st) (tc_room hst) d hf
theorem x_callUP {enc : β → Fn_} {rc : Rs β} {f : β → Mm → Rs α} (C : Cx_ l g E own cc nL lvl) {i : Nat} {x y : MethodName} {Cn owner : String} {bytes : ByteArray} {maxL : Nat} {ret : Option FieldType} (lv na : Nat) (As : List TV) {b : Option Nat} (kd : Nat) (hCt : ∀ v m1 k1 n1, rc = some (v, m1, k1, n1) → Ct_ l g y (ws_ y bytes maxL ret) lv (vr_ b :: As) m (enc v) m1 k1 n1) (hb : ∀ a, b = some a → mk_ m a = kd) (hb0 : b ≠ none) (hkd : kk_ kd = true) (hcn : cn_ kd = Cn) (hsel : (Cond.selects Cn x y) ∈ nwX) (q1 : Cond.methodLink own i x ∈ lw_all) (q2 : Cond.sameMethod x.cls owner x.name x.desc ∈ lw_all) (q4 : Cond.instanceMethod y ∈ lw_all) (q5 : Cond.initialized y.cls ∈ lw_all) (q6 : Cond.code y bytes maxL ret ∈ lw_all) (hyx : y = ⟨owner, x.name, x.desc⟩) (hd : owner ≠ "java/lang/invoke/MethodHandle" ∧ owner ≠ "java/lang/invoke/VarHandle" ∧ (parseMethodDescriptor x.desc).map (fun d => d.parameters.length) = some na) (hlv : lv < lvl) (hmx : maxL ≤ 45) (hna : As.length = na) (hst : tc_ st ≤ 8) (d : decode cc pc = .ok (.invokevirtual i, 3)) (pc' : Nat) (hp : pc + 3 = pc') (hA : As.reverse ++ vr_ b :: st = stA)
    (hen : ∀ v ov, enc v = .inl ov → ∃ t, sv_ t = ov.toList)
    (kk : ∀ v m1 k1 n1 (t : List TV) ov, enc v = .inl ov → sv_ t = ov.toList → Sm_ l g E nL en (f v m1) (k + k1) (n + n1) pc' L (t ++ st) m1)
    (kx : ∀ v m1 k1 n1 i, enc v = .inr i → Sx_ l g E nL en (f v m1) (k + k1) (n + n1) pc L st i m1) : Sm_ l g E nL en (bd_ rc f) k n pc L stA m := by
  subst hp; subst hA
  have hK := C.2.2.2.2.2.2.1
  have hts := C.2.2.2.2.1
  cases b with
  | none => exact absurd rfl hb0
  | some a =>
    refine x_run3 (av := (sv_ (vr_ (some a) :: As)).toArray) (fun v m1 k1 n1 hrc H locs ls hR hl hf => ?_) kk hen kx
    have hs9 : (Cond.selects Cn x y).before (eA_ E) (eS_ E) = true := word_at (State.WarmedH.refl (eS_ E)) (good_of_word (nx_good _ hsel)) (hK.2.2.2.2.2.2.2.2.2.2.2.2.1 _ hsel)
    have hG : GoodIn (Cond.selects Cn x y :: lw_all) (va_wsU own i Cn owner x y (ws_ y bytes maxL ret)) := fun w hw => by
      by_cases e : w = .selects Cn x y
      · rw [e]; exact ⟨List.mem_cons_self, good_of_word (nx_good _ hsel)⟩
      · have hm : w ∈ [Cond.methodLink own i x, .sameMethod x.cls owner x.name x.desc, .instanceMethod y, .initialized y.cls] ++ ws_ y bytes maxL ret := by
          unfold va_wsU at hw
          rcases List.mem_append.mp hw with h | h
          · refine List.mem_append_left _ ?_
            simp only [List.mem_cons, List.not_mem_nil, or_false] at h ⊢
            rcases h with h | h | h | h | h
            · exact Or.inl h
            · exact Or.inr (Or.inl h)
            · exact absurd h e
            · exact Or.inr (Or.inr (Or.inl h))
            · exact Or.inr (Or.inr (Or.inr h))
          · exact List.mem_append_right _ h
        obtain ⟨z1, z2⟩ := (lw_app (a := [Cond.methodLink own i x, .sameMethod x.cls owner x.name x.desc, .instanceMethod y, .initialized y.cls]) (fun w hw => by
      simp only [List.mem_cons, List.not_mem_nil, or_false] at hw
      rcases hw with e | e | e | e <;> (rw [e]; assumption)) (lw_meth q6)) w hm
        exact ⟨List.mem_cons_of_mem _ z1, z2⟩
    exact vx_runU (cx_fix C) (hCt v m1 k1 n1 hrc) (va_cwU na (vx_c hs9 hts) hG rfl rfl rfl hyx hd (cx_room C hlv hmx)) ⟨ct_blind g m (vr_ (some a) :: As), rp_recv hK hR kd (hb a rfl) hkd hcn, fun U hU hW => ct_pre (av := vr_ (some a) :: As) hK hR U hU hW⟩ rfl (by show (sv_ As).length = na; rw [sv_, List.length_map]; exact hna) hl.1 (sv_rev As (some a) st) (tc_room hst) d hf
theorem x_callZ {enc : β → Fn_} {rc : Rs β} {f : β → Mm → Rs α} (C : Cx_ l g E own cc nL lvl) {i : Nat} {y : MethodName} {Cn : String} {bytes : ByteArray} {maxL : Nat} {ret : Option FieldType} (lv na : Nat) (As : List TV) {b : Option Nat} (kd : Nat) (hCt : ∀ v m1 k1 n1, rc = some (v, m1, k1, n1) → Ct_ l g y (ws_ y bytes maxL ret) lv (vr_ b :: As) m (enc v) m1 k1 n1) (hb : ∀ a, b = some a → mk_ m a = kd) (hb0 : b ≠ none) (hkd : kk_ kd = true) (hcn : cn_ kd = Cn) (hcl : (clT.map (·.1))[kd - 1]? = some Cn) (q1 : Cond.methodLink own i y ∈ lw_all) (q2 : Cond.sameMethod y.cls y.cls y.name y.desc ∈ lw_all) (q3 : Cond.superclass own y.cls ∈ lw_all) (q4 : Cond.instanceMethod y ∈ lw_all) (q5 : Cond.initialized y.cls ∈ lw_all) (q6 : Cond.code y bytes maxL ret ∈ lw_all) (hnn : y.name ≠ "<init>") (hd : (parseMethodDescriptor y.desc).map (fun d => d.parameters.length) = some na) (hlv : lv < lvl) (hmx : maxL ≤ 45) (hna : As.length = na) (hst : tc_ st ≤ 8) (d : decode cc pc = .ok (.invokespecial i, 3)) (pc' : Nat) (hp : pc + 3 = pc') (hA : As.reverse ++ vr_ b :: st = stA)
    (hen : ∀ v ov, enc v = .inl ov → ∃ t, sv_ t = ov.toList)
    (kk : ∀ v m1 k1 n1 (t : List TV) ov, enc v = .inl ov → sv_ t = ov.toList → Sm_ l g E nL en (f v m1) (k + k1) (n + n1) pc' L (t ++ st) m1)
    (kx : ∀ v m1 k1 n1 i, enc v = .inr i → Sx_ l g E nL en (f v m1) (k + k1) (n + n1) pc L st i m1) : Sm_ l g E nL en (bd_ rc f) k n pc L stA m := by
  subst hp; subst hA
  have hK := C.2.2.2.2.2.2.1
  have hts := C.2.2.2.2.1
  cases b with
  | none => exact absurd rfl hb0
  | some a =>
    refine x_run3 (av := (sv_ (vr_ (some a) :: As)).toArray) (fun v m1 k1 n1 hrc H locs ls hR hl hf => ?_) kk hen kx
    obtain ⟨q, hq, hqn⟩ : ∃ q, clT[kd - 1]? = some q ∧ q.1 = Cn := by
      rw [List.getElem?_map] at hcl
      cases hcq : clT[kd - 1]? with
      | none => rw [hcq] at hcl; cases hcl
      | some q => rw [hcq] at hcl; exact ⟨q, rfl, Option.some.inj hcl⟩
    have hat : ClassAt (eS_ E) Cn ((gD_ g).1 (kd - 1)) := by rw [← hqn]; exact (hK.1.1 _ _ hq).2
    exact vx_runSU hat (cx_fix C) (hCt v m1 k1 n1 hrc) (va_cwSU na hts (lw_app (a := [.methodLink own i y, .sameMethod y.cls y.cls y.name y.desc, .superclass own y.cls, .instanceMethod y, .initialized y.cls]) (fun w hw => by
      simp only [List.mem_cons, List.not_mem_nil, or_false] at hw
      rcases hw with e | e | e | e | e <;> (rw [e]; assumption)) (lw_meth q6)) rfl rfl rfl ⟨hnn, hd⟩ (cx_room C hlv hmx)) ⟨ct_blind g m (vr_ (some a) :: As), rp_recv hK hR kd (hb a rfl) hkd hcn, fun U hU hW => ct_pre (av := vr_ (some a) :: As) hK hR U hU hW⟩ rfl (by show (sv_ As).length = na; rw [sv_, List.length_map]; exact hna) hl.1 (sv_rev As (some a) st) (tc_room hst) d hf
theorem x_mmax (C : Cx_ l g E own cc nL lvl) {i : Nat} {x y : Int32} (q1 : Cond.methodLink own i Lib.Math.max.name ∈ lw_all) (q2 : Cond.static Lib.Math.max.name ∈ lw_all) (q3 : Cond.initialized "java/lang/Math" ∈ lw_all) (q4 : Cond.code Lib.Math.max.name Lib.Math.max.code 2 (some .int) ∈ lw_all) (hlv : 1 ≤ lvl) (hst : tc_ st ≤ 8) (d : decode cc pc = .ok (.invokestatic i, 3)) (pc' : Nat) (hp : pc + 3 = pc') {r : Rs α} (kk : Sm_ l g E nL en r k n pc' L (vi_ (if x < y then y else x) :: st) m) : Sm_ l g E nL en r k n pc L (vi_ y :: vi_ x :: st) m := by
  subst hp
  intro v0 m0 k0 n0 hr h1 h2 H locs ls hR hS hl
  have hts := C.2.2.2.2.1
  have hfr := C.2.2.2.2.2.2.2.2.2
  exact va_mmax C.1 C.2.1 (by rw [C.2.2.1]; exact hl.1.symm) C.2.2.2.1 (hts _ q1) (hts _ q2) (hts _ q3) (hts _ q4) (by rw [hfr.1]; exact hlv) (by have := tc_sum st; show ((sv_ st).map fun v => v.category).sum + 13 ≤ _; rw [hfr.2, this]; omega) (Nat.le_trans (Nat.le_add_right _ _) h1) (Nat.le_trans (Nat.le_add_right _ _) h2) d (kk v0 m0 k0 n0 hr h1 h2 H locs ls hR hS hl)
theorem x_mmin (C : Cx_ l g E own cc nL lvl) {i : Nat} {x y : Int32} (q1 : Cond.methodLink own i Lib.Math.min.name ∈ lw_all) (q2 : Cond.static Lib.Math.min.name ∈ lw_all) (q3 : Cond.initialized "java/lang/Math" ∈ lw_all) (q4 : Cond.code Lib.Math.min.name Lib.Math.min.code 2 (some .int) ∈ lw_all) (hlv : 1 ≤ lvl) (hst : tc_ st ≤ 8) (d : decode cc pc = .ok (.invokestatic i, 3)) (pc' : Nat) (hp : pc + 3 = pc') {r : Rs α} (kk : Sm_ l g E nL en r k n pc' L (vi_ (if y < x then y else x) :: st) m) : Sm_ l g E nL en r k n pc L (vi_ y :: vi_ x :: st) m := by
  subst hp
  intro v0 m0 k0 n0 hr h1 h2 H locs ls hR hS hl
  have hts := C.2.2.2.2.1
  have hfr := C.2.2.2.2.2.2.2.2.2
  exact va_mmin C.1 C.2.1 (by rw [C.2.2.1]; exact hl.1.symm) C.2.2.2.1 (hts _ q1) (hts _ q2) (hts _ q3) (hts _ q4) (by rw [hfr.1]; exact hlv) (by have := tc_sum st; show ((sv_ st).map fun v => v.category).sum + 13 ≤ _; rw [hfr.2, this]; omega) (Nat.le_trans (Nat.le_add_right _ _) h1) (Nat.le_trans (Nat.le_add_right _ _) h2) d (kk v0 m0 k0 n0 hr h1 h2 H locs ls hR hS hl)

theorem x_gsN (C : Cx_ l g E own cc nL lvl) {i : Nat} (j : Nat) {Cn nm de ref host : String} (v : TV) (hj : (st_ g)[j]? = some (Cn, nm, de, tv_ v)) (hlink : (Cond.fieldLinkNest own i ref nm de host) ∈ lw_tbl) (hsame : Cn = ref) (d : decode cc pc = .ok (.getstatic i, 3)) (pc' : Nat) (hp : pc + 3 = pc') {f : Rs α} (kk : Sm_ l g E nL en f k n pc' L (v :: st) m) : Sm_ l g E nL en f k n pc L st m := by
  subst hp; subst hsame
  refine Sm_go kk (fun H locs ls Q hR hS hl w => ?_)
  have hK := C.2.2.2.2.2.2.1
  have hZ := hK.2.2.2.2.1 _ (List.mem_of_getElem? hj)
  obtain ⟨m0, hR0⟩ := C.2.2.2.2.2.2.2.1
  have hZ1 : va_Z Cn nm de (tv_ v) (fr_ g) (eS_ E) (eS_ E).heap := hZ.kept (fun a _ h => hR0.2.2.2.2.2.2.1 a (Nat.not_le.mp h))
  exact va_getsN C.1 C.2.1 hZ1 hS C.2.2.2.1 (va_Nw.use rfl (KN.use hK hlink rfl)) (fun x h => h) d (w ls hl)
/-! several receivers -/
theorem Sm_bn {f : β → Mm → Rs α} : Sm_ l g E nL en (bd_ (none : Rs β) f) k n pc L st m := fun v m' k' n' hr => by cases hr
theorem x_csr {r0 : Option Nat} {kd : Nat} {rc rc2 : Rs β} {f : β → Mm → Rs α} (h1 : (∀ a, r0 = some a → mk_ m a = kd) → r0 ≠ none → Sm_ l g E nL en (bd_ rc f) k n pc L st m) (h2 : Sm_ l g E nL en (bd_ rc2 f) k n pc L st m) : Sm_ l g E nL en (bd_ (cs_ m r0 kd rc rc2) f) k n pc L st m := by
  cases r0 with
  | none => exact Sm_bn
  | some a =>
    show Sm_ l g E nL en (bd_ (if _ then _ else _) f) _ _ _ _ _ _
    split
    case isTrue h => exact h1 (fun b hb => by cases hb; exact h) (fun h => by cases h)
    case isFalse => exact h2
theorem x_wi {rc : Rs Int32} {f : Int32 → Mm → Rs α} (st : List TV) (pc' : Nat) (h : (∀ x m1 k1 n1, Sm_ l g E nL en (f x m1) (k + k1) (n + n1) pc' L (vi_ x :: st) m1) → Sm_ l g E nL en (bd_ rc f) k n pc L stA m) (kk : ∀ x m1 k1 n1, Sm_ l g E nL en (f x m1) (k + k1) (n + n1) pc' L (vi_ x :: st) m1) : Sm_ l g E nL en (bd_ rc f) k n pc L stA m := h kk
theorem x_wj {rc : Rs Int64} {f : Int64 → Mm → Rs α} (st : List TV) (pc' : Nat) (h : (∀ x m1 k1 n1, Sm_ l g E nL en (f x m1) (k + k1) (n + n1) pc' L (vj_ x :: st) m1) → Sm_ l g E nL en (bd_ rc f) k n pc L stA m) (kk : ∀ x m1 k1 n1, Sm_ l g E nL en (f x m1) (k + k1) (n + n1) pc' L (vj_ x :: st) m1) : Sm_ l g E nL en (bd_ rc f) k n pc L stA m := h kk
theorem x_wr {rc : Rs (Option Nat)} {f : Option Nat → Mm → Rs α} (st : List TV) (pc' : Nat) (h : (∀ x m1 k1 n1, Sm_ l g E nL en (f x m1) (k + k1) (n + n1) pc' L (vr_ x :: st) m1) → Sm_ l g E nL en (bd_ rc f) k n pc L stA m) (kk : ∀ x m1 k1 n1, Sm_ l g E nL en (f x m1) (k + k1) (n + n1) pc' L (vr_ x :: st) m1) : Sm_ l g E nL en (bd_ rc f) k n pc L stA m := h kk
theorem x_wv {rc : Rs Unit} {f : Unit → Mm → Rs α} (st : List TV) (pc' : Nat) (h : (∀ m1 k1 n1, Sm_ l g E nL en (f () m1) (k + k1) (n + n1) pc' L st m1) → Sm_ l g E nL en (bd_ rc f) k n pc L stA m) (kk : ∀ m1 k1 n1, Sm_ l g E nL en (f () m1) (k + k1) (n + n1) pc' L st m1) : Sm_ l g E nL en (bd_ rc f) k n pc L stA m := h kk

/-- the class object of Object[] -/
theorem x_lm (C : Cx_ l g E own cc nL lvl) {i : Nat} (q1 : Cond.classLink own i "[Ljava/lang/Object;" ∈ lw_all) (d : decode cc pc = .ok (.ldc i, 2)) (pc' : Nat) (hp : pc + 2 = pc') {f : Rs α} (kk : Sm_ l g E nL en f k n pc' L (vr_ (some (gE_ g 99)) :: st) m) : Sm_ l g E nL en f k n pc L st m := by
  subst hp
  refine Sm_go kk (fun H locs ls Q hR hS hl w => ?_)
  exact va_ldcM C.1 C.2.1 C.2.2.2.1 (C.2.2.2.2.1 _ q1) C.2.2.2.2.2.2.1.2.2.2.2.2.2.2.2.2.2.1 d (w ls hl)
def gc_ {α : Type} (m : Mm) (r : Option Nat) (f : Rs α) : Rs α := match r with
  | none => none
  | some a => if mk_ m a = 204 then f else none
theorem x_gc (C : Cx_ l g E own cc nL lvl) {i : Nat} {r0 : Option Nat} (q1 : Cond.methodLink own i ⟨"java/lang/Object", "getClass", "()Ljava/lang/Class;"⟩ ∈ lw_all) (hlv : 1 ≤ lvl) (hst : tc_ st ≤ 8) (d : decode cc pc = .ok (.invokevirtual i, 3)) (pc' : Nat) (hp : pc + 3 = pc') {f : Rs α} (kk : Sm_ l g E nL en f k n pc' L (vr_ (some (gE_ g 99)) :: st) m) : Sm_ l g E nL en (gc_ m r0 f) k n pc L (vr_ r0 :: st) m := by
  subst hp
  unfold gc_
  split
  · exact Sm_none
  · rename_i a
    split
    case isFalse => exact Sm_none
    case isTrue hk =>
      refine Sm_go kk (fun H locs ls Q hR hS hl w => ?_)
      have hK := C.2.2.2.2.2.2.1
      have hts := C.2.2.2.2.1
      have hfr := C.2.2.2.2.2.2.2.2.2
      have hc := rp_recv (s := eS_ E) hK hR 204 hk (by decide) (Cn := "[Ljava/lang/Object;") (by decide)
      exact va_getC C.1 C.2.1 (by rw [C.2.2.1]; exact hl.1.symm) C.2.2.2.1 (hts _ q1) (va_Dc.use hK.2.2.2.2.2.2.2.2.2.2.2.1) (hts _ q3797) (hts _ q381) (hts _ q430) hK.2.2.2.2.2.2.2.2.2.2.1 hc (by rw [hfr.1]; exact hlv) (by have := tc_sum st; show ((sv_ st).map fun v => v.category).sum + 14 ≤ _; rw [hfr.2, this]; omega) d (w ls hl)
theorem x_lsw (C : Cx_ l g E own cc nL lvl) {i : Nat} (j : Nat) {tx : String} (a : Nat) (hj : skL[j]? = some (own, i, tx, a)) (d : decode cc pc = .ok (.ldc_w i, 3)) (pc' : Nat) (hp : pc + 3 = pc') {f : Rs α} (kk : Sm_ l g E nL en f k n pc' L (vr_ (some (gE_ g (100 + a))) :: st) m) : Sm_ l g E nL en f k n pc L st m := by
  subst hp
  refine Sm_go kk (fun H locs ls Q hR hS hl w => ?_)
  have hK := C.2.2.2.2.2.2.1
  have hZ := hK.2.2.2.2.2.2.2.1 _ (List.mem_of_getElem? hj)
  have hj2 := w ls hl
  intro T hT X
  obtain ⟨t, a1, b1⟩ := hj2 T hT X
  exact ⟨t, X.ldcStringW C.1 C.2.2.2.1 (text := tx) (a := gE_ g (100 + a)) hZ.1 hZ.2 (g := F0 (eM_ E) pc ls (sv_ st)) rfl (by rw [C.2.1]; exact d) t a1, b1⟩
/-- a byte[] cloned -/
def cb_ (m : Mm) (a : Nat) : Mm := (fun b => if b = mz_ m then 202 else mk_ m b, fun b => if b = mz_ m then ml_ m a else ml_ m b, fun b j => if b = mz_ m then mi_ m a j else mi_ m b j, fun b j => if b = mz_ m then 0 else mj_ m b j, fun b j => if b = mz_ m then none else mr_ m b j, mz_ m + 1, mb_ m)
def cl_ {α : Type} (m : Mm) (r : Option Nat) (f : Nat → Mm → Rs α) : Rs α := match r with
  | none => none
  | some a => if mk_ m a = 202 ∧ (∀ i, i < ml_ m a → -128 ≤ (mi_ m a i).toInt ∧ (mi_ m a i).toInt ≤ 127) then tk_ 1 (ml_ m a) (f (mz_ m) (cb_ m a)) else none
theorem rp_new {H H' : Heap} {m m' : Mm} (hR : Rp_ g m H) (ha : ra_ g m' H' (mz_ m)) (hz : H'.size = mz_ m + 1) (ho : ∀ q, q < mz_ m → H'[q]? = H[q]?) (hst : ∃ ce : Cell, H'[mz_ m]? = some ce ∧ ce.vm.isStatics = false)
    (hk : ∀ b, b ≠ mz_ m → mk_ m' b = mk_ m b) (hl : ∀ b, b ≠ mz_ m → ml_ m' b = ml_ m b) (hi : ∀ b j, b ≠ mz_ m → mi_ m' b j = mi_ m b j) (hj : ∀ b j, b ≠ mz_ m → mj_ m' b j = mj_ m b j) (hr : ∀ b j, b ≠ mz_ m → mr_ m' b j = mr_ m b j) (hmz : mz_ m' = mz_ m + 1) (hmb : mb_ m' = mb_ m) : Rp_ g m' H' := by
  obtain ⟨h1, h2, h3, h4, h5, h6, h7, h8⟩ := hR
  refine ⟨by rw [hz, hmz], by rw [hmb]; exact h2, by rw [hmb, hmz]; omega, fun a => ?_, fun a h => ?_, fun a => ?_, fun q hq => ?_, fun q g1 g2 => ?_⟩
  · by_cases e : a = mz_ m
    · rw [e]; exact ha
    · by_cases hlt : a < mz_ m
      · exact ra_kept (h4 a) (ho a hlt) (hk a e) (hl a e) (fun j => hi a j e) (fun j => hj a j e) (fun j => hr a j e)
      · have h0 : mk_ m' a = 0 := by rw [hk a e]; exact h5 a (by omega)
        refine ⟨fun ci r e1 _ => ?_, fun t ty e1 _ => ?_, fun i _ e1 => ?_, fun i _ e1 => ?_⟩ <;> omega
  · rw [hk a (by omega)]
    exact h5 a (by omega)
  · by_cases e : a = mz_ m
    · exact Or.inr (Or.inr (by rw [e, hmb]; exact h3))
    · rw [hk a e, hmb]; exact h6 a
  · rw [ho q (by omega)]; exact h7 q hq
  · by_cases e : q = mz_ m
    · rw [e]; exact hst
    · rw [ho q (by omega)]
      exact h8 q g1 (by omega)
theorem x_cl (C : Cx_ l g E own cc nL lvl) {i : Nat} {r0 : Option Nat} (q1 : Cond.methodLink own i ⟨"[B", "clone", "()Ljava/lang/Object;"⟩ ∈ lw_all) (qc : Cond.castable "[B" "java/lang/Cloneable" ∈ lw_tbl) (hlv : 1 ≤ lvl) (hst : tc_ st ≤ 8) (d : decode cc pc = .ok (.invokevirtual i, 3)) (pc' : Nat) (hp : pc + 3 = pc') {f : Nat → Mm → Rs α} (kk : ∀ a m' z, Sm_ l g E nL en (f a m') (k + 1) (n + z) pc' L (vr_ (some a) :: st) m') : Sm_ l g E nL en (cl_ m r0 f) k n pc L (vr_ r0 :: st) m := by
  subst hp
  unfold cl_
  split
  · exact Sm_none
  · rename_i a
    split
    case isFalse => exact Sm_none
    case isTrue hk =>
      obtain ⟨hk, hfit⟩ := hk
      refine Sm_tk (kk _ _ _) (fun H locs ls Q hR hS hl r1 r2 w => ?_)
      have hK := C.2.2.2.2.2.2.1
      have hts := C.2.2.2.2.1
      have hfr := C.2.2.2.2.2.2.2.2.2
      have e0 := (hR.2.2.2.1 a).2.1 2 _ hk rfl
      generalize hcl : arrV (gA_ g 2) (ml_ m a) (fun j => vt_ .byte m a j) = ce at e0
      have hcv : ce.vm = .none := by rw [← hcl]; rfl
      have hcc : ce.cls = gA_ g 2 := by rw [← hcl]; rfl
      have hsz : ce.slots.size = ml_ m a := by rw [← hcl]; exact arrV_size _ _ _
      have hnm : (eS_ E).vm.findClass "[B" = some (gA_ g 2) := (hK.1.2 2 _ rfl).2
      obtain ⟨c0, t0', f1, f2, f3⟩ := Cond.castable_spec (va_Nw.use (A := eA_ E) rfl (KN.use hK qc rfl))
      cases hnm.symm.trans f1
      intro T hT X
      have hcellT : T.heap[a]? = some ce := by rw [hT]; exact e0
      obtain ⟨-, kA, hkA, comp, hkind⟩ := State.isArrayOf_alike X.warmed.alike ((hK.1.2 2 _ rfl).1 0 (fun _ => .null))
      obtain ⟨-, kS, hkS, compS, hkindS⟩ := (hK.1.2 2 _ rfl).1 0 (fun _ => .null)
      obtain ⟨vm', X', stp⟩ := X.cloneArray C.1 C.2.2.2.1 (hts _ q1) (hts _ q702) (hts _ q703) (hts _ q704) (hts _ q705) (a := a) (cell := ce) hcellT (fun k h => by rw [hcv] at h; cases h) (by rw [hcv]; exact fun h => by cases h) (by rw [hcc]; exact hnm) f2 (by rw [hcc]; exact f3)
        (fun i v hv => by
          rw [hcc]
          have hk' : T.vm.classes[gA_ g 2]? = some kA := hkA
          have hlt : i < ml_ m a := by rw [← hsz]; exact (Array.getElem?_eq_some_iff.mp hv).1
          rw [← hcl, arrV_read _ _ hlt] at hv
          cases hv
          have h9 := hfit i hlt
          have hgo : fits .byte (vt_ .byte m a i) = true := by
            show (decide (-128 ≤ mi_ m a i) && decide (mi_ m a i ≤ 127)) = true
            rw [Bool.and_eq_true, decide_eq_true_eq, decide_eq_true_eq, Int32.le_iff_toInt_le, Int32.le_iff_toInt_le]
            exact h9
          simpa [State.fitsSlot, State.slotType?, hk', hkind] using hgo)
        (g := F0 (eM_ E) pc ls (sv_ (vr_ (some a) :: st))) rfl (by rw [C.2.2.1]; exact hl.1) rfl (by rw [C.2.1]; exact d) (by rw [hfr.1]; exact hlv) (by have := tc_sum st; show 2 * 0 + ((sv_ st).map fun v => v.category).sum + 14 ≤ _; rw [hfr.2, this]; omega) r1 (by rw [hsz]; exact r2) (hloader := by rw [hcc]; exact Vm.clonesLoader_of_array hkS hkindS)
      have hcellE : ({ cls := ce.cls, slots := ce.slots } : Cell) = ce := by rw [← hcl]; rfl
      rw [hcellE, hsz] at X'
      rw [hcellE] at stp
      generalize hH1 : H.push ce = H1
      have z1 : H1.size = mz_ m + 1 := by rw [← hH1, Array.size_push, hR.1]
      have e1 : H1[mz_ m]? = some ce := by rw [← hH1, ← hR.1, Array.getElem?_push_size]
      have o1 : ∀ q : Nat, q < mz_ m → H1[q]? = H[q]? := fun q hq => by rw [← hH1, Array.getElem?_push, if_neg (by rw [hR.1]; exact Nat.ne_of_lt hq)]
      have hRn : Rp_ g (cb_ m a) H1 := by
        refine rp_new hR (ra_arr (t := 2) (ty := .byte) (if_pos rfl) rfl ?_) z1 o1 ⟨_, e1, by rw [hcv]; rfl⟩ (fun b hb => if_neg hb) (fun b hb => if_neg hb) (fun b j hb => if_neg hb) (fun b j hb => if_neg hb) (fun b j hb => if_neg hb) rfl rfl
        rw [e1, ← hcl]
        have h1 : ml_ (cb_ m a) (mz_ m) = ml_ m a := if_pos rfl
        rw [h1]
        congr 2
        funext j
        show Value.int _ = Value.int (mi_ (cb_ m a) (mz_ m) j)
        congr 1
        exact (if_pos rfl).symm
      obtain ⟨t, a1, b1⟩ := w H1 hRn (vs_al hR hS z1 o1) _ (by rw [← hH1, ← hT]; rfl) X'
      refine ⟨t, stp t ?_, b1⟩
      have : T.heap.size = mz_ m := by rw [hT]; exact hR.1
      rw [this]
      exact a1
end URW
