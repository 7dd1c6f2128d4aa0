/-! a table of four rows of four numbers: multianewarray -/
/-- the table's own cell, i of its rows laid -/
def vy_oc (c : ClassId) (h0 i : Nat) : Cell := arrV c 4 (fun j => if j < i then .ref (h0 + 1 + j) else .null)
/-- a row -/
def vy_ic (d : ClassId) : Cell := arrV d 4 (fun _ => .int 0)
def vy_fl (s : State) (c d : ClassId) : Nat → State
  | 0 => s.pushCell (vy_oc c s.heap.size 0)
  | i + 1 => ((vy_fl s c d i).pushCell (vy_ic d)).setCell s.heap.size (vy_oc c s.heap.size (i + 1))
theorem vy_oc_size (c : ClassId) (h0 i : Nat) : (vy_oc c h0 i).slots.size = 4 := arrV_size _ _ _
theorem vy_ic_size (d : ClassId) : (vy_ic d).slots.size = 4 := arrV_size _ _ _
theorem vy_oc_next (c : ClassId) (h0 i : Nat) : (vy_oc c h0 i).setSlot i (.ref (h0 + 1 + i)) = vy_oc c h0 (i + 1) := by
  unfold vy_oc
  rw [arrV_store]
  congr 1
  funext j
  by_cases e : j = i
  · subst e; simp [updV]
  · by_cases h : j < i
    · simp [updV, e, h, show j < i + 1 by omega]
    · simp [updV, e, h, show ¬ j < i + 1 by omega]
theorem vy_fl_facts (s : State) (c d : ClassId) : ∀ i, (vy_fl s c d i).heap.size = s.heap.size + 1 + i ∧ (vy_fl s c d i).heap[s.heap.size]? = some (vy_oc c s.heap.size i) ∧ (vy_fl s c d i).vm = s.vm ∧ (vy_fl s c d i).slotsUsed = s.slotsUsed + 4 + 4 * i
  | 0 => ⟨by simp [vy_fl], by simp [vy_fl], rfl, by simp [vy_fl, vy_oc_size]⟩
  | i + 1 => by
    obtain ⟨a, b, e, u⟩ := vy_fl_facts s c d i
    have hlt : s.heap.size < (vy_fl s c d i).heap.size := by omega
    have hb : ((vy_fl s c d i).pushCell (vy_ic d)).heap[s.heap.size]? = some (vy_oc c s.heap.size i) := by rw [State.heap_pushCell_of_lt (h := hlt)]; exact b
    refine ⟨by simp [vy_fl, State.setCell, a]; omega, State.heap_setCell_self hb, by simp [vy_fl, e], by simp [vy_fl, u, vy_ic_size]; omega⟩
theorem vy_fl_old (s : State) (c d : ClassId) {a : Addr} (ha : a < s.heap.size) : ∀ i, (vy_fl s c d i).heap[a]? = s.heap[a]?
  | 0 => State.heap_pushCell_of_lt _ _ ha
  | i + 1 => by
    have f1 := (vy_fl_facts s c d i).1
    show (((vy_fl s c d i).pushCell (vy_ic d)).setCell s.heap.size _).heap[a]? = _
    have hl : a < (vy_fl s c d i).heap.size := Nat.lt_of_lt_of_le ha (by omega)
    rw [State.heap_setCell_other (Nat.ne_of_gt ha), State.heap_pushCell_of_lt (h := hl)]
    exact vy_fl_old s c d ha i
theorem vy_fl_row (s : State) (c d : ClassId) : ∀ i j, j < i → (vy_fl s c d i).heap[s.heap.size + 1 + j]? = some (vy_ic d)
  | 0, _, h => absurd h (Nat.not_lt_zero _)
  | i + 1, j, h => by
    have f1 := (vy_fl_facts s c d i).1
    show (((vy_fl s c d i).pushCell (vy_ic d)).setCell s.heap.size _).heap[s.heap.size + 1 + j]? = _
    rw [State.heap_setCell_other (show s.heap.size ≠ s.heap.size + 1 + j by omega)]
    by_cases hj : j < i
    · have hl : s.heap.size + 1 + j < (vy_fl s c d i).heap.size := by omega
      rw [State.heap_pushCell_of_lt (h := hl)]
      exact vy_fl_row s c d i j hj
    · have e : j = i := by omega
      subst e
      rw [← f1]
      exact State.heap_pushCell_size _ _
theorem vy_fl_top (s : State) (f : JFrame) (c d : ClassId) : ∀ i, vy_fl (s.setTop f) c d i = (vy_fl s c d i).setTop f
  | 0 => rfl
  | i + 1 => by
    show ((vy_fl (s.setTop f) c d i).pushCell _).setCell _ _ = _
    rw [vy_fl_top s f c d i]
    rfl
section MNW
variable {E : CtlPost} {e : Env} {d : Bool} {acts : List Action} {s : State}
/-- a new array of four -/
theorem vy_wpNew {c comp : ClassId} {k : Class} {type : FieldType} {init : Value} (hk : s.vm.classes[c]? = some k) (hkind : k.kind = .array comp type)
    (hlimit : ¬ 4 > e.platform.arrayLengthLimit) (hheap : ¬ 4 * componentBytes type > e.platform.maxHeapBytes) (hfit : fits type init = true) (hdef : init.isDefault = true) {Q : Addr → Pre}
    (h1 : s.heap.size < e.platform.maxCells) (h2 : s.slotsUsed + 4 ≤ e.platform.maxSlots)
    (hq : Q s.heap.size d acts (s.pushCell (arrV c 4 (fun _ => init)))) :
    wp (Jvm.newArray c 4 init) Q E e d acts s := by
  rw [← arrV_new] at hq
  have hfits : ∀ i v, (Array.replicate 4 init)[i]? = some v → s.fitsSlot c .none i v = true := by
    intro i v hv
    rw [Array.getElem?_replicate] at hv
    split at hv
    · cases hv; simp [State.fitsSlot, State.slotType?, hk, hkind, hfit]
    · cases hv
  have hda : allocActs (Array.replicate 4 init) s.heap.size acts = acts := by
    have hall : ((Array.replicate 4 init).all (·.isDefault)) = true := by
      rw [Array.all_replicate]; simp [hdef]
    unfold allocActs; rw [if_pos hall]
  simp only [Jvm.newArray, Jvm.arrayFits, wp_bind', W.ask, W.ite, hlimit, if_false, wp_pure', W.theClass, hk, hkind, hheap, W.alloc, W.stop, Option.some.injEq, exists_eq_left', Array.size_replicate, hda]
  rw [if_neg (by omega)]
  exact ⟨h1, h2, hfits, hq⟩
theorem vy_refFits {t : FieldType} (h : t.isReference = true) (v : Value) (hv : v = .null ∨ ∃ a, v = .ref a) : fits t v = true := by
  cases t with
  | object n => rcases hv with rfl | ⟨a, rfl⟩ <;> rfl
  | array n => rcases hv with rfl | ⟨a, rfl⟩ <;> rfl
  | _ => cases h
/-- a row of the table -/
theorem vy_wpRow {comp cc : ClassId} {kc : Class} (hkc : s.vm.classes[comp]? = some kc) (hkindc : kc.kind = .array cc .int)
    (hl : ¬ 4 > e.platform.arrayLengthLimit) (hh : ¬ 4 * componentBytes .int > e.platform.maxHeapBytes) (h1 : s.heap.size < e.platform.maxCells) (h2 : s.slotsUsed + 4 ≤ e.platform.maxSlots)
    {Q : Addr → Pre} (hq : Q s.heap.size d acts (s.pushCell (vy_ic comp))) : wp (multianewarray.make comp [4]) Q E e d acts s := by
  have h4 : (4 : Int32).toNatClampNeg = 4 := by decide
  have hn : ¬ (4 : Int32) < 0 := by decide
  rw [multianewarray.make]
  simp only [wp_bind', W.ite, hn, if_false, wp_pure', W.theClass, hkc, hkindc, Option.some.injEq, exists_eq_left', h4]
  exact vy_wpNew hkc hkindc hl hh rfl rfl h1 h2 hq
/-- the table -/
theorem vy_wpTab {c comp cc : ClassId} {k kc : Class} (hk : s.vm.classes[c]? = some k) (hkind : k.kind = .array comp (.array .int)) (hkc : s.vm.classes[comp]? = some kc) (hkindc : kc.kind = .array cc .int)
    (hl : ¬ 4 > e.platform.arrayLengthLimit) (hh : ¬ 4 * 4 > e.platform.maxHeapBytes) (hc : s.heap.size + 5 ≤ e.platform.maxCells) (hs : s.slotsUsed + 20 ≤ e.platform.maxSlots)
    {Q : Addr → Pre} (hq : ∀ d' acts', Q s.heap.size d' acts' (vy_fl s c comp 4)) : wp (multianewarray.make c [4, 4]) Q E e d acts s := by
  have h4 : (4 : Int32).toNatClampNeg = 4 := by decide
  have hn : ¬ (4 : Int32) < 0 := by decide
  have hfind : ([(4 : Int32)].find? (· < 0)) = none := by decide
  rw [multianewarray.make]
  simp only [wp_bind', W.ite, hn, if_false, wp_pure', W.theClass, hk, hkind, Option.some.injEq, exists_eq_left', h4]
  refine vy_wpNew hk hkind hl hh (vy_refFits rfl _ (Or.inl rfl)) rfl (by omega) (by omega) ?_
  simp only [hfind]
  rw [ite_self, wp_bind', Std.Legacy.Range.forIn_eq_forIn_range']
  have hsz : ([:4] : Std.Legacy.Range).size = 4 := by decide
  rw [hsz]
  show wp (forIn (List.range' 0 4 1) PUnit.unit _) _ E e d acts _
  refine wp_forIn_inv (fun rest s' => ∃ i, i ≤ 4 ∧ rest = List.range' i (4 - i) ∧ s' = vy_fl s c comp i) _ _ ⟨0, Nat.zero_le _, rfl, by simp [vy_fl, vy_oc]⟩ ?_ ?_
  · rintro x rest s' d' acts' Q' ⟨i, hi, hl', rfl⟩ hnext
    have hlt : i < 4 := by
      rcases Nat.lt_or_ge i 4 with h | h
      · exact h
      · rw [show 4 - i = 0 by omega] at hl'; cases hl'
    obtain ⟨rfl, hrest⟩ : x = i ∧ rest = List.range' (i + 1) (4 - (i + 1)) := by
      rw [show 4 - i = (4 - (i + 1)) + 1 by omega, List.range'_succ] at hl'
      exact ⟨(List.cons.inj hl').1, (List.cons.inj hl').2⟩
    obtain ⟨f1, f2, f3, f4⟩ := vy_fl_facts s c comp x
    simp only [wp_bind']
    refine vy_wpRow (by rw [f3]; exact hkc) hkindc hl hh (by omega) (by omega) ?_
    have hlt0 : s.heap.size < (vy_fl s c comp x).heap.size := by omega
    simp only [wp_bind', W.writeLoc, wp_pure']
    refine ⟨vy_oc c s.heap.size x, by rw [State.heap_pushCell_of_lt (h := hlt0)]; exact f2, (by show VmData.none ≠ _; exact fun h => by cases h), by rw [vy_oc_size]; exact hlt, ?_, hnext _ _ _ ⟨x + 1, hlt, hrest, ?_⟩⟩
    · show State.fitsSlot _ c .none _ _ = true
      simp [State.fitsSlot, State.slotType?, f3, hk, hkind, vy_refFits (t := .array .int) rfl _ (Or.inr ⟨_, rfl⟩)]
    · rw [f1, vy_oc_next]; rfl
  · rintro s' d' acts' ⟨i, hi, hl', rfl⟩
    have hi4 : i = 4 := by
      rcases Nat.lt_or_ge i 4 with h | h
      · rw [show 4 - i = (4 - (i + 1)) + 1 by omega, List.range'_succ] at hl'; cases hl'
      · omega
    subst hi4
    simp only [wp_pure']
    exact hq _ _
end MNW
section MNS
variable {p : Program} {l : Launch} {e : Env} {R : Room} {s : State} {m : MethodId} {args : Array Value} {below : List Frame} {meth : Method} {c : Code} {T : State} {locs : List Loc} {cells slots : Nat}
theorem vy_stand (X : Stand p l e R s m args below meth c T locs cells slots) (cA comp : ClassId) : ∀ i, Stand p l e R s m args below meth c (vy_fl T cA comp i) (locs ++ (List.range i).map fun j => ⟨T.heap.size, j⟩) (cells + 1 + i) (slots + 4 + i * 4)
  | 0 => by
    have h := X.pushed (vy_oc cA T.heap.size 0)
    rw [vy_oc_size] at h
    simpa [vy_fl] using h
  | i + 1 => by
    have Xi := vy_stand X cA comp i
    obtain ⟨f1, f2, f3, f4⟩ := vy_fl_facts T cA comp i
    have hlt0 : T.heap.size < (vy_fl T cA comp i).heap.size := by omega
    have hcell : ((vy_fl T cA comp i).pushCell (vy_ic comp)).heap[T.heap.size]? = some (vy_oc cA T.heap.size i) := by rw [State.heap_pushCell_of_lt (h := hlt0)]; exact f2
    have h := (Xi.pushed (vy_ic comp)).stored hcell i (.ref (T.heap.size + 1 + i))
    rw [vy_ic_size, vy_oc_next] at h
    have e2 : (locs ++ (List.range (i + 1)).map fun j => (⟨T.heap.size, j⟩ : Loc)) = (locs ++ (List.range i).map fun j => (⟨T.heap.size, j⟩ : Loc)) ++ [⟨T.heap.size, i⟩] := by simp [List.range_succ, List.append_assoc]
    have e3 : slots + 4 + (i + 1) * 4 = slots + 4 + i * 4 + 4 := by omega
    rw [e2, e3]
    exact h
end MNS
section ROW
variable {α β : Type} {l : Launch} {g : GG} {E : Me_} {own : String} {cc : ByteArray} {nL lvl : Nat} {en : α → Fn_} {k n pc : Nat} {L L' : List (Nat × TV)} {st stA : List TV} {m : Mm}
theorem x_mn (C : Cx_ l g E own cc nL lvl) {i : Nat} (q1 : Cond.classLink own i "[[I" ∈ lw_all) (d : decode cc pc = .ok (.multianewarray i 2, 4)) (pc' : Nat) (hp : pc + 4 = pc') {f : Nat → Mm → Rs α} (kk : ∀ a m', Sm_ l g E nL en (f a m') (k + 5) (n + 20) pc' L (vr_ (some a) :: st) m') : Sm_ l g E nL en (mn_ m f) k n pc L (vi_ 4 :: vi_ 4 :: st) m := by
  subst hp
  refine Sm_tk (kk _ _) (fun H locs ls Q hR hS hl r1 r2 w => ?_)
  have hK := C.2.2.2.2.2.2.1
  have hts := C.2.2.2.2.1
  intro T hT X
  have h6 : (eS_ E).vm.findClass "[[I" = some (gA_ g 6) := (hK.1.2 6 _ rfl).2
  have h0 : (eS_ E).vm.findClass "[I" = some (gA_ g 0) := (hK.1.2 0 _ rfl).2
  obtain ⟨d1, c1, kA, hA1, hA2, hkA, hkindA⟩ := hK.2.2.2.2.2.2.2.2.2.2.2.2.2.2
  have ec1 : c1 = gA_ g 6 := Option.some.inj (hA2.symm.trans h6)
  have ed1 : d1 = gA_ g 0 := Option.some.inj (hA1.symm.trans h0)
  subst ec1; subst ed1
  obtain ⟨comp', kC, cc9, hcomp', hkC, hkindC⟩ := Cond.arrayClass_spec (hts _ q235)
  have ecomp : comp' = gA_ g 0 := Option.some.inj (hcomp'.symm.trans h0)
  subst ecomp
  have hpl : E.2.1.platform.magicAccessors = ({} : Platform).magicAccessors := by rw [X.admits.platform]
  obtain ⟨c0, hfc0, hcl⟩ := Cond.classLink_spec C.2.2.2.1 (hts _ q1) E.2.1.platform hpl
  cases h6.symm.trans hfc0
  obtain ⟨hg₁, hwarm₁, hready₁⟩ := State.classEntry (e := E.2.1) X.warmed hcl
  generalize T.vm.noted (eM_ E).cls i (.cls (gA_ g 6)) = vm₁ at hg₁ hwarm₁ hready₁
  have hal : (eS_ E).vm.Alike vm₁ := hwarm₁.alike
  obtain ⟨kA₁, hkA₁, heA⟩ := hal.2.2 _ _ hkA
  obtain ⟨kC₁, hkC₁, heC⟩ := hal.2.2 _ _ hkC
  have hkindA₁ : kA₁.kind = .array (gA_ g 0) (.array .int) := by rw [heA]; exact hkindA
  have hkindC₁ : kC₁.kind = .array cc9 .int := by rw [heC]; exact hkindC
  have X₁ := X.noted hwarm₁
  obtain ⟨hr1, hr2⟩ := X.roomAbove (a := 5) (b := 20) r1 r2
  have XF := vy_stand X₁ (gA_ g 6) (gA_ g 0) 4
  have X1 := Stand.forget (locs := locs) XF (fun y hy => by
    obtain ⟨j, -, rfl⟩ := List.mem_map.mp hy
    show (eS_ E).heap.size ≤ T.heap.size
    rw [hT]; exact hS.1)
  have step : ∀ target, Steps E.1.tables E.2.1 (eB_ E) ((vy_fl (T.setVm vm₁) (gA_ g 6) (gA_ g 0) 4).setTop (F0 (eM_ E) (pc + 4) ls (.ref T.heap.size :: sv_ st))) target → Steps E.1.tables E.2.1 (eB_ E) (T.setTop (F0 (eM_ E) pc ls (sv_ (vi_ 4 :: vi_ 4 :: st)))) target := by
    intro target hrest
    have hl1 : ¬ 4 > E.2.1.platform.arrayLengthLimit := by rw [Launch.admits_arrayLengthLimit X.admits]; omega
    have hh1 : ¬ 4 * 4 > E.2.1.platform.maxHeapBytes := by rw [Launch.admits_maxHeapBytes X.admits]; omega
    have hexec := C.1
    have hdg : decode (eC_ E).code pc = .ok (.multianewarray i 2, 4) := by rw [C.2.1]; exact d
    have hstk : (F0 (eM_ E) pc ls (sv_ (vi_ 4 :: vi_ 4 :: st))).stack = .int 4 :: .int 4 :: sv_ st := rfl
    generalize hgf : F0 (eM_ E) pc ls (sv_ (vi_ 4 :: vi_ 4 :: st)) = gf at hstk ⊢
    have hgm : gf.method = eM_ E := by rw [← hgf]
    have hgp : gf.pc = pc := by rw [← hgf]
    have hdg' : decode (eC_ E).code gf.pc = .ok (.multianewarray i 2, 4) := by rw [hgp]; exact hdg
    have hgoal : (F0 (eM_ E) (pc + 4) ls (.ref T.heap.size :: sv_ st)) = { gf with pc := gf.pc + 4, stack := .ref T.heap.size :: sv_ st } := by rw [← hgf]
    rw [hgoal] at hrest
    have Xh : At T gf.method (eC_ E) (eB_ E) := by rw [hgm]; exact X.here
    rw [← hgm] at hg₁
    jvm_step Xh [hexec, hdg']
    simp only [multianewarray.sem, wp_bind', W.resolveClassAt_links (State.method?_setTop gf X.here.top) hg₁]
    rw [W.popN, if_neg (by decide)]
    refine ⟨gf, State.topJava?_setTop' (s := T.setVm vm₁) gf X.here.top, [.int 4, .int 4], sv_ st, rfl, hstk, ?_⟩
    simp only [List.mapM_cons, List.mapM_nil, wp_bind', wp_pure']
    refine vy_wpTab (k := kA₁) (kc := kC₁) (comp := gA_ g 0) (cc := cc9) hkA₁ hkindA₁ hkC₁ hkindC₁ hl1 hh1 (by show T.heap.size + 5 ≤ _; exact hr1) (by show T.slotsUsed + 20 ≤ _; exact hr2) (fun d' acts' => ?_)
    have eS : ((T.setTop gf).setVm vm₁).setTop { gf with stack := sv_ st } = (T.setVm vm₁).setTop { gf with stack := sv_ st } := by
      show ((T.setVm vm₁).setTop gf).setTop _ = _
      rw [State.setTop_setTop]
    rw [eS, vy_fl_top]
    simp only [wp_bind', W.mark, W.pushRef, State.topJava?_setTop' _ XF.here.top, Option.some.injEq, exists_eq_left', State.setTop_setTop, State.heap_setTop]
    intro acts
    simp [jvm, XF.here.top]
    exact hrest
  obtain ⟨f1, f2, f3, f4⟩ := vy_fl_facts (T.setVm vm₁) (gA_ g 6) (gA_ g 0) 4
  have fo := fun (a : Addr) (ha : a < T.heap.size) => vy_fl_old (T.setVm vm₁) (gA_ g 6) (gA_ g 0) (a := a) ha 4
  have fi := fun (j : Nat) (hj : j < 4) => vy_fl_row (T.setVm vm₁) (gA_ g 6) (gA_ g 0) 4 j hj
  generalize hH1 : (vy_fl (T.setVm vm₁) (gA_ g 6) (gA_ g 0) 4).heap = H1 at f1 f2 fo fi
  have hTz : (T.setVm vm₁).heap.size = mz_ m := by show T.heap.size = _; rw [hT]; exact hR.1
  rw [hTz] at f1 f2
  have fo' : ∀ q, q < mz_ m → H1[q]? = H[q]? := fun q hq => by
    have := fo q (by rw [hT, hR.1]; exact hq)
    rw [this]; show T.heap[q]? = _; rw [hT]
  have fi' : ∀ j, j < 4 → H1[mz_ m + 1 + j]? = some (vy_ic (gA_ g 0)) := fun j hj => by
    have := fi j hj
    rw [hTz] at this
    exact this
  have hlow : ∀ q, mb_ m ≤ q → q < mz_ m → ∃ ce : Cell, H1[q]? = some ce ∧ ce.vm.isStatics = false := fun q g1 g2 => by
    rw [fo' q g2]
    exact hR.2.2.2.2.2.2.2 q (by rw [hR.2.1]; exact g1) g2
  have hmk : ∀ a, mk_ (mm_ m) a = if a = mz_ m + 4 then 200 else if a = mz_ m + 3 then 200 else if a = mz_ m + 2 then 200 else if a = mz_ m + 1 then 200 else if a = mz_ m then 206 else mk_ m a := fun a => rfl
  have hml : ∀ a, ml_ (mm_ m) a = if a = mz_ m + 4 then 4 else if a = mz_ m + 3 then 4 else if a = mz_ m + 2 then 4 else if a = mz_ m + 1 then 4 else if a = mz_ m then 4 else ml_ m a := fun a => rfl
  have hmi : ∀ a j, mi_ (mm_ m) a j = if a = mz_ m + 4 then 0 else if a = mz_ m + 3 then 0 else if a = mz_ m + 2 then 0 else if a = mz_ m + 1 then 0 else if a = mz_ m then 0 else mi_ m a j := fun a j => rfl
  have hmj : ∀ a j, mj_ (mm_ m) a j = if a = mz_ m + 4 then 0 else if a = mz_ m + 3 then 0 else if a = mz_ m + 2 then 0 else if a = mz_ m + 1 then 0 else if a = mz_ m then 0 else mj_ m a j := fun a j => rfl
  have hmr : ∀ a j, mr_ (mm_ m) a j = if a = mz_ m + 4 then none else if a = mz_ m + 3 then none else if a = mz_ m + 2 then none else if a = mz_ m + 1 then none else if a = mz_ m ∧ j = 3 then some (mz_ m + 4) else if a = mz_ m ∧ j = 2 then some (mz_ m + 3) else if a = mz_ m ∧ j = 1 then some (mz_ m + 2) else if a = mz_ m ∧ j = 0 then some (mz_ m + 1) else if a = mz_ m then none else mr_ m a j := fun a j => rfl
  have hin : ∀ j, j < 4 → ra_ g (mm_ m) H1 (mz_ m + 1 + j) := fun j hj => by
    have hk : mk_ (mm_ m) (mz_ m + 1 + j) = 200 + 0 := by
      rw [hmk]
      rcases show j = 0 ∨ j = 1 ∨ j = 2 ∨ j = 3 by omega with h | h | h | h <;> subst h <;> simp
    have hl4 : ml_ (mm_ m) (mz_ m + 1 + j) = 4 := by
      rw [hml]
      rcases show j = 0 ∨ j = 1 ∨ j = 2 ∨ j = 3 by omega with h | h | h | h <;> subst h <;> simp
    refine ra_arr (t := 0) (ty := .int) hk rfl ?_
    rw [fi' j hj, hl4]
    unfold vy_ic
    congr 2
    funext x
    show Value.int 0 = .int (mi_ (mm_ m) (mz_ m + 1 + j) x)
    rw [hmi]
    rcases show j = 0 ∨ j = 1 ∨ j = 2 ∨ j = 3 by omega with h | h | h | h <;> subst h <;> simp
  have hRp : Rp_ g (mm_ m) H1 := by
    obtain ⟨h1, h2, h3, h4, h5, h6', h7, h8⟩ := hR
    refine ⟨f1, h2, Nat.le_trans h3 (by show mz_ m ≤ mz_ m + 1 + 1 + 1 + 1 + 1; omega), fun a => ?_, fun a h => ?_, fun a => ?_, fun q hq => ?_, fun q g1 g2 => ?_⟩
    · by_cases ha : mz_ m < a ∧ a < mz_ m + 5
      · have := hin (a - (mz_ m + 1)) (by omega)
        rwa [show mz_ m + 1 + (a - (mz_ m + 1)) = a by omega] at this
      · by_cases he : a = mz_ m
        · subst he
          have hk : mk_ (mm_ m) (mz_ m) = 200 + 6 := by rw [hmk]; simp
          have hl4 : ml_ (mm_ m) (mz_ m) = 4 := by rw [hml]; simp
          refine ra_arr (t := 6) (ty := .array .int) hk rfl ?_
          rw [f2, hl4]
          have : vy_oc (gA_ g 6) (mz_ m) 4 = arrV (gA_ g 6) 4 (fun j => vt_ (.array .int) (mm_ m) (mz_ m) j) := by
            unfold vy_oc
            have hs : (arrV (gA_ g 6) 4 (fun j => if j < 4 then Value.ref (mz_ m + 1 + j) else .null)).slots = (arrV (gA_ g 6) 4 (fun j => vt_ (.array .int) (mm_ m) (mz_ m) j)).slots := by
              refine Array.ext_getElem? fun j => ?_
              by_cases hj : j < 4
              · rw [arrV_read _ _ hj, arrV_read _ _ hj, if_pos hj]
                show some (Value.ref _) = some (va_rf (mr_ (mm_ m) (mz_ m) j))
                rw [hmr]
                rcases show j = 0 ∨ j = 1 ∨ j = 2 ∨ j = 3 by omega with h | h | h | h <;> subst h <;> simp [va_rf]
              · rw [Array.getElem?_eq_none (by rw [arrV_size]; omega), Array.getElem?_eq_none (by rw [arrV_size]; omega)]
            unfold arrV at hs ⊢
            simp only at hs
            rw [hs]
          rw [this]
        · by_cases hlt : a < mz_ m
          · refine ra_kept (h4 a) (fo' a hlt) (by rw [hmk]; simp [show a ≠ mz_ m + 4 by omega, show a ≠ mz_ m + 3 by omega, show a ≠ mz_ m + 2 by omega, show a ≠ mz_ m + 1 by omega, he]) (by rw [hml]; simp [show a ≠ mz_ m + 4 by omega, show a ≠ mz_ m + 3 by omega, show a ≠ mz_ m + 2 by omega, show a ≠ mz_ m + 1 by omega, he]) (fun j => by rw [hmi]; simp [show a ≠ mz_ m + 4 by omega, show a ≠ mz_ m + 3 by omega, show a ≠ mz_ m + 2 by omega, show a ≠ mz_ m + 1 by omega, he]) (fun j => by rw [hmj]; simp [show a ≠ mz_ m + 4 by omega, show a ≠ mz_ m + 3 by omega, show a ≠ mz_ m + 2 by omega, show a ≠ mz_ m + 1 by omega, he]) (fun j => by rw [hmr]; simp [show a ≠ mz_ m + 4 by omega, show a ≠ mz_ m + 3 by omega, show a ≠ mz_ m + 2 by omega, show a ≠ mz_ m + 1 by omega, he])
          · have h0' : mk_ (mm_ m) a = 0 := by
              rw [hmk]; simp [show a ≠ mz_ m + 4 by omega, show a ≠ mz_ m + 3 by omega, show a ≠ mz_ m + 2 by omega, show a ≠ mz_ m + 1 by omega, he]
              exact h5 a (by omega)
            refine ⟨fun ci r e1 _ => ?_, fun t ty e1 _ => ?_, fun i _ e1 => ?_, fun i _ e1 => ?_⟩ <;> omega
    · have h' : mz_ m + 1 + 1 + 1 + 1 + 1 ≤ a := h
      rw [hmk]; simp [show a ≠ mz_ m + 4 by omega, show a ≠ mz_ m + 3 by omega, show a ≠ mz_ m + 2 by omega, show a ≠ mz_ m + 1 by omega, show a ≠ mz_ m by omega]
      exact h5 a (by omega)
    · show _ ∨ _ ∨ mb_ m ≤ a
      by_cases ha : mz_ m ≤ a
      · exact Or.inr (Or.inr (Nat.le_trans h3 ha))
      · rw [hmk]; simp [show a ≠ mz_ m + 4 by omega, show a ≠ mz_ m + 3 by omega, show a ≠ mz_ m + 2 by omega, show a ≠ mz_ m + 1 by omega, show a ≠ mz_ m by omega]
        exact h6' a
    · rw [fo' q (by omega)]; exact h7 q hq
    · have g2' : q < mz_ m + 1 + 1 + 1 + 1 + 1 := g2
      by_cases hq : q < mz_ m
      · exact hlow q (by rw [← h2]; exact g1) hq
      · by_cases he : q = mz_ m
        · subst he
          exact ⟨_, f2, rfl⟩
        · have := fi' (q - (mz_ m + 1)) (by omega)
          rw [show mz_ m + 1 + (q - (mz_ m + 1)) = q by omega] at this
          exact ⟨_, this, rfl⟩
  have hSn : va_S (fr_ g) (eS_ E).heap H1 locs := ⟨by have := hS.1; have := hR.1; omega, fun q g1 g2 => (fo' q (by have := hS.1; have := hR.1; omega)).trans (hS.2.1 q g1 g2), hS.2.2⟩
  obtain ⟨t, a1, b1⟩ := w H1 hRp hSn _ hH1 X1
  refine ⟨t, step t ?_, b1⟩
  have : T.heap.size = mz_ m := hTz
  rw [this]
  exact a1
end ROW
