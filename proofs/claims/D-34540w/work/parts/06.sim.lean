/-! THE MACHINE'S HEAP AS THE PURE MEMORY -/
def vt_ (ty : FieldType) (m : Mm) (a k : Nat) : Value := match ty with
  | .long => .long (mj_ m a k)
  | .object _ => va_rf (mr_ m a k)
  | .array _ => va_rf (mr_ m a k)
  | .float => defaultValue .float
  | .double => defaultValue .double
  | _ => .int (mi_ m a k)
/-- what the walk knows of the launch: the class numbers, the arrays' classes, the base and the heap below it, the opaque classes' fresh cells, the constants' addresses -/
abbrev GG : Type := va_G × (Nat → ClassId) × Nat × Heap × (Nat → Cell) × (Nat → Nat)
def gD_ (g : GG) : va_G := g.1
def gA_ (g : GG) : Nat → ClassId := g.2.1
def gB_ (g : GG) : Nat := g.2.2.1
def gH_ (g : GG) : Heap := g.2.2.2.1
def gX_ (g : GG) : Nat → Cell := g.2.2.2.2.1
def gE_ (g : GG) : Nat → Nat := g.2.2.2.2.2
/-- kinds that constants have too -/
def kc_ (k : Nat) : Bool := decide (400 ≤ k) || k == 27 || k == 28 || k == 29 || k == 204 || k == 207 || k == 208 || k == 202 || k == 200
def ra_ (g : GG) (m : Mm) (H : Heap) (a : Nat) : Prop :=
  (∀ (ci : Nat) (r : vw_C), mk_ m a = ci + 1 → clT[ci]? = some r → t_OB a ((gD_ g).1 ci) r.2.2 ((gD_ g).2 ci) H (fun k => vt_ (tyT ci k) m a k)) ∧
  (∀ (t : Nat) (ty : FieldType), mk_ m a = 200 + t → atT[t]? = some ty → H[a]? = some (arrV (gA_ g t) (ml_ m a) (fun j => vt_ ty m a j))) ∧
  (∀ i, i < 3 → mk_ m a = 300 + i → H[a]? = some (gX_ g i)) ∧
  (∀ i, i < 12 → mk_ m a = 400 + i → ∃ ce : Cell, H[a]? = some ce ∧ ce.vm.isStatics = false ∧ (i < 3 → ce.vm = .none) ∧ ce.cls = (gX_ g i).cls)
def Rp_ (g : GG) (m : Mm) (H : Heap) : Prop :=
  H.size = mz_ m ∧ gB_ g = mb_ m ∧ mb_ m ≤ mz_ m ∧ (∀ a, ra_ g m H a) ∧ (∀ a, mz_ m ≤ a → mk_ m a = 0) ∧ (∀ a, mk_ m a = 0 ∨ kc_ (mk_ m a) = true ∨ mb_ m ≤ a) ∧
  (∀ q, q < gB_ g → H[q]? = (gH_ g)[q]?) ∧ (∀ q, gB_ g ≤ q → q < mz_ m → ∃ ce : Cell, H[q]? = some ce ∧ ce.vm.isStatics = false)
theorem ra_kept {g : GG} {m m' : Mm} {H H' : Heap} {a : Nat} (h : ra_ g m H a) (hH : H'[a]? = H[a]?) (hk : mk_ m' a = mk_ m a) (hl : ml_ m' a = ml_ m a) (hi : ∀ k, mi_ m' a k = mi_ m a k) (hj : ∀ k, mj_ m' a k = mj_ m a k) (hr : ∀ k, mr_ m' a k = mr_ m a k) : ra_ g m' H' a := by
  have hv : ∀ ty k, vt_ ty m' a k = vt_ ty m a k := by
    intro ty k
    cases ty <;> simp [vt_, hi, hj, hr]
  obtain ⟨h1, h2, h3, h4⟩ := h
  refine ⟨fun ci r e c => ?_, fun t ty e c => ?_, fun i hi e => ?_, fun i hi e => ?_⟩
  · have := (h1 ci r (by rw [← hk]; exact e) c).kept hH
    exact this.to (fun k _ => (hv _ k).symm)
  · rw [hH, h2 t ty (by rw [← hk]; exact e) c, hl]
    congr 2
    funext j
    exact (hv ty j).symm
  · rw [hH]; exact h3 i hi (by rw [← hk]; exact e)
  · rw [hH]; exact h4 i hi (by rw [← hk]; exact e)
/-- what is known of the tables at a state -/
abbrev atL (g : GG) : List (ClassId × FieldType) := [(gA_ g 0, .int), (gA_ g 1, .boolean), (gA_ g 2, .byte), (gA_ g 3, .long), (gA_ g 4, .object "java/lang/Object"), (gA_ g 5, .object "MasterTree$Entry"), (gA_ g 6, .array .int), (gA_ g 7, .object "java/lang/Integer"), (gA_ g 8, .object "java/lang/Long")]
/-- words that don't ride in the lists -/
def nw_ok (w : Cond) : Bool := match w with
  | .fieldLinkNest _ _ _ _ _ _ => true
  | .methodLinkNest _ _ _ _ => true
  | .castable _ _ => true
  | .declares _ => true
  | _ => false
def nwL : List Cond := lw_tbl.filter nw_ok
/-- statics: their class, name, descriptor, value -/
abbrev SL_ : Type := List (String × String × String × Value)
def st_ (g : GG) : SL_ := [("java/util/ArrayList", "DEFAULTCAPACITY_EMPTY_ELEMENTDATA", "[Ljava/lang/Object;", .ref (gE_ g 0)), ("java/lang/String", "COMPACT_STRINGS", "Z", .int 1), ("java/lang/Integer", "DigitOnes", "[B", .ref (gE_ g 1)), ("java/lang/Integer", "DigitTens", "[B", .ref (gE_ g 2)), ("java/util/TreeMap", "UNBOUNDED", "Ljava/lang/Object;", .ref (gE_ g 3)), ("java/lang/Integer$IntegerCache", "high", "I", .int 127), ("java/lang/Integer$IntegerCache", "cache", "[Ljava/lang/Integer;", .ref (gE_ g 4)), ("java/lang/Long$LongCache", "cache", "[Ljava/lang/Long;", .ref (gE_ g 5)), ("MasterTree$Kind", "ADD", "LMasterTree$Kind;", .ref (gE_ g 6)), ("MasterTree$Kind", "VALUE", "LMasterTree$Kind;", .ref (gE_ g 7)), ("MasterTree$Kind", "REMOVE", "LMasterTree$Kind;", .ref (gE_ g 8)), ("MasterTree$Kind", "REPLACE", "LMasterTree$Kind;", .ref (gE_ g 9)), ("MasterTree$Kind", "NAME", "LMasterTree$Kind;", .ref (gE_ g 10)), ("MasterTree$Kind", "LINK", "LMasterTree$Kind;", .ref (gE_ g 11)), ("MasterTree$Kind", "RULE", "LMasterTree$Kind;", .ref (gE_ g 12)), ("MasterTree$Kind", "MOVE", "LMasterTree$Kind;", .ref (gE_ g 13)), ("MasterTree$Kind", "DELETE", "LMasterTree$Kind;", .ref (gE_ g 14))]
/-- selections of private methods by a subclass's object -/
def nwX : List Cond := [.selects "java/lang/StringBuilder" ⟨"java/lang/AbstractStringBuilder", "ensureCapacityInternal", "(I)V"⟩ ⟨"java/lang/AbstractStringBuilder", "ensureCapacityInternal", "(I)V"⟩, .selects "java/lang/StringBuilder" ⟨"java/lang/AbstractStringBuilder", "newCapacity", "(I)I"⟩ ⟨"java/lang/AbstractStringBuilder", "newCapacity", "(I)I"⟩, .selects "java/lang/StringBuilder" ⟨"java/lang/AbstractStringBuilder", "putStringAt", "(ILjava/lang/String;)V"⟩ ⟨"java/lang/AbstractStringBuilder", "putStringAt", "(ILjava/lang/String;)V"⟩, .selects "java/lang/StringBuilder" ⟨"java/lang/AbstractStringBuilder", "inflateIfNeededFor", "(Ljava/lang/String;)V"⟩ ⟨"java/lang/AbstractStringBuilder", "inflateIfNeededFor", "(Ljava/lang/String;)V"⟩]
theorem nx_good : ∀ w ∈ nwX, goodWord w = true := by decide +kernel
/-- the class of tables of numbers -/
def vy_A2 (U : State) : Prop := ∃ (d c : ClassId) (k : Class), U.vm.findClass "[I" = some d ∧ U.vm.findClass "[[I" = some c ∧ U.vm.classes[c]? = some k ∧ k.kind = .array d (.array .int)
theorem vy_A2.moved {u U : State} (hvm : u.vm.Alike U.vm) (h : vy_A2 u) : vy_A2 U := by
  obtain ⟨d, c, k, h1, h2, h3, h4⟩ := h
  obtain ⟨k', hk', he⟩ := hvm.2.2 _ _ h3
  exact ⟨d, c, k', by rw [hvm.findClass]; exact h1, by rw [hvm.findClass]; exact h2, hk', by rw [he]; exact h4⟩
/-- classes that aren't below others -/
def ncL : List (String × String) := [("java/lang/IndexOutOfBoundsException", "java/lang/IllegalArgumentException"), ("java/lang/IndexOutOfBoundsException", "java/lang/IllegalStateException"), ("java/lang/IllegalArgumentException", "java/lang/IndexOutOfBoundsException"), ("java/lang/IllegalArgumentException", "java/lang/IllegalStateException"), ("java/lang/IllegalStateException", "java/lang/IndexOutOfBoundsException"), ("java/lang/IllegalStateException", "java/lang/IllegalArgumentException"), ("java/util/TreeMap$AscendingSubMap", "java/util/TreeMap")]
def KN (g : GG) (U : State) : Prop :=
  va_K (gD_ g) clT (atL g) U ∧ (∀ w ∈ nwL, va_Nw w U) ∧ (∀ q ∈ fwL, va_Fw q.1 q.2.1 q.2.2 U) ∧ (va_AO "java/lang/Object" U ∧ va_AO "MasterTree$Entry" U) ∧ (∀ q ∈ st_ g, va_Z q.1 q.2.1 q.2.2.1 q.2.2.2 (fun a => gB_ g ≤ a) U (gH_ g)) ∧
  (∀ i, i < 12 → U.vm.findClass (xn_ i) = some (gX_ g i).cls) ∧ (∀ i, i < 3 → ∃ kX : Class, U.vm.classes[(gX_ g i).cls]? = some kX ∧ gX_ g i = blank (gX_ g i).cls kX) ∧ (∀ q ∈ skL, vk_R q.1 q.2.1 q.2.2.1 (gE_ g (100 + q.2.2.2)) U) ∧
  vx_Zq Bundle.tN "UNASSIGNED_STACK" Bundle.steD (fun a => gB_ g ≤ a) U (gH_ g) ∧ vx_Zq Bundle.tN "SUPPRESSED_SENTINEL" Bundle.listD (fun a => gB_ g ≤ a) U (gH_ g) ∧ va_Mi "[Ljava/lang/Object;" (gE_ g 99) U ∧ va_Dc U ∧ (∀ w ∈ nwX, va_Nw w U) ∧ (∀ q ∈ ncL, va_Nc q.1 q.2 U) ∧ vy_A2 U
theorem nw_warm {w : Cond} (hw : nw_ok w = true) {s U : State} (hW : s.WarmedH U.vm) (h : va_Nw w s) : va_Nw w U := match w, hw, h with
  | .fieldLinkNest _ _ _ _ _ _, _, h => va_Nw.warmF hW h
  | .methodLinkNest _ _ _ _, _, h => va_Nw.warmM hW h
  | .castable _ _, _, h => va_Nw.warmC hW h
  | .declares _, _, h => va_Nw.warmD hW h
theorem nw_tab {w : Cond} (hw : nw_ok w = true) : w.onTables = true := match w, hw with
  | .fieldLinkNest _ _ _ _ _ _, _ => rfl
  | .methodLinkNest _ _ _ _, _ => rfl
  | .castable _ _, _ => rfl
  | .declares _, _ => rfl
theorem KN.warm {g : GG} {s U : State} (hW : s.WarmedH U.vm) (h : KN g s) : KN g U := by
  obtain ⟨h1, h2, h3, h4, h5, h6, h7, h8, h9, h10, h11, h12, h13, h14, h15⟩ := h
  refine ⟨va_K.moved hW.alike h1, fun w hw => nw_warm (List.mem_filter.mp hw).2 hW (h2 w hw), fun q hq => va_Fw.moved (fwL_x q hq) hW.alike (h3 q hq), ⟨va_AO.moved hW.alike h4.1, va_AO.moved hW.alike h4.2⟩, fun q hq => va_Z.moved hW.alike (h5 q hq), fun i hi => ?_, fun i hi => ?_, fun q hq => vk_R.warm hW (h8 q hq), vx_Zq.moved hW.alike h9, vx_Zq.moved hW.alike h10, va_Mi.moved hW.alike h11, va_Dc.moved hW.alike h12, fun w hw => word_at hW (good_of_word (nx_good w hw)) (h13 w hw), fun q hq => va_Nc.moved hW.alike (h14 q hq), vy_A2.moved hW.alike h15⟩
  · rw [hW.alike.findClass]; exact h6 i hi
  · obtain ⟨k, e1, e2⟩ := h7 i hi
    obtain ⟨k', e3, e4⟩ := hW.alike.2.2 _ _ e1
    refine ⟨k', e3, ?_⟩
    rw [e4]
    exact e2
theorem KN.use {g : GG} {s : State} {w : Cond} (h : KN g s) (hw : w ∈ lw_tbl) (ok : nw_ok w = true) : va_Nw w s := h.2.1 w (List.mem_filter.mpr ⟨hw, ok⟩)
theorem va_Fw.same {C : String} {x y : MethodName} {u U : State} (e : u.vm = U.vm) (h : va_Fw C x y u) : va_Fw C x y U := by
  obtain ⟨h1, h2, h3, h4, h5⟩ := h
  exact ⟨va_tabs rfl e h1, va_tabs rfl e h2, va_tabs rfl e h3, va_tabs rfl e h4, va_tabs rfl e h5⟩
theorem KN.same {g : GG} {u U : State} (e : u.vm = U.vm) (h : KN g u) : KN g U := by
  obtain ⟨h1, h2, h3, h4, h5, h6, h7, h8, h9, h10, h11, h12, h13, h14, h15⟩ := h
  have hal : u.vm.Alike U.vm := by rw [e]; exact Vm.Alike.refl _
  refine ⟨va_K.moved hal h1, fun w hw => va_Nw.same (nw_tab (List.mem_filter.mp hw).2) e (h2 w hw), fun q hq => va_Fw.same e (h3 q hq), ⟨va_AO.moved hal h4.1, va_AO.moved hal h4.2⟩, fun q hq => va_Z.moved hal (h5 q hq), fun i hi => ?_, fun i hi => ?_, fun q hq => vk_R.same e.symm (h8 q hq), vx_Zq.moved hal h9, vx_Zq.moved hal h10, va_Mi.moved hal h11, va_Dc.moved hal h12, fun w hw => word_at (s := u) (by rw [← e]; exact State.WarmedH.refl u) (good_of_word (nx_good w hw)) (h13 w hw), fun q hq => va_Nc.moved hal (h14 q hq), vy_A2.moved hal h15⟩
  · rw [← e]; exact h6 i hi
  · rw [← e]; exact h7 i hi
/-! THE STEP RELATION: a run's result r, from a frame -/
abbrev Me_ : Type := Program × Env × Room × State × MethodId × Array Value × List Frame × Method × Code
def Wt_ (l : Launch) (E : Me_) (H : Heap) (locs : List Loc) (k n : Nat) (Q : State → Prop) (g : JFrame) : Prop := W E.1 l E.2.1 E.2.2.1 E.2.2.2.1 E.2.2.2.2.1 E.2.2.2.2.2.1 E.2.2.2.2.2.2.1 E.2.2.2.2.2.2.2.1 E.2.2.2.2.2.2.2.2 H locs k n Q g
abbrev Wx_ (l : Launch) (E : Me_) (H : Heap) (locs : List Loc) (k n : Nat) (Q : State → Prop) (g : JFrame) (q : Addr) : Prop := vx_W E.1 l E.2.1 E.2.2.1 E.2.2.2.1 E.2.2.2.2.1 E.2.2.2.2.2.1 E.2.2.2.2.2.2.1 E.2.2.2.2.2.2.2.1 E.2.2.2.2.2.2.2.2 H locs k n Q g q
abbrev eR_ (E : Me_) : Room := E.2.2.1
abbrev eS_ (E : Me_) : State := E.2.2.2.1
abbrev eM_ (E : Me_) : MethodId := E.2.2.2.2.1
abbrev eA_ (E : Me_) : Array Value := E.2.2.2.2.2.1
abbrev eB_ (E : Me_) : List Frame := E.2.2.2.2.2.2.1
abbrev eT_ (E : Me_) : Method := E.2.2.2.2.2.2.2.1
abbrev eC_ (E : Me_) : Code := E.2.2.2.2.2.2.2.2
/-- what holds all through a method's body -/
def Cx_ (l : Launch) (g : GG) (E : Me_) (own : String) (cc : ByteArray) (nL : Nat) (lvl : Nat) : Prop :=
  E.1.tables.exec = Jvm.exec ∧ (eC_ E).code = cc ∧ (eC_ E).maxLocals = nL ∧ (eS_ E).vm.findClass own = some (eM_ E).cls ∧ (∀ w ∈ lw_all, w.before (eA_ E) (eS_ E) = true) ∧ (eT_ E).locks = false ∧ KN g (eS_ E) ∧ (∃ m0, Rp_ g m0 (eS_ E).heap) ∧ l.stackTraces = false ∧ (eR_ E).frames = lvl ∧ (eR_ E).locals = 64 * lvl
/-- a body's end: an answer, or an exception by its class's number -/
abbrev Fn_ : Type := Option Value ⊕ Nat
abbrev fr_ (g : GG) : Nat → Prop := fun a => gB_ g ≤ a
def Qc_ (g : GG) (fn : Fn_) (m : Mm) : Array Value → State → Outcome → State → Prop := fun _ st o t => (∃ ov, fn = .inl ov ∧ o = .returned ov) ∧ Rp_ g m t.heap ∧ va_F (fr_ g) st t
def Xc_ (g : GG) (fn : Fn_) (m : Mm) : String → State → State → Prop := fun N st t => (∃ i, i < 3 ∧ fn = .inr i ∧ N = xn_ i) ∧ Rp_ g m t.heap ∧ va_F (fr_ g) st t
def Qf_ (g : GG) (E : Me_) (fn : Fn_) (m : Mm) (k n : Nat) : State → Prop := vx_MQ (eB_ E) (Qc_ g fn m) (Xc_ g fn m) (eA_ E) (eS_ E) k n (fr_ g)
/-- a typed value: a whole number, a long, a reference or null -/
abbrev TV : Type := Int32 ⊕ Int64 ⊕ Option Nat
abbrev vi_ (x : Int32) : TV := .inl x
abbrev vj_ (x : Int64) : TV := .inr (.inl x)
abbrev vr_ (x : Option Nat) : TV := .inr (.inr x)
def tv_ : TV → Value
  | .inl x => .int x
  | .inr (.inl x) => .long x
  | .inr (.inr r) => va_rf r
def tl_ : TV → Bool
  | .inr (.inl _) => true
  | _ => false
def lt_ (L : List (Nat × TV)) : List (Nat × Value) := L.map fun q => (q.1, tv_ q.2)
def sv_ (st : List TV) : List Value := st.map tv_
def Go_ (l : Launch) (g : GG) (E : Me_) (nL : Nat) (Q : State → Prop) (k n pc : Nat) (L : List (Nat × TV)) (st : List TV) (m : Mm) : Prop :=
  ∀ (H : Heap) (locs : List Loc) (ls : Array Slot), Rp_ g m H → va_S (fr_ g) (eS_ E).heap H locs → lv_has ls nL (lt_ L) → Wt_ l E H locs k n Q (F0 (eM_ E) pc ls (sv_ st))
def Sm_ {α : Type} (l : Launch) (g : GG) (E : Me_) (nL : Nat) (en : α → Fn_) (r : Rs α) (k n pc : Nat) (L : List (Nat × TV)) (st : List TV) (m : Mm) : Prop :=
  ∀ (v : α) (m' : Mm) (k' n' : Nat), r = some (v, m', k', n') → k + k' ≤ (eR_ E).cells → n + n' ≤ (eR_ E).slots → Go_ l g E nL (Qf_ g E (en v) m' (k + k') (n + n')) k n pc L st m
/-- a contract: from the memory m with the arguments av the method ends with fn and m' -/
def Ct_ (l : Launch) (g : GG) (y : MethodName) (ws : List Cond) (lvl : Nat) (av : List TV) (m : Mm) (fn : Fn_) (m' : Mm) (k n : Nat) : Prop :=
  vx_Met l y ws { frames := lvl, cells := k, slots := n, locals := 64 * lvl } (fun a U => a = (sv_ av).toArray ∧ KN g U ∧ Rp_ g m U.heap) (Qc_ g fn m') (Xc_ g fn m') k n (fr_ g)
/-! locals -/
def pk_ (L : List (Nat × TV)) (ks : List Nat) : List (Nat × TV) := ks.filterMap (fun k => L[k]?)
theorem tv_cat (v : TV) : (tv_ v).category = if tl_ v then 2 else 1 := by
  rcases v with x | x | r
  · rfl
  · rfl
  · cases r <;> rfl
theorem lt_at {ls : Array Slot} {nL : Nat} {L : List (Nat × TV)} (h : lv_has ls nL (lt_ L)) {p j : Nat} {v : TV} (hk : L[p]? = some (j, v)) : ls[j]? = some (.val (tv_ v)) := by
  refine lv_at h p ?_
  rw [lt_, List.getElem?_map, hk]
  rfl
theorem lt_sub {ls : Array Slot} {nL : Nat} {L L' : List (Nat × TV)} (h : lv_has ls nL (lt_ L)) (ks : List Nat) (hl : pk_ L ks = L') : lv_has ls nL (lt_ L') := by
  refine ⟨h.1, h.2.1, fun q hq => ?_⟩
  subst hl
  obtain ⟨x, hx, rfl⟩ := List.mem_map.mp hq
  obtain ⟨k, -, hk⟩ := List.mem_filterMap.mp hx
  exact h.2.2 _ (List.mem_map.mpr ⟨x, List.mem_of_getElem? hk, rfl⟩)
/-- what stays when the place i (of one slot, or with the next one) is written -/
def so1_ (L : List (Nat × TV)) (i : Nat) (ks : List Nat) : Bool := ks.all fun k => match L[k]? with
  | some q => !(Nat.beq q.1 i) && (!(Nat.beq (q.1 + 1) i) || !(tl_ q.2))
  | none => true
def so2_ (L : List (Nat × TV)) (i : Nat) (ks : List Nat) : Bool := ks.all fun k => match L[k]? with
  | some q => !(Nat.beq q.1 i) && (!(Nat.beq q.1 (i + 1)) && (!(Nat.beq (q.1 + 1) i) || !(tl_ q.2)))
  | none => true
theorem lt_st1 {ls : Array Slot} {nL : Nat} {L L' : List (Nat × TV)} {i : Nat} {v : TV} (h : lv_has ls nL (((i, tv_ v) :: (lt_ L).filter (fun q => !(q.1 == i) && !(q.1 + 1 == i && q.2.category == 2))))) (ks : List Nat) (ok : so1_ L i ks = true) (hl : (i, v) :: pk_ L ks = L') : lv_has ls nL (lt_ L') := by
  refine ⟨h.1, h.2.1, fun q hq => ?_⟩
  subst hl
  obtain ⟨x, hx, rfl⟩ := List.mem_map.mp hq
  rcases List.mem_cons.mp hx with rfl | hx
  · exact h.2.2 _ List.mem_cons_self
  · obtain ⟨k, hk0, hk⟩ := List.mem_filterMap.mp hx
    have ok := List.all_eq_true.mp ok k hk0
    rw [hk] at ok
    refine h.2.2 _ (List.mem_cons_of_mem _ (List.mem_filter.mpr ⟨List.mem_map.mpr ⟨x, List.mem_of_getElem? hk, rfl⟩, ?_⟩))
    simp only [Nat.beq_eq, Bool.and_eq_true, Bool.not_eq_true', Bool.or_eq_true] at ok
    have h1 : ¬ x.1 = i := fun e => by have := ok.1; rw [e] at this; simp at this
    have h2 : x.1 + 1 = i → tl_ x.2 = false := fun e => by
      rcases ok.2 with o | o
      · rw [e] at o; simp at o
      · exact o
    by_cases e : x.1 + 1 = i
    · simp [h1, e, tv_cat, h2 e]
    · simp [h1, e]
theorem lt_st2 {ls : Array Slot} {nL : Nat} {L L' : List (Nat × TV)} {i : Nat} {v : TV} (h : lv_has ls nL (((i, tv_ v) :: (lt_ L).filter (fun q => !(q.1 == i) && (!(q.1 == i + 1) && !(q.1 + 1 == i && q.2.category == 2)))))) (ks : List Nat) (ok : so2_ L i ks = true) (hl : (i, v) :: pk_ L ks = L') : lv_has ls nL (lt_ L') := by
  refine ⟨h.1, h.2.1, fun q hq => ?_⟩
  subst hl
  obtain ⟨x, hx, rfl⟩ := List.mem_map.mp hq
  rcases List.mem_cons.mp hx with rfl | hx
  · exact h.2.2 _ List.mem_cons_self
  · obtain ⟨k, hk0, hk⟩ := List.mem_filterMap.mp hx
    have ok := List.all_eq_true.mp ok k hk0
    rw [hk] at ok
    refine h.2.2 _ (List.mem_cons_of_mem _ (List.mem_filter.mpr ⟨List.mem_map.mpr ⟨x, List.mem_of_getElem? hk, rfl⟩, ?_⟩))
    simp only [Bool.and_eq_true, Bool.not_eq_true', Bool.or_eq_true] at ok
    have h1 : ¬ x.1 = i := fun e => by have := ok.1; rw [e] at this; simp at this
    have h3 : ¬ x.1 = i + 1 := fun e => by have := ok.2.1; rw [e] at this; simp at this
    have h2 : x.1 + 1 = i → tl_ x.2 = false := fun e => by
      rcases ok.2.2 with o | o
      · rw [e] at o; simp at o
      · exact o
    by_cases e : x.1 + 1 = i
    · simp [h1, h3, e, tv_cat, h2 e]
    · simp [h1, h3, e]
def la_ : Nat → List TV → List (Nat × TV)
  | _, [] => []
  | i, v :: vs => (i, v) :: la_ (if tl_ v then i + 2 else i + 1) vs
theorem la_args : ∀ (vs : List TV) (i : Nat), lv_args i (sv_ vs) = lt_ (la_ i vs)
  | [], _ => rfl
  | v :: vs, i => by
    show (i, tv_ v) :: lv_args (if (tv_ v).category = 2 then i + 2 else i + 1) (sv_ vs) = (i, tv_ v) :: lt_ (la_ (if tl_ v then i + 2 else i + 1) vs)
    rw [tv_cat]
    cases h : tl_ v <;> simp [la_args]
def ls_ : List TV → Nat
  | [] => 0
  | v :: vs => (if tl_ v then 2 else 1) + ls_ vs
theorem ls_len : ∀ (vs : List TV), (lg_sl (sv_ vs)).length = ls_ vs
  | [] => rfl
  | v :: vs => by
    show (lg_sl (tv_ v :: sv_ vs)).length = _
    have h : lg_sl (tv_ v :: sv_ vs) = (if (tv_ v).category = 2 then [.val (tv_ v), .second] else [.val (tv_ v)]) ++ lg_sl (sv_ vs) := by simp [lg_sl]
    rw [h, List.length_append, ls_len vs, tv_cat]
    cases h : tl_ v <;> simp [ls_, h]
/-- a contract out of the body's walk -/
theorem Ct_of {α : Type} {l : Launch} {g : GG} {y : MethodName} {lvl : Nat} {av : List TV} {m : Mm} {cc : ByteArray} {maxL : Nat} {ret : Option FieldType} {own : String} {en : α → Fn_} {r : Rs α}
    (hy : plainName y.cls = true) (ho : y.cls = own) (hst : l.stackTraces = false) (hn : ls_ av ≤ maxL) {L0 : List (Nat × TV)} (hL : la_ 0 av = L0)
    (body : ∀ E : Me_, Cx_ l g E own cc maxL lvl → (eT_ E).sig.returnType = ret → (∀ x ∈ (eC_ E).exceptionTable.toList, False) → ((eT_ E).name = y.name) → Sm_ l g E maxL en r 0 0 0 L0 [] m) :
    ∀ (v : α) (m' : Mm) (k n : Nat), r = some (v, m', k, n) → Ct_ l g y (ws_ y cc maxL ret) lvl av m (en v) m' k n := by
  intro v m' k n hr
  refine vx_ofW (cc := cc) (maxL := maxL) (ret := ret) (by exact hy) rfl ?_
  intro p e s mi args below meth c s₁ B hml hx hv
  obtain ⟨rfl, hK, hR⟩ := hv
  have hts := atoms_spec B.pre
  have hts : ∀ w ∈ lw_all, w.before (sv_ av).toArray s = true := fun w h => hts w (List.mem_cons_of_mem _ h)
  have hown : s.vm.findClass own = some mi.cls := by rw [← ho]; exact findClass_of_methodNamed B.named
  have hl := lv_entry (sv_ av) (n := maxL) (by rw [ls_len]; exact hn)
  rw [lg_entry_eq]
  generalize (lg_sl (sv_ av) ++ List.replicate (maxL - (lg_sl (sv_ av)).length) Slot.unset).toArray = ls at hl ⊢
  rw [la_args, hL] at hl
  have hb := body (p, e, ({ frames := lvl, cells := k, slots := n, locals := 64 * lvl } : Room), s, mi, (sv_ av).toArray, below, meth, c) ⟨B.exec, B.bytes, hml, hown, hts, B.notSynchronized, hK, ⟨m, hR⟩, hst, rfl, rfl⟩ B.returns hx (name_of_methodNamed B.named B.method).1 v m' k n hr (by show 0 + k ≤ k; omega) (by show 0 + n ≤ n; omega) s.heap [] ls hR va_S.rf hl
  rw [Nat.zero_add, Nat.zero_add] at hb
  exact hb
theorem Sm_step {α : Type} {l : Launch} {g : GG} {E : Me_} {nL : Nat} {en : α → Fn_} {r : Rs α} {k n pc pc' : Nat} {L L' : List (Nat × TV)} {st st' : List TV} {m : Mm}
    (h : ∀ (H : Heap) (locs : List Loc) (ls : Array Slot) (Q : State → Prop), Rp_ g m H → va_S (fr_ g) (eS_ E).heap H locs → lv_has ls nL (lt_ L) → (∀ ls', lv_has ls' nL (lt_ L') → Wt_ l E H locs k n Q (F0 (eM_ E) pc' ls' (sv_ st'))) → Wt_ l E H locs k n Q (F0 (eM_ E) pc ls (sv_ st)))
    (kk : Sm_ l g E nL en r k n pc' L' st' m) : Sm_ l g E nL en r k n pc L st m :=
  fun v m' k' n' hr h1 h2 H locs ls hR hS hl => h H locs ls _ hR hS hl (fun ls' hl' => kk v m' k' n' hr h1 h2 H locs ls' hR hS hl')
theorem Sm_go {α : Type} {l : Launch} {g : GG} {E : Me_} {nL : Nat} {en : α → Fn_} {r : Rs α} {k n pc pc' : Nat} {L L' : List (Nat × TV)} {st st' : List TV} {m : Mm} (kk : Sm_ l g E nL en r k n pc' L' st' m)
    (h : ∀ (H : Heap) (locs : List Loc) (ls : Array Slot) (Q : State → Prop), Rp_ g m H → va_S (fr_ g) (eS_ E).heap H locs → lv_has ls nL (lt_ L) → (∀ ls', lv_has ls' nL (lt_ L') → Wt_ l E H locs k n Q (F0 (eM_ E) pc' ls' (sv_ st'))) → Wt_ l E H locs k n Q (F0 (eM_ E) pc ls (sv_ st))) : Sm_ l g E nL en r k n pc L st m := Sm_step h kk
theorem Sm_sub {α : Type} {l : Launch} {g : GG} {E : Me_} {nL : Nat} {en : α → Fn_} {r : Rs α} {k n pc : Nat} {L L' : List (Nat × TV)} {st : List TV} {m : Mm} (ks : List Nat) (hl : pk_ L ks = L') (kk : Sm_ l g E nL en r k n pc L' st m) : Sm_ l g E nL en r k n pc L st m :=
  Sm_step (fun _ _ ls _ _ _ h w => w ls (lt_sub h ks hl)) kk
theorem Sm_none {α : Type} {l : Launch} {g : GG} {E : Me_} {nL : Nat} {en : α → Fn_} {k n pc : Nat} {L : List (Nat × TV)} {st : List TV} {m : Mm} : Sm_ l g E nL en (none : Rs α) k n pc L st m := fun v m' k' n' hr => by cases hr
