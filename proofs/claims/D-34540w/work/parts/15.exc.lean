section VYK
variable {p : Program} {l : Launch} {e : Env} {R : Room} {s : State} {m₀ : MethodId} {args : Array Value} {below : List Frame} {meth : Method} {c : Code} {W : State} {locs : List Loc} {cells slots : Nat}
set_option maxHeartbeats 1000000 in
theorem vy_ctorMadeS (X : Stand p l e R s m₀ args below meth c W locs cells slots) (hexec : p.tables.exec = Jvm.exec) (htr : e.platform.stackTraces = false) {own cls : String} {names : List String} {ic : Nat}
    (hown : s.vm.findClass own = some m₀.cls) (hcls : Bundle.fit cls = true) (hnames : ∀ n ∈ names, Bundle.fit n = true)
    (h : ∀ a ∈ Bundle.ownAtoms own ic cls names, a.before args s = true)
    (hlocs : ∀ x ∈ locs, ∀ cell, s.heap[x.base]? = some cell → cell.vm.isStatics = false)
    {a : Addr} {cX : ClassId} {kX : Class} (hfoundX : s.vm.findClass cls = some cX) (hkX : s.vm.classes[cX]? = some kX) (hcell : W.heap[a]? = some (freshCell cX kX)) (hnew : s.heap.size ≤ a)
    {msg : Value} (hmsg : msg.isRef = true)
    {g : JFrame} (hg : g.method = m₀) (hsize : g.locals.size = c.maxLocals) {rest : List Value} (hstack : g.stack = msg :: .ref a :: .ref a :: rest)
    (hd6 : decode c.code g.pc = .ok (.invokespecial ic, 3))
    (hRframes : names.length + 3 < R.frames) (hRlocals : 2 * g.monitorRoom + ((Value.ref a :: rest).map fun v => v.category).sum + (13 * (names.length + 1) + 42) ≤ R.locals) :
    ∃ (V : State) (ce : Cell) (L : List Loc), Stand p l e R s m₀ args below meth c (V.setCell a ce) (locs ++ L) cells slots ∧ (∀ y ∈ L, y.base = a) ∧ V.heap = W.heap ∧ a < V.heap.size ∧ ce.cls = cX ∧ ce.vm = .none ∧
      ∀ target, Steps p.tables e below ((V.setCell a ce).setTop { g with stack := .ref a :: rest, pc := g.pc + 3 }) target → Steps p.tables e below (W.setTop g) target := by
  have howns : e.platform.frameOwnsMonitors = true := by rw [X.admits.platform]
  have hfin : e.platform.finalization = false := by rw [X.admits.platform]
  have hpl : e.platform.magicAccessors = ({} : Platform).magicAccessors := by rw [X.admits.platform]
  have a' : ∀ x, x ∈ Bundle.ownAtoms own ic cls names → x.holds args s none s [] = true := fun x hx => h x hx
  obtain ⟨T, Z0, L, -, Y⟩ := ThrowableC.of_atoms (args := args) howns hfin hpl (fun x hx => h x (by simp [Bundle.ownAtoms, hx]))
  obtain ⟨Z, M, LZ, LM, hnZ⟩ := Init0T.ofS_atoms (args := args) hpl L Y (fun x hx => h x (by simp [Bundle.ownAtoms, hx]))
  obtain ⟨P1, Ps, hlen, L1, hL, hP1m, hlink1, hlink⟩ := Bundle.chainS (args := args) hpl hnZ names cls hcls hnames (fun x hx => h x (by simp [Bundle.ownAtoms, hx]))
  have hfound : s.vm.findClass cls = some P1.m.cls := findClass_of_methodNamed hP1m
  cases Option.some.inj (hfoundX.symm.trans hfound)
  obtain ⟨c1, kX', hc1, hk, hord, -, -, hn6⟩ := Cond.instantiable_spec (a' (.instantiable cls 6) (by simp [Bundle.ownAtoms]))
  cases Option.some.inj (hc1.symm.trans hfound)
  cases Option.some.inj (hkX.symm.trans hk)
  have hsel0 : selectMethod e.platform s.vm P1.m.cls T.fill0 = .method T.fill0 := by
    obtain ⟨c2, r2, m2, q1, q2, q3, q4, -⟩ := Cond.selects_spec (a' (.selects cls Bundle.tFill0 Bundle.tFill0) (by simp [Bundle.ownAtoms]))
    cases Option.some.inj (q1.symm.trans hfound)
    cases Option.some.inj (q2.symm.trans (State.methodFound?_of_named Y.fill0 (by decide)))
    cases Option.some.inj (q3.symm.trans Y.fill0)
    rw [Launch.admits_selectMethod X.admits]; exact q4
  have hselF : selectMethod e.platform s.vm P1.m.cls T.fill = .method T.fill := by
    obtain ⟨c2, r2, m2, q1, q2, q3, q4, -⟩ := Cond.selects_spec (a' (.selects cls Bundle.tFill Bundle.tFill) (by simp [Bundle.ownAtoms]))
    cases Option.some.inj (q1.symm.trans hfound)
    cases Option.some.inj (q2.symm.trans (State.methodFound?_of_named Y.fill (by decide)))
    cases Option.some.inj (q3.symm.trans Y.fill)
    rw [Launch.admits_selectMethod X.admits]; exact q4
  obtain ⟨cellS0, hcS0, hiss⟩ := Y.statics
  obtain ⟨u0, hu0⟩ := Cond.staticRefV Y.unassigned L.unassignedStatic L.statics hcS0 hiss (a' (.isRef (.static Bundle.tN "UNASSIGNED_STACK" Bundle.steD)) (by simp [Bundle.ownAtoms]))
  obtain ⟨sen, hsen⟩ := Cond.staticRefV Y.sentinel L.sentinelStatic L.statics hcS0 hiss (a' (.isRef (.static Bundle.tN "SUPPRESSED_SENTINEL" Bundle.listD)) (by simp [Bundle.ownAtoms]))
  obtain ⟨ci198, i198, fB, hk198, hg198, ha198, hsB, -, hnB, htB, hffB⟩ := Cond.ownField (t := .object "java/lang/Object") Y.found L.cls (by decide +kernel) (a' (.fieldLink Bundle.tN 198 Bundle.tN "backtrace" "Ljava/lang/Object;") (by simp [Bundle.ownAtoms])) (a' (.lays Bundle.tN Bundle.tN "backtrace" "Ljava/lang/Object;") (by simp [Bundle.ownAtoms])) e.platform hpl
  obtain ⟨cellS, hcS', heS, -, hkeep⟩ := X.same.2.2.2.2.2 T.aS cellS0 hcS0
  have hcellS : W.heap[T.aS]? = some cellS := hcS'
  have hout' : ∀ i, (⟨T.aS, i⟩ : Loc) ∉ locs := fun i hmem => by
    have := hlocs _ hmem cellS0 hcS0
    rw [hiss] at this; cases this
  have hknownS : cellS.vm ≠ .unknown := by
    rw [heS]; intro hu
    rw [show cellS0.vm = .unknown from hu] at hiss
    cases hiss
  have hneS : T.aS ≠ a := Nat.ne_of_lt (Nat.lt_of_lt_of_le (Array.getElem?_eq_some_iff.mp hcS0).1 hnew)
  obtain ⟨iM, hffM⟩ := Y.msg
  obtain ⟨tyC, dC, hdC, hdnC⟩ := Cond.laysAt hfound hk Y.cause (a' (.lays cls Bundle.tN "cause" "Ljava/lang/Throwable;") (by simp [Bundle.ownAtoms]))
  obtain ⟨tyS, dS, hdS, hdnS⟩ := Cond.laysAt hfound hk Y.stack (a' (.lays cls Bundle.tN "stackTrace" Bundle.steD) (by simp [Bundle.ownAtoms]))
  obtain ⟨tyP, dP, hdP, hdnP⟩ := Cond.laysAt hfound hk Y.supp (a' (.lays cls Bundle.tN "suppressedExceptions" Bundle.listD) (by simp [Bundle.ownAtoms]))
  obtain ⟨tyM, dM, hdM, hdnM⟩ := Cond.laysAt hfound hk hffM (a' (.lays cls Bundle.tN "detailMessage" "Ljava/lang/String;") (by simp [Bundle.ownAtoms]))
  obtain ⟨tyB, dB, hdB, hdnB⟩ := Cond.laysAt hfound hk hffB (a' (.lays cls Bundle.tN "backtrace" "Ljava/lang/Object;") (by simp [Bundle.ownAtoms]))
  have bC := Cond.laysApart hdB hdC hdnB hdnC (by rw [hnB, Y.causeName]; decide)
  have bS := Cond.laysApart hdB hdS hdnB hdnS (by rw [hnB, Y.stackName]; decide)
  have bP := Cond.laysApart hdB hdP hdnB hdnP (by rw [hnB, Y.suppName]; decide)
  have hskip : SkipFacts T e.platform s (fun u => u) u0 ((preparedCellV T.toThrowableT (freshCell P1.m.cls kX) a u0 sen).withEntry W.cur) :=
    ⟨{ ci198 := ci198, i198 := i198, fBack := fB }, ⟨hk198, hg198, ha198, hsB⟩, by
      have := fresh_default (c := P1.m.cls) tyB
      rw [htB] at this
      simpa [preparedCellV, Cell.setSlot, Cell.withEntry, Array.getElem?_setIfInBounds, bC, bS, bP, bC.symm, bS.symm, bP.symm, defaultValue] using this, fun _ _ => rfl⟩
  obtain ⟨tm, methC, cdC, kC, vm₁, hnC, -, -, -, -, -, -, -, hW₁, st1⟩ := Steps.initColdS (tb := p.tables) (e := e) (below := below) (s := s) (U := W) X.here hexec X.warmed hpl hown (t := Bundle.initS cls) rfl rfl (Bundle.fit_spec hcls).2
    (a' (.methodLink own ic (Bundle.initS cls)) (by simp [Bundle.ownAtoms])) (h (.instanceMethod (Bundle.initS cls)) (by cases names <;> simp [Bundle.ownAtoms, Bundle.chainSAtoms, Bundle.passSAtoms])) (bytes := Bundle.six) (maxL := 2) (h (.code (Bundle.initS cls) Bundle.six 2 none) (by cases names <;> simp [Bundle.ownAtoms, Bundle.chainSAtoms, Bundle.passSAtoms]))
    (f := g) hg (a := a) (msg := msg) (rest := .ref a :: rest) hstack hd6
  cases Option.some.inj (hnC.symm.trans hP1m)
  have X₁ := X.noted hW₁
  obtain ⟨vm₂, X₂, st2⟩ := X₁.ctorMessageOffV hexec (g := { g with stack := .ref a :: rest }) hg hsize T L Z LZ M LM (P1 :: Ps)
    (fun P hP => by rcases List.mem_cons.mp hP with rfl | hP; exact L1; exact hL P hP) ⟨hlink1, hlink⟩ (u0 := u0) (sen := sen) (self := a) hmsg (cell := freshCell P1.m.cls kX) (cellS := cellS)
    hcell (fun _ => by simp) (by simp) rfl rfl hsel0 hselF hcellS hneS hknownS (by rw [hkeep _ (hout' _)]; exact hu0) (by rw [hkeep _ (hout' _)]; exact hsen)
    (Takes.of_laid hk hord tyC (by rw [Y.causeType]; rfl)) (Takes.of_laid hk hord tyS (by rw [Y.stackType]; exact fits_refV_array _ u0)) (Takes.of_laid hk hord tyP (by rw [Y.suppType]; exact fits_refV_object _ sen))
    (Takes.of_laid hk hord tyM (by rw [Y.msgType]; exact fits_refV_object _ ⟨msg, hmsg⟩)) Y.objLocals hskip htr [] hd6
    (by simp only [List.length_cons, hlen]; omega) (by simp only [List.length_cons, hlen]; exact hRlocals)
  have hlt : a < ((W.setVm vm₁).setVm vm₂).heap.size := (Array.getElem?_eq_some_iff.mp hcell).1
  refine ⟨(W.setVm vm₁).setVm vm₂, _, _, X₂, fun y hy => ?_, rfl, hlt, rfl, rfl, fun target hwalk => st1 _ (fun acts => ?_)⟩
  · simp only [List.mem_cons, List.not_mem_nil, or_false] at hy
    rcases hy with rfl | rfl | rfl | rfl | rfl <;> rfl
  · rw [doInvoke_state]
    exact st2 _ hwalk
end VYK
theorem xo_0 {g : GG} {args : Array Value} {s : State} {own : String} {ic : Nat} (hts : ∀ w ∈ lw_all, w.before args s = true) (hK : KN g s) (hU : (Cond.isRef (.static Bundle.tN "UNASSIGNED_STACK" Bundle.steD)).before args s = true) (hN : (Cond.isRef (.static Bundle.tN "SUPPRESSED_SENTINEL" Bundle.listD)).before args s = true) (lU : (Cond.laysStatic Bundle.tN "UNASSIGNED_STACK" Bundle.steD).before args s = true) (lN : (Cond.laysStatic Bundle.tN "SUPPRESSED_SENTINEL" Bundle.listD).before args s = true) (q1 : (Cond.methodLink own ic (Bundle.initS "java/lang/IndexOutOfBoundsException")).before args s = true) : ∀ w ∈ Bundle.ownAtoms own ic "java/lang/IndexOutOfBoundsException" ["java/lang/RuntimeException", "java/lang/Exception"], w.before args s = true :=
  vx_c (hts _ q94) (vx_c (hts _ q535) (vx_c (hts _ q544) (vx_c (hts _ q550) (vx_c (hts _ q553) (vx_c (hts _ q555) (vx_c (hts _ q536) (vx_c (hts _ q537) (vx_c (hts _ q152) (vx_c (hts _ q153) (vx_c (hts _ q538) (vx_c (hts _ q543) (vx_c (hts _ q551) (vx_c (hts _ q570) (vx_c (hts _ q525) (vx_c (hts _ q571) (vx_c (hts _ q527) (vx_c (hts _ q572) (vx_c (hts _ q529) (vx_c (hts _ q539) (vx_c lU (vx_c (hts _ q541) (vx_c lN (vx_c (hts _ q531) (vx_c (hts _ q566) (vx_c (hts _ q567) (vx_c (hts _ q569) (vx_c (hts _ q531) (vx_c (hts _ q605) (vx_c (hts _ q606) (vx_c (hts _ q607) (vx_c (hts _ q560) (vx_c (va_Nw.use rfl (KN.use hK q517 rfl)) (vx_c (hts _ q560) (vx_c (hts _ q561) (vx_c (hts _ q562) (vx_c (hts _ q563) (vx_c (va_Nw.use rfl (KN.use hK q519 rfl)) (vx_c (hts _ q563) (vx_c (hts _ q564) (vx_c (hts _ q565) (vx_c (hts _ q566) (vx_c (va_Nw.use rfl (KN.use hK q521 rfl)) (vx_c q1 (vx_c (hts _ q637) (vx_c (va_Nw.use rfl (KN.use hK q638 rfl)) (vx_c (hts _ q639) (vx_c (hts _ q548) (vx_c (hts _ q640) (vx_c (hts _ q641) (vx_c (hts _ q642) (vx_c (hts _ q643) (vx_c hU (vx_c hN (vx_c (hts _ q534) (vx_c (hts _ q533) (vx_c (hts _ q644) (vx_n)))))))))))))))))))))))))))))))))))))))))))))))))))))))))
theorem xo_1 {g : GG} {args : Array Value} {s : State} {own : String} {ic : Nat} (hts : ∀ w ∈ lw_all, w.before args s = true) (hK : KN g s) (hU : (Cond.isRef (.static Bundle.tN "UNASSIGNED_STACK" Bundle.steD)).before args s = true) (hN : (Cond.isRef (.static Bundle.tN "SUPPRESSED_SENTINEL" Bundle.listD)).before args s = true) (lU : (Cond.laysStatic Bundle.tN "UNASSIGNED_STACK" Bundle.steD).before args s = true) (lN : (Cond.laysStatic Bundle.tN "SUPPRESSED_SENTINEL" Bundle.listD).before args s = true) (q1 : (Cond.methodLink own ic (Bundle.initS "java/lang/IllegalArgumentException")).before args s = true) : ∀ w ∈ Bundle.ownAtoms own ic "java/lang/IllegalArgumentException" ["java/lang/RuntimeException", "java/lang/Exception"], w.before args s = true :=
  vx_c (hts _ q94) (vx_c (hts _ q535) (vx_c (hts _ q544) (vx_c (hts _ q550) (vx_c (hts _ q553) (vx_c (hts _ q555) (vx_c (hts _ q536) (vx_c (hts _ q537) (vx_c (hts _ q152) (vx_c (hts _ q153) (vx_c (hts _ q538) (vx_c (hts _ q543) (vx_c (hts _ q551) (vx_c (hts _ q570) (vx_c (hts _ q525) (vx_c (hts _ q571) (vx_c (hts _ q527) (vx_c (hts _ q572) (vx_c (hts _ q529) (vx_c (hts _ q539) (vx_c lU (vx_c (hts _ q541) (vx_c lN (vx_c (hts _ q531) (vx_c (hts _ q566) (vx_c (hts _ q567) (vx_c (hts _ q569) (vx_c (hts _ q531) (vx_c (hts _ q859) (vx_c (hts _ q860) (vx_c (hts _ q861) (vx_c (hts _ q560) (vx_c (va_Nw.use rfl (KN.use hK q517 rfl)) (vx_c (hts _ q560) (vx_c (hts _ q561) (vx_c (hts _ q562) (vx_c (hts _ q563) (vx_c (va_Nw.use rfl (KN.use hK q519 rfl)) (vx_c (hts _ q563) (vx_c (hts _ q564) (vx_c (hts _ q565) (vx_c (hts _ q566) (vx_c (va_Nw.use rfl (KN.use hK q521 rfl)) (vx_c q1 (vx_c (hts _ q844) (vx_c (va_Nw.use rfl (KN.use hK q845 rfl)) (vx_c (hts _ q846) (vx_c (hts _ q547) (vx_c (hts _ q847) (vx_c (hts _ q848) (vx_c (hts _ q849) (vx_c (hts _ q850) (vx_c hU (vx_c hN (vx_c (hts _ q534) (vx_c (hts _ q533) (vx_c (hts _ q851) (vx_n)))))))))))))))))))))))))))))))))))))))))))))))))))))))))
theorem xo_2 {g : GG} {args : Array Value} {s : State} {own : String} {ic : Nat} (hts : ∀ w ∈ lw_all, w.before args s = true) (hK : KN g s) (hU : (Cond.isRef (.static Bundle.tN "UNASSIGNED_STACK" Bundle.steD)).before args s = true) (hN : (Cond.isRef (.static Bundle.tN "SUPPRESSED_SENTINEL" Bundle.listD)).before args s = true) (lU : (Cond.laysStatic Bundle.tN "UNASSIGNED_STACK" Bundle.steD).before args s = true) (lN : (Cond.laysStatic Bundle.tN "SUPPRESSED_SENTINEL" Bundle.listD).before args s = true) (q1 : (Cond.methodLink own ic (Bundle.initS "java/lang/IllegalStateException")).before args s = true) : ∀ w ∈ Bundle.ownAtoms own ic "java/lang/IllegalStateException" ["java/lang/RuntimeException", "java/lang/Exception"], w.before args s = true :=
  vx_c (hts _ q94) (vx_c (hts _ q535) (vx_c (hts _ q544) (vx_c (hts _ q550) (vx_c (hts _ q553) (vx_c (hts _ q555) (vx_c (hts _ q536) (vx_c (hts _ q537) (vx_c (hts _ q152) (vx_c (hts _ q153) (vx_c (hts _ q538) (vx_c (hts _ q543) (vx_c (hts _ q551) (vx_c (hts _ q570) (vx_c (hts _ q525) (vx_c (hts _ q571) (vx_c (hts _ q527) (vx_c (hts _ q572) (vx_c (hts _ q529) (vx_c (hts _ q539) (vx_c lU (vx_c (hts _ q541) (vx_c lN (vx_c (hts _ q531) (vx_c (hts _ q566) (vx_c (hts _ q567) (vx_c (hts _ q569) (vx_c (hts _ q531) (vx_c (hts _ q557) (vx_c (hts _ q558) (vx_c (hts _ q559) (vx_c (hts _ q560) (vx_c (va_Nw.use rfl (KN.use hK q517 rfl)) (vx_c (hts _ q560) (vx_c (hts _ q561) (vx_c (hts _ q562) (vx_c (hts _ q563) (vx_c (va_Nw.use rfl (KN.use hK q519 rfl)) (vx_c (hts _ q563) (vx_c (hts _ q564) (vx_c (hts _ q565) (vx_c (hts _ q566) (vx_c (va_Nw.use rfl (KN.use hK q521 rfl)) (vx_c q1 (vx_c (hts _ q514) (vx_c (va_Nw.use rfl (KN.use hK q515 rfl)) (vx_c (hts _ q522) (vx_c (hts _ q523) (vx_c (hts _ q524) (vx_c (hts _ q526) (vx_c (hts _ q528) (vx_c (hts _ q530) (vx_c hU (vx_c hN (vx_c (hts _ q534) (vx_c (hts _ q533) (vx_c (hts _ q532) (vx_n)))))))))))))))))))))))))))))))))))))))))))))))))))))))))
/-! exceptions: made, built, thrown -/
def nx_ {α : Type} (m : Mm) (i : Nat) (f : Nat → Mm → Rs α) : Rs α := tk_ 1 6 (f (mz_ m) (al_ m (300 + i) 0))
def xi_ {α : Type} (m : Mm) (a i : Nat) (f : Mm → Rs α) : Rs α := if mk_ m a = 300 + i ∧ mb_ m ≤ a then f (sk_ m a (400 + i)) else none
def at_ {α : Type} (m : Mm) (x : Option Nat) (i : Nat) (v : α) : Rs α := match x with
  | none => none
  | some a => if mk_ m a = 400 + i then rt_ v m else none
def ry_ {α : Type} (x : Int32) (v : α) (m : Mm) : Rs α := if -128 ≤ x.toInt ∧ x.toInt ≤ 127 then rt_ v m else none
/-- four rows of four numbers -/
def mm_ (m : Mm) : Mm := al_ (al_ (al_ (al_ (sr_ (sr_ (sr_ (sr_ (al_ m 206 4) (mz_ m) 0 (some (mz_ m + 1))) (mz_ m) 1 (some (mz_ m + 2))) (mz_ m) 2 (some (mz_ m + 3))) (mz_ m) 3 (some (mz_ m + 4))) 200 4) 200 4) 200 4) 200 4
def mn_ {α : Type} (m : Mm) (f : Nat → Mm → Rs α) : Rs α := tk_ 5 20 (f (mz_ m) (mm_ m))
section EXR
variable {α β : Type} {l : Launch} {g : GG} {E : Me_} {own : String} {cc : ByteArray} {nL lvl : Nat} {en : α → Fn_} {k n pc : Nat} {L L' : List (Nat × TV)} {st stA : List TV} {m : Mm}
theorem Sm_tkz {c z pc' : Nat} {st' : List TV} {m' : Mm} {r : Rs α} (kk : (eS_ E).heap.size ≤ mz_ m → Sm_ l g E nL en r (k + c) (n + z) pc' L st' m')
    (h : ∀ (H : Heap) (locs : List Loc) (ls : Array Slot) (Q : State → Prop), Rp_ g m H → va_S (fr_ g) (eS_ E).heap H locs → lv_has ls nL (lt_ L) → k + c ≤ (eR_ E).cells → n + z ≤ (eR_ E).slots → (∀ H' : Heap, Rp_ g m' H' → va_S (fr_ g) (eS_ E).heap H' locs → Wt_ l E H' locs (k + c) (n + z) Q (F0 (eM_ E) pc' ls (sv_ st'))) → Wt_ l E H locs k n Q (F0 (eM_ E) pc ls (sv_ st))) :
    Sm_ l g E nL en (tk_ c z r) k n pc L st m := by
  intro v m0 k0 n0 hr h1 h2 H locs ls hR hS hl
  exact Sm_tk (kk (by have := hS.1; have := hR.1; omega)) h v m0 k0 n0 hr h1 h2 H locs ls hR hS hl
theorem x_nx (C : Cx_ l g E own cc nL lvl) {ix : Nat} (i : Nat) (hi : i < 3) (hlink : (Cond.classLink own ix (xn_ i)) ∈ lw_all) (hinst : (Cond.instantiable (xn_ i) 6) ∈ lw_all) (hini : (Cond.initialized (xn_ i)) ∈ lw_all) (d : decode cc pc = .ok (.new ix, 3)) (pc' : Nat) (hp : pc + 3 = pc') {f : Nat → Mm → Rs α} (kk : ∀ a m', (eS_ E).heap.size ≤ a → Sm_ l g E nL en (f a m') (k + 1) (n + 6) pc' L (vr_ (some a) :: st) m') : Sm_ l g E nL en (nx_ m i f) k n pc L st m := by
  subst hp
  refine Sm_tkz (kk _ _) (fun H locs ls Q hR hS hl r1 r2 w => ?_)
  have hK := C.2.2.2.2.2.2.1
  have hf := hK.2.2.2.2.2.1 i (by omega)
  obtain ⟨kX, hkX, hbl⟩ := hK.2.2.2.2.2.2.1 i hi
  have hts := C.2.2.2.2.1
  refine W.newcK C.1 C.2.1 C.2.2.2.1 (hts _ hlink) (hts _ hinst) (hts _ hini) rfl d r1 r2 hf hR.1 (fun H1 kC hkC e1 z1 o1 => ?_)
  cases hkX.symm.trans hkC
  refine w H1 (rp_al (300 + i) 0 hR ⟨fun c2 r e c => ?_, fun t ty e c => ?_, fun i2 hi2 e => ?_, fun i2 hi2 e => ?_⟩ z1 o1 ⟨_, e1, rfl⟩) (vs_al hR hS z1 o1)
  · have := clT_lt c
    rw [mk_al, if_pos rfl] at e
    omega
  · have htl : t < 9 := by
      have := (List.getElem?_eq_some_iff.mp c).1
      simpa [atT] using this
    rw [mk_al, if_pos rfl] at e
    omega
  · rw [mk_al, if_pos rfl] at e
    have : i2 = i := by omega
    subst this
    rw [hbl]
    exact e1
  · rw [mk_al, if_pos rfl] at e
    omega
theorem x_xiG (C : Cx_ l g E own cc nL lvl) {a ic : Nat} (i : Nat) (hi : i < 3) (X : String) (hX : xn_ i = X) (names : List String) (hnl : names.length = 2) (hcls : Bundle.fit X = true) (hnm : ∀ n ∈ names, Bundle.fit n = true)
    (hat : (Cond.isRef (.static Bundle.tN "UNASSIGNED_STACK" Bundle.steD)).before (eA_ E) (eS_ E) = true → (Cond.isRef (.static Bundle.tN "SUPPRESSED_SENTINEL" Bundle.listD)).before (eA_ E) (eS_ E) = true → (Cond.laysStatic Bundle.tN "UNASSIGNED_STACK" Bundle.steD).before (eA_ E) (eS_ E) = true → (Cond.laysStatic Bundle.tN "SUPPRESSED_SENTINEL" Bundle.listD).before (eA_ E) (eS_ E) = true → ∀ w ∈ Bundle.ownAtoms own ic X names, w.before (eA_ E) (eS_ E) = true)
    (hz : (eS_ E).heap.size ≤ a) (hlv : 10 ≤ lvl) (hst : tc_ st ≤ 8) {mr : Option Nat} (d : decode cc pc = .ok (.invokespecial ic, 3)) (pc' : Nat) (hp : pc + 3 = pc') {f : Mm → Rs α} (kk : ∀ m', Sm_ l g E nL en (f m') k n pc' L (vr_ (some a) :: st) m') : Sm_ l g E nL en (xi_ m a i f) k n pc L (vr_ mr :: vr_ (some a) :: vr_ (some a) :: st) m := by
  subst hp
  unfold xi_
  split
  case isFalse => exact Sm_none
  case isTrue h =>
    obtain ⟨hk, hb⟩ := h
    intro v0 m0 k0 n0 hr0 g1 g2 H locs ls hR hS hl T hT X0
    have hK := C.2.2.2.2.2.2.1
    have hts := C.2.2.2.2.1
    have hfr := C.2.2.2.2.2.2.2.2.2
    obtain ⟨m9, hR9⟩ := C.2.2.2.2.2.2.2.1
    have hU := (hK.2.2.2.2.2.2.2.2.1).kept (H1 := (eS_ E).heap) (fun q _ h => hR9.2.2.2.2.2.2.1 q (Nat.not_le.mp h))
    have hN := (hK.2.2.2.2.2.2.2.2.2.1).kept (H1 := (eS_ E).heap) (fun q _ h => hR9.2.2.2.2.2.2.1 q (Nat.not_le.mp h))
    have hf := hK.2.2.2.2.2.1 i (by omega)
    rw [hX] at hf
    obtain ⟨kX, hkX, hbl⟩ := hK.2.2.2.2.2.2.1 i hi
    have hce := (hR.2.2.2.1 a).2.2.1 i hi hk
    rw [hbl] at hce
    have htr : E.2.1.platform.stackTraces = false := (show E.2.1.platform.stackTraces = l.stackTraces by rw [X0.admits.platform]).trans C.2.2.2.2.2.2.2.2.1
    have hml : (eC_ E).maxLocals = ls.size := by rw [C.2.2.1]; exact hl.1.symm
    obtain ⟨V, ce, L2, Z, hL2, hVh, hlt, hcl9, hvm9, stp⟩ := vy_ctorMadeS X0 C.1 htr (own := own) (cls := X) (names := names) (ic := ic) C.2.2.2.1 hcls hnm (hat (vx_isRefq hU.1) (vx_isRefq hN.1) hU.2.word hN.2.word)
      (fun x hx cell hcell => by
        have h1 := hS.2.2 x hx
        have hlt9 := (Array.getElem?_eq_some_iff.mp hcell).1
        obtain ⟨ce9, e9, e8⟩ := hR9.2.2.2.2.2.2.2 x.base h1 (by rw [← hR9.1]; exact hlt9)
        cases hcell.symm.trans e9
        exact e8) hf hkX (a := a) (by rw [hT]; exact hce) hz (msg := va_rf mr) (by cases mr <;> rfl)
      (g := F0 (eM_ E) pc ls (sv_ (vr_ mr :: vr_ (some a) :: vr_ (some a) :: st))) rfl hml.symm (rest := sv_ st) rfl (by rw [C.2.1]; exact d) (by rw [hfr.1, hnl]; omega) (by
        have := tc_sum st
        have h5 : (Value.ref a).category = 1 := rfl
        show 2 * 0 + _ + _ ≤ _
        rw [hfr.2, hnl, List.map_cons, List.sum_cons, this, h5]
        omega)
    have hheap : (V.setCell a ce).heap = H.setIfInBounds a ce := by rw [← hT, ← hVh]; rfl
    have hltH : a < H.size := by rw [← hT, ← hVh]; exact hlt
    have e1 : (H.setIfInBounds a ce)[a]? = some ce := by simp [Array.getElem?_setIfInBounds, hltH]
    have hRp : Rp_ g (sk_ m a (400 + i)) (H.setIfInBounds a ce) := by
      refine rp_set hR ⟨fun c2 r e c => ?_, fun t ty e c => ?_, fun i2 hi2 e => ?_, fun i2 hi2 e => ?_⟩ (by simp) (fun q hq => by simp [Array.getElem?_setIfInBounds, Ne.symm hq]) hb hltH ⟨ce, e1, by rw [hvm9]; rfl⟩ (fun b hb' => by rw [mk_sk, if_neg hb']) (Or.inr (by rw [mk_sk, if_pos rfl]; simp [kc_])) (fun b _ => rfl) (fun b j _ => rfl) (fun b j _ => rfl) (fun b j _ => rfl) rfl rfl
      · have := clT_lt c
        rw [mk_sk, if_pos rfl] at e
        omega
      · have htl : t < 9 := by
          have := (List.getElem?_eq_some_iff.mp c).1
          simpa [atT] using this
        rw [mk_sk, if_pos rfl] at e
        omega
      · rw [mk_sk, if_pos rfl] at e
        omega
      · rw [mk_sk, if_pos rfl] at e
        have : i2 = i := by omega
        subst this
        exact ⟨ce, e1, by rw [hvm9]; rfl, fun _ => hvm9, hcl9⟩
    obtain ⟨t, a1, b1⟩ := kk (sk_ m a (400 + i)) v0 m0 k0 n0 hr0 g1 g2 _ (locs ++ L2) ls hRp (vs_set hR hb hS hL2) hl _ hheap Z
    exact ⟨t, stp t a1, b1⟩
theorem x_xi0 (C : Cx_ l g E own cc nL lvl) {a ic : Nat} (q1 : Cond.methodLink own ic ⟨"java/lang/IndexOutOfBoundsException", "<init>", "(Ljava/lang/String;)V"⟩ ∈ lw_all) (hz : (eS_ E).heap.size ≤ a) (hlv : 10 ≤ lvl) (hst : tc_ st ≤ 8) {mr : Option Nat} (d : decode cc pc = .ok (.invokespecial ic, 3)) (pc' : Nat) (hp : pc + 3 = pc') {f : Mm → Rs α} (kk : ∀ m', Sm_ l g E nL en (f m') k n pc' L (vr_ (some a) :: st) m') : Sm_ l g E nL en (xi_ m a 0 f) k n pc L (vr_ mr :: vr_ (some a) :: vr_ (some a) :: st) m :=
  x_xiG C 0 (by decide) "java/lang/IndexOutOfBoundsException" rfl ["java/lang/RuntimeException", "java/lang/Exception"] rfl (by decide +kernel) (fun n hn => by simp only [List.mem_cons, List.not_mem_nil, or_false] at hn; rcases hn with rfl | rfl <;> decide +kernel) (fun a b c d => xo_0 C.2.2.2.2.1 C.2.2.2.2.2.2.1 a b c d (C.2.2.2.2.1 _ q1)) hz hlv hst d pc' hp kk
theorem x_xi1 (C : Cx_ l g E own cc nL lvl) {a ic : Nat} (q1 : Cond.methodLink own ic ⟨"java/lang/IllegalArgumentException", "<init>", "(Ljava/lang/String;)V"⟩ ∈ lw_all) (hz : (eS_ E).heap.size ≤ a) (hlv : 10 ≤ lvl) (hst : tc_ st ≤ 8) {mr : Option Nat} (d : decode cc pc = .ok (.invokespecial ic, 3)) (pc' : Nat) (hp : pc + 3 = pc') {f : Mm → Rs α} (kk : ∀ m', Sm_ l g E nL en (f m') k n pc' L (vr_ (some a) :: st) m') : Sm_ l g E nL en (xi_ m a 1 f) k n pc L (vr_ mr :: vr_ (some a) :: vr_ (some a) :: st) m :=
  x_xiG C 1 (by decide) "java/lang/IllegalArgumentException" rfl ["java/lang/RuntimeException", "java/lang/Exception"] rfl (by decide +kernel) (fun n hn => by simp only [List.mem_cons, List.not_mem_nil, or_false] at hn; rcases hn with rfl | rfl <;> decide +kernel) (fun a b c d => xo_1 C.2.2.2.2.1 C.2.2.2.2.2.2.1 a b c d (C.2.2.2.2.1 _ q1)) hz hlv hst d pc' hp kk
theorem x_xi2 (C : Cx_ l g E own cc nL lvl) {a ic : Nat} (q1 : Cond.methodLink own ic ⟨"java/lang/IllegalStateException", "<init>", "(Ljava/lang/String;)V"⟩ ∈ lw_all) (hz : (eS_ E).heap.size ≤ a) (hlv : 10 ≤ lvl) (hst : tc_ st ≤ 8) {mr : Option Nat} (d : decode cc pc = .ok (.invokespecial ic, 3)) (pc' : Nat) (hp : pc + 3 = pc') {f : Mm → Rs α} (kk : ∀ m', Sm_ l g E nL en (f m') k n pc' L (vr_ (some a) :: st) m') : Sm_ l g E nL en (xi_ m a 2 f) k n pc L (vr_ mr :: vr_ (some a) :: vr_ (some a) :: st) m :=
  x_xiG C 2 (by decide) "java/lang/IllegalStateException" rfl ["java/lang/RuntimeException", "java/lang/Exception"] rfl (by decide +kernel) (fun n hn => by simp only [List.mem_cons, List.not_mem_nil, or_false] at hn; rcases hn with rfl | rfl <;> decide +kernel) (fun a b c d => xo_2 C.2.2.2.2.1 C.2.2.2.2.2.2.1 a b c d (C.2.2.2.2.1 _ q1)) hz hlv hst d pc' hp kk
theorem x_at (C : Cx_ l g E own cc nL lvl) (h0 : ∀ x ∈ (eC_ E).exceptionTable.toList, False) {x : Option Nat} (i : Nat) (hi : i < 3) {v : α} (hen : en v = .inr i) (d : decode cc pc = .ok (.athrow, 1)) : Sm_ l g E nL en (at_ m x i v) k n pc L (vr_ x :: st) m := by
  unfold at_
  split
  · exact Sm_none
  · rename_i a
    split
    case isFalse => exact Sm_none
    case isTrue hk =>
      intro v0 m0 k0 n0 hr h1 h2 H locs ls hR hS hl
      obtain ⟨ce, e1, e2, e3, e4⟩ := (hR.2.2.2.1 a).2.2.2 i (by omega) hk
      have hK := C.2.2.2.2.2.2.1
      have hf := hK.2.2.2.2.2.1 i (by omega)
      refine vx_athrow C.1 C.2.1 d ?_
      exact Sx_out C h0 hen v0 m0 k0 n0 hr h1 h2 H locs ls a ce hR hS hl hi e1 (e3 hi) (by rw [hf, e4])
theorem narrow_y {x : Int32} (h : -128 ≤ x.toInt ∧ x.toInt ≤ 127) : narrow .byte (.int x) = .int x := by
  show Value.int x.toInt8.toInt32 = .int x
  congr 1
  apply Int32.toInt_inj.mp
  rw [Int8.toInt_toInt32, Int32.toInt_toInt8]
  have h1 := h.1
  have h2 := h.2
  rw [Int.bmod_def]
  split <;> omega
theorem x_bret (C : Cx_ l g E own cc nL lvl) (hret : (eT_ E).sig.returnType = some .byte) {v : α} {x : Int32} (hen : en v = .inl (some (.int x))) (d : decode cc pc = .ok (.ireturn, 1)) : Sm_ l g E nL en (ry_ x v m) k n pc L [vi_ x] m := by
  unfold ry_
  split
  case isTrue h => exact x_ret C hen (fun H locs ls hf hq => W.zret C.1 C.2.1 hret (narrow_y h) hq hf d C.2.2.2.2.2.1)
  case isFalse => exact Sm_none
end EXR

