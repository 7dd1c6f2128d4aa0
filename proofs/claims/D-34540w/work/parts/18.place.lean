section PLA
variable {l : Launch} {R : Room} {p : Program} {e : Env} {below : List Frame} {s : State} {sargs : Array Value} {y : MethodName} {len W9 : Nat}
theorem vy_backR {rm : Room} {Pc : Array Value → State → Prop} {Qc : Array Value → State → Outcome → State → Prop} {XC : String → State → State → Prop} {mc ms : Nat} {free : Addr → Prop} {bytes : ByteArray} {maxL : Nat} {ret : Option FieldType} {TB : Code → Prop}
    (hy : plainName y.cls = true) (hblind : FrameBlind Pc) (hrc : rm.cells = mc) (hrs : rm.slots = ms)
    (hframes : rm.frames + 1 ≤ R.frames) (hlocals : W9 + (maxL + 11) + rm.locals ≤ R.locals)
    (hM : ∀ (U : State) (mk : MethodId), s.WarmedH U.vm → U.methodNamed? y = some mk → ∃ (meth : Method) (c : Code), U.vm.method? mk = some meth ∧ meth.code = some c ∧ c.code = bytes ∧ c.maxLocals = maxL ∧ meth.sig.returnType = ret ∧ meth.locks = false ∧ TB c)
    (hbody : ∀ (s' : State) (mk : MethodId) (a : Array Value) (below' : List Frame) (meth : Method) (c : Code), s.WarmedH s'.vm → s'.methodNamed? y = some mk → s'.vm.method? mk = some meth → meth.code = some c → c.code = bytes → c.maxLocals = maxL → meth.sig.returnType = ret → meth.locks = false → TB c → Pc a s' → W p l e rm s' mk a below' meth c s'.heap [] 0 0 (vx_MQ below' Qc XC a s' mc ms free) (entryFrame mk a maxL)) :
    vx_Back l R p e below s sargs y len W9 (PreOf R mc ms Pc) (PostOf Qc mc ms free) (vx_Post XC mc ms free) := by
  intro m meth c A g ig mk a X hg hsize hdg hW hn hp
  have h4 : A.cells + rm.cells ≤ R.cells := by rw [hrc]; exact hp.1
  have h5 : A.slots + rm.slots ≤ R.slots := by rw [hrs]; exact hp.2.1
  have hPc : Pc a (A.U.calling g mk a) := hblind _ _ _ _ hp.2.2
  obtain ⟨U, Ls, c0, s0⟩ := A
  dsimp only [Pt.U, Pt.locs, Pt.cells, Pt.slots] at h4 h5 X hn hPc ⊢
  obtain ⟨methY, cY, hmY, hcY, hbY, hlY, hretY, hlkY, htbY⟩ := hM U mk X.warmed hn
  have h : At U g.method c below := by rw [hg]; exact X.here
  have hroom : (U.calling g mk a).hasRoom e.platform rm = true := X.room_calling (g := g) (R' := rm) hsize hmY hcY hframes (by rw [hlY]; omega) h4 h5
  have hfS : (U.calling g mk a).frames = .invoking mk a :: .java g :: U.frames.tail := State.frames_calling h.top g mk a
  have hcodeS : (U.calling g mk a).code? g.method = some c := by
    have := h.code
    rw [State.code?_eq] at this ⊢
    simpa [State.calling, State.pushFrame, State.setFrames] using this
  have hhears : (U.calling g mk a).hears mk (.java g :: U.frames.tail) = true := by
    simp [State.hears, hcodeS, hdg, Except.toOption]
  have hrun : (U.calling g mk a).status = .running := h.running
  have hable : (U.calling g mk a).curStatus? = some .runnable := by simpa [State.calling] using h.runnable
  have halone : (U.calling g mk a).alone = true := by simpa [State.calling] using h.alone
  have hcur := State.cur_lt_of_frames hfS
  generalize hs' : U.calling g mk a = s' at hroom hfS hcodeS hhears hrun hable halone hcur hPc ⊢
  have hvm' : s'.vm = U.vm := by rw [← hs']; rfl
  have hmY' : s'.vm.method? mk = some methY := by rw [hvm']; exact hmY
  have hn' : s'.methodNamed? y = some mk := by rw [← hs']; exact hn
  have hf1 : (s'.setFrames (.java (entryFrame mk a maxL) :: .java g :: U.frames.tail)).frames = .java (entryFrame mk a maxL) :: .java g :: U.frames.tail := State.frames_setFrames _ hcur
  have ht1 := State.topJava?_of_frames hf1
  have hplain : (s'.setFrames (.java (entryFrame mk a maxL) :: .java g :: U.frames.tail)).plainMethod mk := State.plainMethod.of_named (s := s') (plainFor_of_name hy) hn' hmY'
  have hAt : At (s'.setFrames (.java (entryFrame mk a maxL) :: .java g :: U.frames.tail)) mk cY (.java g :: U.frames.tail) :=
    ⟨by rw [ht1]; rfl, ⟨[], by rw [hf1]; rfl⟩, hrun, by simpa using hable, by simpa using halone,
      by rw [State.code?_eq]; simp [State.setFrames, hmY', hcY], hplain⟩
  have hstep : (stepThread p.tables e s').1 = (s'.setFrames (.java (entryFrame mk a maxL) :: .java g :: U.frames.tail)).setTop (entryFrame mk a maxL) := by
    have hfull : e.platform.stackFull (s'.setFrames (.java g :: U.frames.tail)).me (s'.setFrames (.java g :: U.frames.tail)).frames cY.maxLocals = false := by
      obtain ⟨-, h1, -, h2⟩ := State.hasRoom_stack hroom
      rw [hfS, List.length_cons] at h1
      rw [State.localsInUse_invoking hfS hmY' hcY] at h2
      have hw := stackUse_le_stackWeight (.java g :: U.frames.tail)
      rw [State.frames_setFrames _ hcur]
      exact Platform.stackFull_eq_false (by rw [State.stackLimits_setFrames]; omega) (by rw [State.stackLimits_setFrames]; omega)
    rw [stepThread_invoking hfS, (doInvoke_java (s := s'.setFrames (.java g :: U.frames.tail)) (e := e) (meth := methY) (code := cY) hmY' hcY hlkY hfull).1, State.setTop_self ht1]
    simp only [State.pushFrame, State.frames_setFrames _ hcur, State.setFrames_setFrames, hlY, entryFrame]
  have hstep2 : (stepThread p.tables e s').1 = (doInvoke e (U.setTop g) [] mk a).1 := by
    obtain ⟨t0, ht0, -⟩ := State.frames_cons (State.frames_setTop' g h.top)
    have hs2 : s' = (U.setTop g).pushFrame (.invoking mk a) := by rw [← hs']; rfl
    have hf2 : ((U.setTop g).pushFrame (.invoking mk a)).frames = .invoking mk a :: (U.setTop g).frames := State.frames_setFrames _ (Array.getElem?_eq_some_iff.mp ht0).1
    rw [hs2, stepThread_invoking hf2, doInvoke_state e (U.setTop g) [], State.pushFrame, State.setFrames_setFrames, State.setFrames_self ht0]
  obtain ⟨t9, ht9, -⟩ := State.frames_cons hfS
  have X' : Stand p l e rm s' mk a (.java g :: U.frames.tail) methY cY (s'.setFrames (.java (entryFrame mk a maxL) :: .java g :: U.frames.tail)) [] 0 0 :=
    ⟨X.admits, X.cas, X.clock, hfS, hroom, hhears, hmY', hcY, hAt, by rw [hf1]; rfl, State.WarmedH.refl s', by rw [State.stackLimits_setFrames], by rw [State.stackBytes_setFrames], (State.sameButNew.refl s' ht9).setFrames (.java (entryFrame mk a maxL) :: .java g :: U.frames.tail) hcur⟩
  obtain ⟨s₂, hst, o, -, hend, hq⟩ := hbody s' mk a (.java g :: U.frames.tail) methY cY (by rw [hvm']; exact X.warmed) hn' hmY' hcY hbY hlY hretY hlkY htbY hPc (s'.setFrames (.java (entryFrame mk a maxL) :: .java g :: U.frames.tail)) rfl X'
  obtain ⟨mid, hmid⟩ := h.above
  have hsteps : Steps p.tables e below (doInvoke e (U.setTop g) [] mk a).1 s₂ := by
    rw [← hstep2, hstep]
    obtain ⟨k, hk, hw⟩ := hst
    refine ⟨k, hk, fun j hj => ?_⟩
    have hwj := hw j hj
    have ee : (Frame.java g :: U.frames.tail) = (.java g :: mid) ++ below := by rw [hmid]; rfl
    exact (Eq.mp (congrArg (Within _) ee) hwj).weaken
  have hq' : vx_Q Qc XC mc ms free a (U.calling g mk a) o s₂ := by rw [hs']; exact hq
  obtain ⟨g₀, hg0⟩ := Option.isSome_iff_exists.mp h.top
  obtain ⟨r, hr⟩ := State.topJava?_eq_some.mp hg0
  have hr' : (({ U with heap := s₂.heap, slotsUsed := s₂.slotsUsed } : State).setVm s₂.vm).frames = .java g₀ :: r := hr
  rcases hq' with ⟨hqc, L, hfe, hL⟩ | ⟨q, rfl, E, ce, L, hx, hce, hcv, hcl, hW₂, hsm, hL⟩
  · obtain ⟨⟨v, rfl⟩, hW₂, e2, q2, q3, q4, q5, q6⟩ := id hfe
    have e3 : s₂ = ({ (U.calling g mk a).setFrames s₂.frames with heap := s₂.heap, slotsUsed := s₂.slotsUsed } : State).setVm s₂.vm := by
      have : s₂ = ({ s₂ with vm := (U.calling g mk a).vm } : State).setVm s₂.vm := rfl
      rw [e2] at this
      exact this
    obtain ⟨c₂, i₂, len₂, hc₂, hd₂, hf₂⟩ := hend
    have hW' : U.WarmedH s₂.vm := hW₂
    have hcc : c₂ = c := by
      have h1 : s₂.code? g.method = U.code? g.method := by
        rw [State.code?_eq, State.code?_eq, hW'.alike.method?]
      exact Option.some.inj (hc₂.symm.trans (h1.trans h.code))
    subst hcc
    have hlen : len₂ = len := by rw [hdg] at hd₂; cases hd₂; rfl
    subst hlen
    have hs₂ : s₂ = (({ U with heap := s₂.heap, slotsUsed := s₂.slotsUsed } : State).setVm s₂.vm).setTop { g with pc := g.pc + len₂, stack := v.toList ++ g.stack } := by
      refine e3.trans ?_
      rw [hf₂, State.calling_eq h.top, State.setFrames_setFrames, State.setTop_of_frames _ hr', hr]
      rfl
    have hsame : U.sameButNew ({ U with heap := s₂.heap, slotsUsed := s₂.slotsUsed } : State) L mc ms := by
      refine ⟨?_, q2, q3, q4, q5, q6⟩
      obtain ⟨t, ht, -⟩ := State.frames_cons hr
      show ({ U with heap := s₂.heap, slotsUsed := s₂.slotsUsed } : State) = { U.setFrames U.frames with heap := s₂.heap, slotsUsed := s₂.slotsUsed }
      rw [State.setFrames_self ht]
    subst hg
    refine Or.inl ⟨v, ⟨(({ U with heap := s₂.heap, slotsUsed := s₂.slotsUsed } : State).setVm s₂.vm), Ls ++ L, c0 + mc, s0 + ms⟩,
      ⟨X.admits, X.cas, X.clock, X.frames, X.room, X.hears, X.method, X.code, (X.here.setHeapUsed s₂.heap s₂.slotsUsed).setVm hW'.alike, X.tail, State.WarmedH.trans X.warmed hW', X.limits, X.bytes, X.same.trans (hsame.setVm s.vm)⟩,
      ⟨g, mk, s₂, L, rfl, rfl, hqc, rfl, hL, rfl, rfl⟩, ?_⟩
    show Steps p.tables e below _ ((({ U with heap := s₂.heap, slotsUsed := s₂.slotsUsed } : State).setVm s₂.vm).setTop { g with pc := g.pc + len₂, stack := v.toList ++ g.stack })
    rw [← hs₂]
    exact hsteps
  · obtain ⟨e2, q2, q3, q4, q5, q6⟩ := id hsm
    have e3 : s₂ = ({ (U.calling g mk a).setFrames s₂.frames with heap := s₂.heap, slotsUsed := s₂.slotsUsed } : State).setVm s₂.vm := by
      have : s₂ = ({ s₂ with vm := (U.calling g mk a).vm } : State).setVm s₂.vm := rfl
      rw [e2] at this
      exact this
    have hf₂ : s₂.frames = .throwing q :: .java g :: U.frames.tail := hend
    have hW' : U.WarmedH s₂.vm := hW₂
    have hs₂ : s₂ = ((({ U with heap := s₂.heap, slotsUsed := s₂.slotsUsed } : State).setVm s₂.vm).setTop g).pushFrame (.throwing q) := by
      refine e3.trans ?_
      rw [hf₂, State.calling_eq h.top, State.setFrames_setFrames, State.pushFrame, State.frames_setTop _ hr', State.setTop_of_frames _ hr', State.setFrames_setFrames, hr]
      rfl
    have hsame : U.sameButNew ({ U with heap := s₂.heap, slotsUsed := s₂.slotsUsed } : State) L mc ms := by
      refine ⟨?_, q2, q3, q4, q5, q6⟩
      obtain ⟨t, ht, -⟩ := State.frames_cons hr
      show ({ U with heap := s₂.heap, slotsUsed := s₂.slotsUsed } : State) = { U.setFrames U.frames with heap := s₂.heap, slotsUsed := s₂.slotsUsed }
      rw [State.setFrames_self ht]
    subst hg
    refine Or.inr ⟨q, ⟨(({ U with heap := s₂.heap, slotsUsed := s₂.slotsUsed } : State).setVm s₂.vm), Ls ++ L, c0 + mc, s0 + ms⟩,
      ⟨X.admits, X.cas, X.clock, X.frames, X.room, X.hears, X.method, X.code, (X.here.setHeapUsed s₂.heap s₂.slotsUsed).setVm hW'.alike, X.tail, State.WarmedH.trans X.warmed hW', X.limits, X.bytes, X.same.trans (hsame.setVm s.vm)⟩,
      ⟨g, mk, s₂, L, E, ce, rfl, rfl, hx, hce, hcv, hcl, rfl, hL, rfl, rfl⟩, ?_⟩
    show Steps p.tables e below _ (((({ U with heap := s₂.heap, slotsUsed := s₂.slotsUsed } : State).setVm s₂.vm).setTop g).pushFrame (.throwing q))
    rw [← hs₂]
    exact hsteps
end PLA
section PLB
variable {p : Program} {l : Launch} {e : Env} {R : Room} {s : State} {m : MethodId} {args : Array Value} {below : List Frame} {meth : Method} {c : Code} {H : Heap} {locs : List Loc} {cells slots : Nat}
theorem vy_callVU {T : State} {locs : List Loc} {cells slots : Nat} (X : Stand p l e R s m args below meth c T locs cells slots) (hexec : p.tables.exec = Jvm.exec) {own C owner : String} {index : Nat} {x y : MethodName}
    (hown : s.vm.findClass own = some m.cls) (hlink : (Cond.methodLink own index x).before args s = true) (hsame : (Cond.sameMethod x.cls owner x.name x.desc).before args s = true)
    (hd0 : va_Decl s ⟨owner, x.name, x.desc⟩) (howner : owner ≠ "java/lang/invoke/MethodHandle" ∧ owner ≠ "java/lang/invoke/VarHandle")
    (hsel : (Cond.selects C x y).before args s = true) (hinst : (Cond.instanceMethod y).before args s = true)
    {W : Nat} {Pre : Pt → Array Value → Prop} {Post : Pt → Array Value → Option Value → Pt → Prop} {PostX : Pt → Array Value → Addr → Pt → Prop} (hK : vx_Back l R p e below s args y 3 W Pre Post PostX)
    {b : Addr} {cellB : Cell} (hcell : T.heap[b]? = some cellB) (hobj : cellB.vm.isStatics = false) (hcls : s.vm.findClass C = some cellB.cls)
    {g : JFrame} (hg : g.method = m) (hsize : g.locals.size = c.maxLocals) {argsL rest : List Value} (hlen : ∀ sig, parseMethodDescriptor x.desc = some sig → argsL.length = sig.parameters.length)
    (hstack : g.stack = argsL.reverse ++ .ref b :: rest) (hW : 2 * g.monitorRoom + (rest.map fun v => v.category).sum ≤ W) (hdg : decode c.code g.pc = .ok (.invokevirtual index, 3))
    (hpre : ∀ vm₁, s.WarmedH vm₁ → Pre ⟨T.setVm vm₁, locs, cells, slots⟩ (Value.ref b :: argsL).toArray) :
    (∃ (v : Option Value) (vm₁ : Vm) (B : Pt), s.WarmedH vm₁ ∧ Stand p l e R s m args below meth c B.U B.locs B.cells B.slots ∧ Post ⟨T.setVm vm₁, locs, cells, slots⟩ (Value.ref b :: argsL).toArray v B ∧
      ∀ target, Steps p.tables e below (B.U.setTop { g with pc := g.pc + 3, stack := v.toList ++ rest }) target → Steps p.tables e below (T.setTop g) target) ∨
    (∃ (q : Addr) (vm₁ : Vm) (B : Pt), s.WarmedH vm₁ ∧ Stand p l e R s m args below meth c B.U B.locs B.cells B.slots ∧ PostX ⟨T.setVm vm₁, locs, cells, slots⟩ (Value.ref b :: argsL).toArray q B ∧
      Steps p.tables e below (T.setTop g) ((B.U.setTop { g with stack := rest }).pushFrame (.throwing q))) := by
  obtain ⟨r0, r, hn, hrm, hstR, hsigR⟩ := hd0
  obtain ⟨cn, ck, r1, hcn, hck, hni, hf, hn1⟩ := Cond.sameMethod_found hsame
  cases hn.symm.trans hn1
  obtain ⟨mk, methM, hnamed, hmethM, -, habM⟩ := Cond.instanceMethod_spec hinst
  obtain ⟨c2, r2, m2, q1, q2, q3, q4, kP, hkP, hkPi⟩ := Cond.selects_spec hsel
  cases hcls.symm.trans q1
  cases hf.symm.trans q2
  cases hnamed.symm.trans q3
  have hselP : selectMethod e.platform s.vm cellB.cls r0 = .method mk := by rw [Launch.admits_selectMethod X.admits]; exact q4
  obtain ⟨vm₁, X₁, hstep₁⟩ := X.invokevirtualUp hexec hown hlink hsame howner hn hrm hstR (a := b) (cell := cellB) hcell
    (fun z h => by rw [h] at hobj; cases hobj) hselP hmethM habM hkP hkPi (g := g) hg (argsL := argsL) (rest := rest) (hlen _ hsigR) hstack hdg
  rcases hK m meth c ⟨T.setVm vm₁, locs, cells, slots⟩ { g with stack := rest } (.invokevirtual index) mk (Value.ref b :: argsL).toArray X₁ hg hsize hdg hW (X₁.named hnamed) (hpre vm₁ X₁.warmed) with ⟨v, B, X', hpost, hsteps⟩ | ⟨q, B, X', hpost, hsteps⟩
  · exact Or.inl ⟨v, vm₁, B, X₁.warmed, X', hpost, fun target h => hstep₁ _ fun acts => by rw [doInvoke_state]; exact hsteps.trans h⟩
  · exact Or.inr ⟨q, vm₁, B, X₁.warmed, X', hpost, hstep₁ _ fun acts => by rw [doInvoke_state]; exact hsteps⟩
end PLB
section PLC
variable {α β : Type} {l : Launch} {g : GG} {E : Me_} {own : String} {cc : ByteArray} {nL lvl : Nat} {en : α → Fn_} {k n pc : Nat} {L L' : List (Nat × TV)} {st stA : List TV} {m : Mm}
/-- a method's body, walked in place of a contract -/
theorem x_callP {enc : β → Fn_} {rc : Rs β} {f : β → Mm → Rs α} (C : Cx_ l g E own cc nL lvl) {i : Nat} {x y : MethodName} {Cn owner : String} {bytes : ByteArray} {maxL : Nat} {ret : Option FieldType} (lv na : Nat) (As : List TV) {b : Option Nat} {L0 : List (Nat × TV)} {TB : Code → Prop} (kd : Nat) (hy : plainName y.cls = true) (hn : ls_ (vr_ b :: As) ≤ maxL) (hL : la_ 0 (vr_ b :: As) = L0)
    (body : ∀ E' : Me_, Cx_ l g E' y.cls bytes maxL lv → (eT_ E').sig.returnType = ret → TB (eC_ E') → ((eT_ E').name = y.name) → Sm_ l g E' maxL enc rc 0 0 0 L0 [] m)
    (hM : ∀ (U : State) (mk : MethodId), (eS_ E).WarmedH U.vm → U.methodNamed? y = some mk → ∃ (meth : Method) (c : Code), U.vm.method? mk = some meth ∧ meth.code = some c ∧ c.code = bytes ∧ c.maxLocals = maxL ∧ meth.sig.returnType = ret ∧ meth.locks = false ∧ TB c)
    (hb : ∀ a, b = some a → mk_ m a = kd) (hb0 : b ≠ none) (hkd : kk_ kd = true) (hcn : cn_ kd = Cn) (q1 : Cond.methodLink own i x ∈ lw_all) (q2 : Cond.sameMethod x.cls owner x.name x.desc ∈ lw_all) (q3 : Cond.selects Cn x y ∈ lw_all) (q4 : Cond.instanceMethod y ∈ lw_all) (hdecl : va_Decl (eS_ E) ⟨owner, x.name, x.desc⟩) (hd : owner ≠ "java/lang/invoke/MethodHandle" ∧ owner ≠ "java/lang/invoke/VarHandle" ∧ (parseMethodDescriptor x.desc).map (fun d => d.parameters.length) = some na) (hlv : lv < lvl) (hmx : maxL ≤ 45) (hna : As.length = na) (hst : tc_ st ≤ 8) (d : decode cc pc = .ok (.invokevirtual i, 3)) (pc' : Nat) (hp : pc + 3 = pc') (hA : As.reverse ++ vr_ b :: st = stA)
    (hen : ∀ v ov, enc v = .inl ov → ∃ t, sv_ t = ov.toList)
    (kk : ∀ v m1 k1 n1 (t : List TV) ov, enc v = .inl ov → sv_ t = ov.toList → Sm_ l g E nL en (f v m1) (k + k1) (n + n1) pc' L (t ++ st) m1)
    (kx : ∀ v m1 k1 n1 i, enc v = .inr i → Sx_ l g E nL en (f v m1) (k + k1) (n + n1) pc L st i m1) : Sm_ l g E nL en (bd_ rc f) k n pc L stA m := by
  subst hp; subst hA
  have hK := C.2.2.2.2.2.2.1
  have hts := C.2.2.2.2.1
  cases b with
  | none => exact absurd rfl hb0
  | some a =>
    refine x_run3 (av := (sv_ (vr_ (some a) :: As)).toArray) (fun v m1 k1 n1 hrc H locs ls hR hl hf => ?_) kk hen kx
    obtain ⟨hfr1, hfr2⟩ := cx_room C hlv hmx
    have hB : vx_Back l (eR_ E) E.1 E.2.1 (eB_ E) (eS_ E) (eA_ E) y 3 8 (PreOf (eR_ E) k1 n1 (fun a9 U => a9 = (sv_ (vr_ (some a) :: As)).toArray ∧ KN g U ∧ Rp_ g m U.heap)) (PostOf (Qc_ g (enc v) m1) k1 n1 (fr_ g)) (vx_Post (Xc_ g (enc v) m1) k1 n1 (fr_ g)) := by
      refine vy_backR (rm := { frames := lv, cells := k1, slots := n1, locals := 64 * lv }) (bytes := bytes) (maxL := maxL) (ret := ret) hy (ct_blind g m (vr_ (some a) :: As)) rfl rfl hfr1 hfr2 hM ?_
      intro s' mk a9 below' meth c hW hnm hme hco hby hml hre hlk htb hPc
      obtain ⟨rfl, hK', hR'⟩ := hPc
      have hts' : ∀ w ∈ lw_all, w.before (sv_ (vr_ (some a) :: As)).toArray s' = true := fun w hw => word_at hW (lw_self w hw).2 (hts w hw)
      have hl9 := lv_entry (sv_ (vr_ (some a) :: As)) (n := maxL) (by rw [ls_len]; exact hn)
      rw [lg_entry_eq]
      generalize (lg_sl (sv_ (vr_ (some a) :: As)) ++ List.replicate (maxL - (lg_sl (sv_ (vr_ (some a) :: As))).length) Slot.unset).toArray = ls9 at hl9 ⊢
      rw [la_args, hL] at hl9
      have hown : s'.vm.findClass y.cls = some mk.cls := findClass_of_methodNamed hnm
      have hb9 := body (E.1, E.2.1, ({ frames := lv, cells := k1, slots := n1, locals := 64 * lv } : Room), s', mk, (sv_ (vr_ (some a) :: As)).toArray, below', meth, c) ⟨C.1, hby, hml, hown, hts', hlk, hK', ⟨m, hR'⟩, C.2.2.2.2.2.2.2.2.1, rfl, rfl⟩ hre htb (name_of_methodNamed hnm hme).1 v m1 k1 n1 hrc (by show 0 + k1 ≤ k1; omega) (by show 0 + n1 ≤ n1; omega) s'.heap [] ls9 hR' va_S.rf hl9
      rw [Nat.zero_add, Nat.zero_add] at hb9
      exact hb9
    obtain ⟨cellB, hcB, hoB, hclB⟩ := rp_recv (s := eS_ E) hK hR kd (hb a rfl) hkd hcn
    intro T hT X
    rcases vy_callVU X C.1 (C := Cn) (owner := owner) C.2.2.2.1 (hts _ q1) (hts _ q2) hdecl ⟨hd.1, hd.2.1⟩ (hts _ q3) (hts _ q4) hB (by rw [hT]; exact hcB) hoB hclB (g := F0 (eM_ E) pc ls (sv_ (As.reverse ++ vr_ (some a) :: st))) rfl (by rw [C.2.2.1]; exact hl.1) (argsL := sv_ As) (rest := sv_ st) (fun sig h => by
        have h2 := hd.2.2
        rw [h] at h2
        show (sv_ As).length = _
        rw [sv_, List.length_map, hna]
        exact (Option.some.inj h2).symm) (sv_rev As (some a) st) (tc_room hst) (by rw [C.2.1]; exact d)
      (fun vm₁ hW₁ => ⟨hf.1, hf.2, ct_pre (av := vr_ (some a) :: As) hK hR (T.setVm vm₁) hT hW₁⟩) with ⟨v9, vm₁, ⟨U', l2, c2, s2⟩, hW₁, X', ⟨g', mk, t, L9, e1, e2, hq, h1, hL9, h2, h3⟩, stp⟩ | ⟨q, vm₁, ⟨U', l2, c2, s2⟩, hW₁, X', ⟨g', mk, t, L9, E9, ce, e1, e2, hq, hce, hcv, hcl, h1, hL9, h2, h3⟩, stp⟩
    · dsimp only [Pt.U, Pt.locs, Pt.cells, Pt.slots] at X' e1 e2 h1 h2 h3 stp
      subst h1; subst h2; subst h3
      exact Or.inl ⟨v9, (T.setVm vm₁).calling g' mk (sv_ (vr_ (some a) :: As)).toArray, t, U', L9, hT, X', hL9, e1, e2, hq, stp⟩
    · dsimp only [Pt.U, Pt.locs, Pt.cells, Pt.slots] at X' e1 e2 h1 h2 h3 stp hcl
      subst h1; subst h2; subst h3
      exact Or.inr ⟨q, (T.setVm vm₁).calling g' mk (sv_ (vr_ (some a) :: As)).toArray, t, U', L9, E9, ce, hT, X', hL9, e1, e2, hq, hce, hcv, vx_cls hW₁ hcl, stp⟩
theorem x_callK {enc : β → Fn_} {rc : Rs β} {f : β → Mm → Rs α} (C : Cx_ l g E own cc nL lvl) {i : Nat} {x y : MethodName} {Cn owner : String} {bytes : ByteArray} {maxL : Nat} {ret : Option FieldType} (lv na : Nat) (As : List TV) {b : Option Nat} {L0 : List (Nat × TV)} (kd : Nat) (hy : plainName y.cls = true) (hn : ls_ (vr_ b :: As) ≤ maxL) (hL : la_ 0 (vr_ b :: As) = L0)
    (body : ∀ E' : Me_, Cx_ l g E' y.cls bytes maxL lv → (eT_ E').sig.returnType = ret → (∀ x ∈ (eC_ E').exceptionTable.toList, False) → ((eT_ E').name = y.name) → Sm_ l g E' maxL enc rc 0 0 0 L0 [] m)
    (hb : ∀ a, b = some a → mk_ m a = kd) (hb0 : b ≠ none) (hkd : kk_ kd = true) (hcn : cn_ kd = Cn) (q1 : Cond.methodLink own i x ∈ lw_all) (q2 : Cond.sameMethod x.cls owner x.name x.desc ∈ lw_all) (q3 : Cond.selects Cn x y ∈ lw_all) (q4 : Cond.instanceMethod y ∈ lw_all) (q6 : Cond.code y bytes maxL ret ∈ lw_all) (qA : Cond.declares ⟨owner, x.name, x.desc⟩ ∈ lw_tbl) (hd : owner ≠ "java/lang/invoke/MethodHandle" ∧ owner ≠ "java/lang/invoke/VarHandle" ∧ (parseMethodDescriptor x.desc).map (fun d => d.parameters.length) = some na) (hlv : lv < lvl) (hmx : maxL ≤ 45) (hna : As.length = na) (hst : tc_ st ≤ 8) (d : decode cc pc = .ok (.invokevirtual i, 3)) (pc' : Nat) (hp : pc + 3 = pc') (hA : As.reverse ++ vr_ b :: st = stA)
    (hen : ∀ v ov, enc v = .inl ov → ∃ t, sv_ t = ov.toList)
    (kk : ∀ v m1 k1 n1 (t : List TV) ov, enc v = .inl ov → sv_ t = ov.toList → Sm_ l g E nL en (f v m1) (k + k1) (n + n1) pc' L (t ++ st) m1)
    (kx : ∀ v m1 k1 n1 i, enc v = .inr i → Sx_ l g E nL en (f v m1) (k + k1) (n + n1) pc L st i m1) : Sm_ l g E nL en (bd_ rc f) k n pc L stA m := by
  have hts := C.2.2.2.2.1
  refine x_callP (TB := fun c => ∀ x ∈ c.exceptionTable.toList, False) C lv na As kd hy hn hL (bytes := bytes) (maxL := maxL) (ret := ret) body ?_ hb hb0 hkd hcn q1 q2 q3 q4 (va_Decl.abs (KN.use C.2.2.2.2.2.2.1 qA rfl)) hd hlv hmx hna hst d pc' hp hA hen kk kx
  intro U mk hW hnm
  obtain ⟨meth, c, h1, h2, h3, h4, h5, h6, h7, -⟩ := Cond.code_spec (args := #[]) hnm (word_at hW (lw_self _ q6).2 (hts _ q6))
  refine ⟨meth, c, h1, h2, h3, h4, h5, h6, fun x hx => ?_⟩
  rw [Array.isEmpty_iff.mp h7] at hx
  cases hx
theorem x_callH {enc : β → Fn_} {rc : Rs β} {f : β → Mm → Rs α} (C : Cx_ l g E own cc nL lvl) {i : Nat} {x y : MethodName} {Cn owner : String} {bytes : ByteArray} {maxL : Nat} {ret : Option FieldType} (lv na : Nat) (As : List TV) {b : Option Nat} {L0 : List (Nat × TV)} (kd : Nat) (hy : plainName y.cls = true) (hn : ls_ (vr_ b :: As) ≤ maxL) (hL : la_ 0 (vr_ b :: As) = L0)
    (body : ∀ E' : Me_, Cx_ l g E' y.cls bytes maxL lv → (eT_ E').sig.returnType = ret → True → ((eT_ E').name = y.name) → Sm_ l g E' maxL enc rc 0 0 0 L0 [] m)
    (hb : ∀ a, b = some a → mk_ m a = kd) (hb0 : b ≠ none) (hkd : kk_ kd = true) (hcn : cn_ kd = Cn) (q1 : Cond.methodLink own i x ∈ lw_all) (q2 : Cond.sameMethod x.cls owner x.name x.desc ∈ lw_all) (q3 : Cond.selects Cn x y ∈ lw_all) (q4 : Cond.instanceMethod y ∈ lw_all) {hh : List (Nat × Nat × Nat × Nat)} (q6 : Cond.codeWith y bytes maxL ret hh ∈ lw_all) (qA : Cond.declares ⟨owner, x.name, x.desc⟩ ∈ lw_tbl) (hd : owner ≠ "java/lang/invoke/MethodHandle" ∧ owner ≠ "java/lang/invoke/VarHandle" ∧ (parseMethodDescriptor x.desc).map (fun d => d.parameters.length) = some na) (hlv : lv < lvl) (hmx : maxL ≤ 45) (hna : As.length = na) (hst : tc_ st ≤ 8) (d : decode cc pc = .ok (.invokevirtual i, 3)) (pc' : Nat) (hp : pc + 3 = pc') (hA : As.reverse ++ vr_ b :: st = stA)
    (hen : ∀ v ov, enc v = .inl ov → ∃ t, sv_ t = ov.toList)
    (kk : ∀ v m1 k1 n1 (t : List TV) ov, enc v = .inl ov → sv_ t = ov.toList → Sm_ l g E nL en (f v m1) (k + k1) (n + n1) pc' L (t ++ st) m1)
    (kx : ∀ v m1 k1 n1 i, enc v = .inr i → Sx_ l g E nL en (f v m1) (k + k1) (n + n1) pc L st i m1) : Sm_ l g E nL en (bd_ rc f) k n pc L stA m := by
  have hts := C.2.2.2.2.1
  refine x_callP (TB := fun _ => True) C lv na As kd hy hn hL (bytes := bytes) (maxL := maxL) (ret := ret) body ?_ hb hb0 hkd hcn q1 q2 q3 q4 (va_Decl.abs (KN.use C.2.2.2.2.2.2.1 qA rfl)) hd hlv hmx hna hst d pc' hp hA hen kk kx
  intro U mk hW hnm
  obtain ⟨m9, meth, c, hn9, h1, h2, h3, h4, -, h5, h6, -⟩ := Cond.codeWith_spec (args := #[]) (word_at hW (lw_self _ q6).2 (hts _ q6))
  cases hnm.symm.trans hn9
  exact ⟨meth, c, h1, h2, h3, h4, h5, h6, trivial⟩
end PLC
