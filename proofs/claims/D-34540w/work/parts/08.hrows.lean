section HRW
variable {α : Type} {l : Launch} {g : GG} {E : Me_} {own : String} {cc : ByteArray} {nL lvl : Nat} {en : α → Fn_} {k n pc : Nat} {L L' : List (Nat × TV)} {st : List TV} {m : Mm}
theorem kn_ap {s : State} {args : Array Value} (hts : ∀ w ∈ lw_all, w.before args s = true) (hK : KN g s) {ci : Nat} {r : vw_C} (hc : clT[ci]? = some r) : ∀ x y, x < r.2.2 → y < r.2.2 → x ≠ y → (gD_ g).2 ci x ≠ (gD_ g).2 ci y := by
  intro x y hx hy hne
  obtain ⟨hS, hfc, kC, hkC, hkind⟩ := hK.1.1 ci _ hc
  obtain ⟨c1, k1, i1, fa, hia, ea⟩ := hS x hx
  obtain ⟨c2, k2, i2, fb, hib, eb⟩ := hS y hy
  have hin := clT_in ci r hc
  have hty := clT_ty ci r hc
  rw [← ea, ← eb]
  rcases clT_nm ci r hc x hx y hy hne with h | ⟨h1, h2, h3⟩
  · refine u_apart (u_lays hts hin hx) (u_lays hts hin hy) hia hib ?_
    rw [(State.fieldFound?_type hia (hty x hx)).1, (State.fieldFound?_type hib (hty y hy)).1]
    exact h
  · have g1 := hts _ (hin _ (u_in_lay hx))
    have g2 := hts _ (hin _ (u_in_lay hy))
    unfold u_lay at g1 g2
    rw [if_pos h1] at g1
    rw [if_pos h2] at g2
    obtain ⟨a, _, c1', k1', i1', f1', ha, _, hf1, _, _, _, hown1, _, d1, hd1, hn1, _⟩ := Cond.laysFinal_spec g1
    obtain ⟨a', _, c2', k2', i2', f2', ha', _, hf2, _, _, _, hown2, _, d2, hd2, hn2, _⟩ := Cond.laysFinal_spec g2
    cases hia.symm.trans hf1
    cases hib.symm.trans hf2
    cases ha.symm.trans ha'
    intro hs
    rw [hs] at hd1
    cases hd1.symm.trans hd2
    obtain ⟨k3, e3, n3⟩ := Vm.findClass_spec hown1
    obtain ⟨k4, e4, n4⟩ := Vm.findClass_spec hown2
    cases e3.symm.trans (State.fieldFound?_spec hia).1
    cases e4.symm.trans (State.fieldFound?_spec hib).1
    exact h3 (n3.symm.trans ((hn1.symm.trans hn2).trans n4))
/-- what a field's read needs -/
theorem s_getf {r : Rs α} (C : Cx_ l g E own cc nL lvl) {a ci i : Nat} {q : vw_C} {ref : String} (hk : mk_ m a = ci + 1) (hc : clT[ci]? = some q) (j : Nat) (hj : j < q.2.2) (hlink : (Cond.fieldLink own i ref (q.2.1 j).2.1 (q.2.1 j).2.2.1) ∈ lw_all) (hsame : (q.2.1 j).1 = ref ∨ (Cond.sameField ref (q.2.1 j).1 (q.2.1 j).2.1 (q.2.1 j).2.2.1) ∈ lw_all) (v : TV) (hv : vt_ (tyT ci j) m a j = tv_ v) (d : decode cc pc = .ok (.getfield i, 3)) (pc' : Nat) (hp : pc + 3 = pc') (kk : Sm_ l g E nL en r k n pc' L (v :: st) m) : Sm_ l g E nL en r k n pc L (vr_ (some a) :: st) m := by
  subst hp
  refine Sm_go kk (fun H locs ls Q hR hS hl w => ?_)
  obtain ⟨C0, T, N⟩ := q
  obtain ⟨hSl, hfc, kC, hkC, hkind⟩ := C.2.2.2.2.2.2.1.1.1 ci _ hc
  obtain ⟨cell, q1, q2, q3, q4⟩ := (hR.2.2.2.1 a).1 ci _ hk hc
  obtain ⟨cf, kf, fi, fd, hi, hsl⟩ := hSl j hj
  have hsm : (eS_ E).fieldFound? ref (T j).2.1 (T j).2.2.1 = some (cf, kf, fi, fd) := by
    rcases hsame with h | h
    · rw [← h]; exact hi
    · exact u_same (C.2.2.2.2.1 _ h) _ hi
  exact W.getf (v := tv_ v) C.1 C.2.1 C.2.2.2.1 (C.2.2.2.2.1 _ hlink) hsm (u_facts hfc hkC (u_lays C.2.2.2.2.1 (clT_in ci _ hc) hj) hi).1 q1 (by rw [q3]; exact fun h => by cases h) (by rw [hsl, q4 j hj]; exact congrArg some hv) rfl rfl d (w ls hl)
theorem s_getfN {r : Rs α} (C : Cx_ l g E own cc nL lvl) {a ci i : Nat} {q : vw_C} {ref host : String} (hk : mk_ m a = ci + 1) (hc : clT[ci]? = some q) (j : Nat) (hj : j < q.2.2) (hlink : (Cond.fieldLinkNest own i ref (q.2.1 j).2.1 (q.2.1 j).2.2.1 host) ∈ lw_tbl) (hsame : (q.2.1 j).1 = ref) (v : TV) (hv : vt_ (tyT ci j) m a j = tv_ v) (d : decode cc pc = .ok (.getfield i, 3)) (pc' : Nat) (hp : pc + 3 = pc') (kk : Sm_ l g E nL en r k n pc' L (v :: st) m) : Sm_ l g E nL en r k n pc L (vr_ (some a) :: st) m := by
  subst hp
  refine Sm_go kk (fun H locs ls Q hR hS hl w => ?_)
  obtain ⟨C0, T, N⟩ := q
  obtain ⟨hSl, hfc, kC, hkC, hkind⟩ := C.2.2.2.2.2.2.1.1.1 ci _ hc
  obtain ⟨cell, q1, q2, q3, q4⟩ := (hR.2.2.2.1 a).1 ci _ hk hc
  obtain ⟨cf, kf, fi, fd, hi, hsl⟩ := hSl j hj
  have hsm : (eS_ E).fieldFound? ref (T j).2.1 (T j).2.2.1 = some (cf, kf, fi, fd) := by
    rw [← hsame]; exact hi
  exact va_Wgetf (v := tv_ v) C.1 C.2.1 C.2.2.2.1 (va_Nw.use rfl (KN.use C.2.2.2.2.2.2.1 hlink rfl)) hsm (u_facts hfc hkC (u_lays C.2.2.2.2.1 (clT_in ci _ hc) hj) hi).1 q1 (by rw [q3]; exact fun h => by cases h) (by rw [hsl, q4 j hj]; exact congrArg some hv) rfl rfl d (w ls hl)
/-- the heap behind a write of one place -/
theorem rp_set {H H' : Heap} {m m' : Mm} {a : Nat} (hR : Rp_ g m H) (ha : ra_ g m' H' a) (hz : H'.size = H.size) (ho : ∀ q, q ≠ a → H'[q]? = H[q]?) (hb : mb_ m ≤ a) (hlt : a < H.size) (hst : ∃ ce : Cell, H'[a]? = some ce ∧ ce.vm.isStatics = false)
    (hk : ∀ b, b ≠ a → mk_ m' b = mk_ m b) (hka : mk_ m' a = mk_ m a ∨ kc_ (mk_ m' a) = true) (hl : ∀ b, b ≠ a → ml_ m' b = ml_ m b) (hi : ∀ b j, b ≠ a → mi_ m' b j = mi_ m b j) (hj : ∀ b j, b ≠ a → mj_ m' b j = mj_ m b j) (hr : ∀ b j, b ≠ a → mr_ m' b j = mr_ m b j) (hmz : mz_ m' = mz_ m) (hmb : mb_ m' = mb_ m) : Rp_ g m' H' := by
  obtain ⟨h1, h2, h3, h4, h5, h6, h7, h8⟩ := hR
  refine ⟨by rw [hz, hmz]; exact h1, by rw [hmb]; exact h2, by rw [hmb, hmz]; exact h3, fun b => ?_, fun b h => ?_, fun b => ?_, fun q hq => ?_, fun q g1 g2 => ?_⟩
  · by_cases e : b = a
    · subst e; exact ha
    · exact ra_kept (h4 b) (ho b e) (hk b e) (hl b e) (fun j => hi b j e) (fun j => hj b j e) (fun j => hr b j e)
  · have : b ≠ a := by rintro rfl; rw [hmz] at h; rw [h1] at hlt; omega
    rw [hk b this]
    exact h5 b (by rw [← hmz]; exact h)
  · by_cases e : b = a
    · exact Or.inr (Or.inr (by rw [e, hmb]; exact hb))
    · rw [hk b e, hmb]
      exact h6 b
  · have : q ≠ a := by rintro rfl; rw [h2] at hq; omega
    rw [ho q this]
    exact h7 q hq
  · by_cases e : q = a
    · subst e; exact hst
    · rw [ho q e]
      exact h8 q g1 (by rw [← hmz]; exact g2)
theorem rp_base {H : Heap} {m : Mm} {a : Nat} (hR : Rp_ g m H) (h0 : mk_ m a ≠ 0) (hc : kc_ (mk_ m a) = false) : mb_ m ≤ a := by
  rcases hR.2.2.2.2.2.1 a with h | h | h
  · exact absurd h h0
  · rw [hc] at h; cases h
  · exact h
/-- an object's field written: the picture at its address -/
theorem ra_obj {H' : Heap} {m m' : Mm} {a ci j : Nat} {q : vw_C} {cell : Cell} {v : Value} (hk : mk_ m a = ci + 1) (hk' : mk_ m' a = ci + 1) (hc : clT[ci]? = some q) (hj : j < q.2.2) (hap : ∀ x y, x < q.2.2 → y < q.2.2 → x ≠ y → (gD_ g).2 ci x ≠ (gD_ g).2 ci y) (q2 : cell.cls = (gD_ g).1 ci) (q3 : cell.vm = .none) (q4 : ∀ k, k < q.2.2 → cell.slots[(gD_ g).2 ci k]? = some (vt_ (tyT ci k) m a k))
    (e1 : H'[a]? = some (cell.setSlot ((gD_ g).2 ci j) v)) (hv : vt_ (tyT ci j) m' a j = v) (ho : ∀ x, x ≠ j → vt_ (tyT ci x) m' a x = vt_ (tyT ci x) m a x) : ra_ g m' H' a := by
  have hci : ci < 30 := by
    have := (List.getElem?_eq_some_iff.mp hc).1
    simpa [clT] using this
  refine ⟨fun c2 r e c => ?_, fun t ty e c => ?_, fun i hi e => ?_, fun i hi e => ?_⟩
  · have : c2 = ci := by omega
    subst this
    cases c.symm.trans hc
    refine t_OB.to (V := updV (fun x => vt_ (tyT c2 x) m a x) j v) ⟨_, e1, q2, q3, t_set q4 hap hj v⟩ (fun x _ => ?_)
    by_cases e : x = j
    · subst e
      simp [updV, hv]
    · simp [updV, e, ho x e]
  · omega
  · omega
  · omega
theorem clT_lt {ci : Nat} {q : vw_C} (hc : clT[ci]? = some q) : ci < 30 := by
  have := (List.getElem?_eq_some_iff.mp hc).1
  simpa [clT] using this
theorem s_putf_core {r : Rs α} (C : Cx_ l g E own cc nL lvl) {a ci j : Nat} {q : vw_C} (hk : mk_ m a = ci + 1) (hc : clT[ci]? = some q) (hj : j < q.2.2) (hb : kc_ (ci + 1) = false ∨ mb_ m ≤ a) (v : TV) (m' : Mm)
    (hv : vt_ (tyT ci j) m' a j = tv_ v) (ho : ∀ x, x ≠ j → vt_ (tyT ci x) m' a x = vt_ (tyT ci x) m a x) (hkk : mk_ m' = mk_ m) (hll : ml_ m' = ml_ m) (hi : ∀ b x, b ≠ a → mi_ m' b x = mi_ m b x) (hjj : ∀ b x, b ≠ a → mj_ m' b x = mj_ m b x) (hr : ∀ b x, b ≠ a → mr_ m' b x = mr_ m b x) (hmz : mz_ m' = mz_ m) (hmb : mb_ m' = mb_ m)
    (step : ∀ (H : Heap) (locs : List Loc) (ls : Array Slot) (Q : State → Prop) (cell : Cell) (cf kf fi fd), H[a]? = some cell → cell.cls = (gD_ g).1 ci → cell.vm = .none → (eS_ E).fieldFound? (q.2.1 j).1 (q.2.1 j).2.1 (q.2.1 j).2.2.1 = some (cf, kf, fi, fd) → fd.slot < cell.slots.size → (∀ H' : Heap, H'[a]? = some (cell.setSlot fd.slot (tv_ v)) → H'.size = H.size → (∀ z, z ≠ a → H'[z]? = H[z]?) → Wt_ l E H' (locs ++ [⟨a, fd.slot⟩]) k n Q (F0 (eM_ E) (pc + 3) ls (sv_ st))) → Wt_ l E H locs k n Q (F0 (eM_ E) pc ls (sv_ (v :: vr_ (some a) :: st))))
    (kk : Sm_ l g E nL en r k n (pc + 3) L st m') : Sm_ l g E nL en r k n pc L (v :: vr_ (some a) :: st) m := by
  intro v0 m0 k0 n0 hr0 h1 h2 H locs ls hR hS hl
  have hKN := C.2.2.2.2.2.2.1
  obtain ⟨hSl, hfc, kC, hkC, hkind⟩ := hKN.1.1 ci _ hc
  obtain ⟨cell, q1, q2, q3, q4⟩ := (hR.2.2.2.1 a).1 ci _ hk hc
  obtain ⟨cf, kf, fi, fd, hfi, hsl⟩ := hSl j hj
  have hba : mb_ m ≤ a := by
    rcases hb with h | h
    · exact rp_base hR (by rw [hk]; omega) (by rw [hk]; exact h)
    · exact h
  have hlt : a < H.size := (Array.getElem?_eq_some_iff.mp q1).1
  refine step H locs ls _ cell cf kf fi fd q1 q2 q3 hfi (by rw [hsl]; exact k2_hasslot (q4 j hj)) (fun H' e1 e2 e3 => ?_)
  refine kk v0 m0 k0 n0 hr0 h1 h2 H' _ ls (rp_set hR (ra_obj hk (by rw [hkk]; exact hk) hc hj (kn_ap C.2.2.2.2.1 hKN hc) q2 q3 q4 (by rw [← hsl]; exact e1) hv ho) e2 e3 hba hlt ⟨_, e1, ?_⟩ (fun b _ => by rw [hkk]) (Or.inl (by rw [hkk])) (fun b _ => by rw [hll]) hi hjj hr hmz hmb) (hS.put e2 e3 (by show gB_ g ≤ a; rw [hR.2.1]; exact hba)) hl
  show (cell.setSlot fd.slot (tv_ v)).vm.isStatics = false
  show cell.vm.isStatics = false
  rw [q3]; rfl

theorem vt_si (ty : FieldType) (m : Mm) (a k : Nat) (x : Int32) (b j : Nat) (h : ¬ (b = a ∧ j = k)) : vt_ ty (si_ m a k x) b j = vt_ ty m b j := by
  cases ty <;> simp [vt_, mi_si, mj_si, mr_si, h]
theorem vt_sj (ty : FieldType) (m : Mm) (a k : Nat) (x : Int64) (b j : Nat) (h : ¬ (b = a ∧ j = k)) : vt_ ty (sj_ m a k x) b j = vt_ ty m b j := by
  cases ty <;> simp [vt_, mi_sj, mj_sj, mr_sj, h]
theorem vt_sr (ty : FieldType) (m : Mm) (a k : Nat) (x : Option Nat) (b j : Nat) (h : ¬ (b = a ∧ j = k)) : vt_ ty (sr_ m a k x) b j = vt_ ty m b j := by
  cases ty <;> simp [vt_, mi_sr, mj_sr, mr_sr, h]
/-- the three kinds of what is written -/
def sv1_ (m : Mm) (a k : Nat) (v : TV) : Mm := match v with
  | .inl x => si_ m a k x
  | .inr (.inl x) => sj_ m a k x
  | .inr (.inr x) => sr_ m a k x
/-- a value fits a field of a type -/
def ft_ (ty : FieldType) (v : TV) : Prop := match ty, v with
  | .int, .inl _ => True
  | .boolean, .inl x => x = 0 ∨ x = 1
  | .byte, .inl x => x = 0 ∨ x = 1
  | .long, .inr (.inl _) => True
  | .object _, .inr (.inr _) => True
  | .array _, .inr (.inr _) => True
  | _, _ => False
theorem ft_nar {ty : FieldType} {v : TV} (h : ft_ ty v) : narrow ty (tv_ v) = tv_ v ∧ fits ty (tv_ v) = true := by
  rcases v with x | x | x <;> cases ty <;> simp only [ft_] at h <;> first | exact h.elim | (constructor <;> rfl) | skip
  · rcases h with rfl | rfl <;> constructor <;> decide
  · rcases h with rfl | rfl <;> constructor <;> decide
  · cases x <;> constructor <;> rfl
  · cases x <;> constructor <;> rfl
theorem ft_vt {ty : FieldType} {v : TV} (h : ft_ ty v) (m : Mm) (a k : Nat) : vt_ ty (sv1_ m a k v) a k = tv_ v := by
  rcases v with x | x | x <;> cases ty <;> simp only [ft_] at h <;> first | exact h.elim | simp [sv1_, vt_, mi_si, mj_sj, mr_sr, tv_]
theorem s_putf_go {r : Rs α} (C : Cx_ l g E own cc nL lvl) {a ci j : Nat} {q : vw_C} (hk : mk_ m a = ci + 1) (hc : clT[ci]? = some q) (hj : j < q.2.2) (hb : kc_ (ci + 1) = false ∨ mb_ m ≤ a) (v : TV) (hf : ft_ (tyT ci j) v)
    (step : ∀ (H : Heap) (locs : List Loc) (ls : Array Slot) (Q : State → Prop) (cell : Cell) (cf kf fi fd), H[a]? = some cell → cell.cls = (gD_ g).1 ci → cell.vm = .none → (eS_ E).fieldFound? (q.2.1 j).1 (q.2.1 j).2.1 (q.2.1 j).2.2.1 = some (cf, kf, fi, fd) → fd.slot < cell.slots.size → (∀ H' : Heap, H'[a]? = some (cell.setSlot fd.slot (tv_ v)) → H'.size = H.size → (∀ z, z ≠ a → H'[z]? = H[z]?) → Wt_ l E H' (locs ++ [⟨a, fd.slot⟩]) k n Q (F0 (eM_ E) (pc + 3) ls (sv_ st))) → Wt_ l E H locs k n Q (F0 (eM_ E) pc ls (sv_ (v :: vr_ (some a) :: st))))
    (kk : Sm_ l g E nL en r k n (pc + 3) L st (sv1_ m a j v)) : Sm_ l g E nL en r k n pc L (v :: vr_ (some a) :: st) m := by
  rcases v with x | x | x
  · exact s_putf_core C hk hc hj hb (vi_ x) (si_ m a j x) (ft_vt hf m a j) (fun y hy => vt_si _ _ _ _ _ _ _ (fun e => hy e.2)) rfl rfl (fun b y hb => by rw [mi_si, if_neg (fun e => hb e.1)]) (fun b y hb => rfl) (fun b y hb => rfl) rfl rfl step kk
  · exact s_putf_core C hk hc hj hb (vj_ x) (sj_ m a j x) (ft_vt hf m a j) (fun y hy => vt_sj _ _ _ _ _ _ _ (fun e => hy e.2)) rfl rfl (fun b y hb => rfl) (fun b y hb => by rw [mj_sj, if_neg (fun e => hb e.1)]) (fun b y hb => rfl) rfl rfl step kk
  · exact s_putf_core C hk hc hj hb (vr_ x) (sr_ m a j x) (ft_vt hf m a j) (fun y hy => vt_sr _ _ _ _ _ _ _ (fun e => hy e.2)) rfl rfl (fun b y hb => rfl) (fun b y hb => rfl) (fun b y hb => by rw [mr_sr, if_neg (fun e => hb e.1)]) rfl rfl step kk
/-- putfield: a field that isn't final -/
theorem s_putf {r : Rs α} (C : Cx_ l g E own cc nL lvl) {a ci i : Nat} {q : vw_C} {ref : String} (hk : mk_ m a = ci + 1) (hc : clT[ci]? = some q) (j : Nat) (hj : j < q.2.2) (hb : kc_ (ci + 1) = false ∨ mb_ m ≤ a) (hlink : (Cond.fieldLink own i ref (q.2.1 j).2.1 (q.2.1 j).2.2.1) ∈ lw_all) (hsame : (q.2.1 j).1 = ref ∨ (Cond.sameField ref (q.2.1 j).1 (q.2.1 j).2.1 (q.2.1 j).2.2.1) ∈ lw_all) (hfin : (q.2.1 j).2.2.2 = false) (v : TV) (hf : ft_ (tyT ci j) v) (d : decode cc pc = .ok (.putfield i, 3)) (pc' : Nat) (hp : pc + 3 = pc') (kk : Sm_ l g E nL en r k n pc' L st (sv1_ m a j v)) : Sm_ l g E nL en r k n pc L (v :: vr_ (some a) :: st) m := by
  subst hp
  refine s_putf_go C hk hc hj hb v hf (fun H locs ls Q cell cf kf fi fd q1 q2 q3 hi hlt w => ?_) kk
  obtain ⟨hSl, hfc, kC, hkC, hkind⟩ := C.2.2.2.2.2.2.1.1.1 ci _ hc
  have hts := C.2.2.2.2.1
  have hin := clT_in ci _ hc
  have hsm : (eS_ E).fieldFound? ref (q.2.1 j).2.1 (q.2.1 j).2.2.1 = some (cf, kf, fi, fd) := by
    rcases hsame with h | h
    · rw [← h]; exact hi
    · exact u_same (hts _ h) _ hi
  have hlay := hts _ (hin _ (u_in_lay hj))
  unfold u_lay at hlay
  rw [if_neg (by rw [hfin]; decide)] at hlay
  have h6 := u_store hfc hkC hkind hlay hi (clT_ty ci _ hc j hj) (ft_nar hf).1 (ft_nar hf).2
  exact W.putK C.1 C.2.1 (f := fd) ⟨C.2.2.2.1, hts _ hlink, ⟨_, _, _, hsm⟩, (u_facts hfc hkC (u_lays hts hin hj) hi).1⟩ (by rw [q2]; exact h6) q1 q3 hlt rfl rfl d w
/-- .. a final one, in its constructor -/
theorem s_putF {r : Rs α} (C : Cx_ l g E own cc nL lvl) (hin2 : (eT_ E).name = "<init>") {a ci i : Nat} {q : vw_C} (hk : mk_ m a = ci + 1) (hc : clT[ci]? = some q) (j : Nat) (hj : j < q.2.2) (hb : kc_ (ci + 1) = false ∨ mb_ m ≤ a) (hlink : (Cond.fieldLink own i own (q.2.1 j).2.1 (q.2.1 j).2.2.1) ∈ lw_all) (hsame : (q.2.1 j).1 = own) (hfin : (q.2.1 j).2.2.2 = true) (v : TV) (hf : ft_ (tyT ci j) v) (d : decode cc pc = .ok (.putfield i, 3)) (pc' : Nat) (hp : pc + 3 = pc') (kk : Sm_ l g E nL en r k n pc' L st (sv1_ m a j v)) : Sm_ l g E nL en r k n pc L (v :: vr_ (some a) :: st) m := by
  subst hp
  refine s_putf_go C hk hc hj hb v hf (fun H locs ls Q cell cf kf fi fd q1 q2 q3 hi hlt w => ?_) kk
  obtain ⟨hSl, hfc, kC, hkC, hkind⟩ := C.2.2.2.2.2.2.1.1.1 ci _ hc
  have hts := C.2.2.2.2.1
  have hin := clT_in ci _ hc
  have hsm : (eS_ E).fieldFound? own (q.2.1 j).2.1 (q.2.1 j).2.2.1 = some (cf, kf, fi, fd) := by rw [← hsame]; exact hi
  have hlay := hts _ (hin _ (u_in_lay hj))
  unfold u_lay at hlay
  rw [if_pos hfin] at hlay
  have hcf : (eM_ E).cls = cf := by
    obtain ⟨_, _, c', _, _, _, -, -, hf', -, -, -, hown2, -⟩ := Cond.laysFinal_spec hlay
    have e1 : c' = cf := by have := hi.symm.trans hf'; simp at this; exact this.1.symm
    rw [hsame] at hown2
    rw [← e1]; exact Option.some.inj (C.2.2.2.1.symm.trans hown2)
  have h6 := u_fits hfc hkC hkind (Or.inr hlay) hi (clT_ty ci _ hc j hj) (ft_nar hf).1 (ft_nar hf).2
  exact W.putFinK C.1 C.2.1 (f := fd) C.2.2.2.1 (hts _ hlink) hsm (u_facts hfc hkC (u_lays hts hin hj) hi).1 hcf hin2 (by rw [q2]; exact h6) q1 q3 hlt rfl rfl d w
/-- .. a nest mate's -/
theorem s_putN {r : Rs α} (C : Cx_ l g E own cc nL lvl) {a ci i : Nat} {q : vw_C} {ref host : String} (hk : mk_ m a = ci + 1) (hc : clT[ci]? = some q) (j : Nat) (hj : j < q.2.2) (hb : kc_ (ci + 1) = false ∨ mb_ m ≤ a) (hlink : (Cond.fieldLinkNest own i ref (q.2.1 j).2.1 (q.2.1 j).2.2.1 host) ∈ lw_tbl) (hsame : (q.2.1 j).1 = ref) (hfin : (q.2.1 j).2.2.2 = false) (v : TV) (hf : ft_ (tyT ci j) v) (d : decode cc pc = .ok (.putfield i, 3)) (pc' : Nat) (hp : pc + 3 = pc') (kk : Sm_ l g E nL en r k n pc' L st (sv1_ m a j v)) : Sm_ l g E nL en r k n pc L (v :: vr_ (some a) :: st) m := by
  subst hp
  refine s_putf_go C hk hc hj hb v hf (fun H locs ls Q cell cf kf fi fd q1 q2 q3 hi hlt w => ?_) kk
  obtain ⟨hSl, hfc, kC, hkC, hkind⟩ := C.2.2.2.2.2.2.1.1.1 ci _ hc
  have hts := C.2.2.2.2.1
  have hin := clT_in ci _ hc
  have hsm : (eS_ E).fieldFound? ref (q.2.1 j).2.1 (q.2.1 j).2.2.1 = some (cf, kf, fi, fd) := by rw [← hsame]; exact hi
  have hlay := hts _ (hin _ (u_in_lay hj))
  unfold u_lay at hlay
  rw [if_neg (by rw [hfin]; decide)] at hlay
  have h6 := u_store hfc hkC hkind hlay hi (clT_ty ci _ hc j hj) (ft_nar hf).1 (ft_nar hf).2
  exact va_WputK C.1 C.2.1 (f := fd) C.2.2.2.1 (va_Nw.use rfl (KN.use C.2.2.2.2.2.2.1 hlink rfl)) hsm (u_facts hfc hkC (u_lays hts hin hj) hi).1 (by rw [q2]; exact h6) q1 q3 hlt rfl rfl d w
end HRW
