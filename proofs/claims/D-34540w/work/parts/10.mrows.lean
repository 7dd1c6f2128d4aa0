section MRW
variable {α : Type} {l : Launch} {g : GG} {E : Me_} {own : String} {cc : ByteArray} {nL lvl : Nat} {en : α → Fn_} {k n pc : Nat} {L L' : List (Nat × TV)} {st : List TV} {m : Mm}
theorem x_pi (C : Cx_ l g E own cc nL lvl) {ref : String} {i : Nat} {x : Int32} {r0 : Option Nat} (ci : Nat) (q : vw_C) (hc : clT[ci]? = some q) (j : Nat) (hj : j < q.2.2) (hb : kc_ (ci + 1) = false) (hlink : (Cond.fieldLink own i ref (q.2.1 j).2.1 (q.2.1 j).2.2.1) ∈ lw_all) (hsame : ((q.2.1 j).1 = ref ∨ (Cond.sameField ref (q.2.1 j).1 (q.2.1 j).2.1 (q.2.1 j).2.2.1) ∈ lw_all)) (hfin : (q.2.1 j).2.2.2 = false) (hty : ft_ (tyT ci j) (vi_ x)) (kd : Nat) (hkd : ci + 1 = kd) (d : decode cc pc = .ok (.putfield i, 3)) (pc' : Nat) (hp : pc + 3 = pc') {f : Mm → Rs α} (kk : ∀ m', Sm_ l g E nL en (f m') k n pc' L st m') : Sm_ l g E nL en (pi_ m r0 kd j x f) k n pc L (vi_ x :: vr_ r0 :: st) m := by
  subst hkd
  cases r0 with
  | none => exact Sm_none
  | some a =>
    show Sm_ l g E nL en (if _ then _ else _) _ _ _ _ _ _
    split
    case isTrue h => exact s_putf C  h hc j hj (Or.inl hb) hlink hsame hfin (vi_ x) hty d pc' hp (kk _)
    case isFalse h => exact Sm_none
theorem x_piF (C : Cx_ l g E own cc nL lvl) (hin2 : (eT_ E).name = "<init>") {i : Nat} {x : Int32} {r0 : Option Nat} (ci : Nat) (q : vw_C) (hc : clT[ci]? = some q) (j : Nat) (hj : j < q.2.2) (hb : kc_ (ci + 1) = false) (hlink : (Cond.fieldLink own i own (q.2.1 j).2.1 (q.2.1 j).2.2.1) ∈ lw_all) (hsame : (q.2.1 j).1 = own) (hfin : (q.2.1 j).2.2.2 = true) (hty : ft_ (tyT ci j) (vi_ x)) (kd : Nat) (hkd : ci + 1 = kd) (d : decode cc pc = .ok (.putfield i, 3)) (pc' : Nat) (hp : pc + 3 = pc') {f : Mm → Rs α} (kk : ∀ m', Sm_ l g E nL en (f m') k n pc' L st m') : Sm_ l g E nL en (pi_ m r0 kd j x f) k n pc L (vi_ x :: vr_ r0 :: st) m := by
  subst hkd
  cases r0 with
  | none => exact Sm_none
  | some a =>
    show Sm_ l g E nL en (if _ then _ else _) _ _ _ _ _ _
    split
    case isTrue h => exact s_putF C hin2 h hc j hj (Or.inl hb) hlink hsame hfin (vi_ x) hty d pc' hp (kk _)
    case isFalse h => exact Sm_none
theorem x_piFb (C : Cx_ l g E own cc nL lvl) (hin2 : (eT_ E).name = "<init>") {i : Nat} {x : Int32} {r0 : Option Nat} (ci : Nat) (q : vw_C) (hc : clT[ci]? = some q) (j : Nat) (hj : j < q.2.2) (hlink : (Cond.fieldLink own i own (q.2.1 j).2.1 (q.2.1 j).2.2.1) ∈ lw_all) (hsame : (q.2.1 j).1 = own) (hfin : (q.2.1 j).2.2.2 = true) (hty : ft_ (tyT ci j) (vi_ x)) (kd : Nat) (hkd : ci + 1 = kd) (d : decode cc pc = .ok (.putfield i, 3)) (pc' : Nat) (hp : pc + 3 = pc') {f : Mm → Rs α} (kk : ∀ m', Sm_ l g E nL en (f m') k n pc' L st m') : Sm_ l g E nL en (wb_ m r0 (pi_ m r0 kd j x f)) k n pc L (vi_ x :: vr_ r0 :: st) m := by
  subst hkd
  cases r0 with
  | none => exact Sm_none
  | some a =>
    show Sm_ l g E nL en (if _ then (if _ then _ else _) else _) _ _ _ _ _ _
    split
    case isTrue hb =>
      split
      case isTrue h => exact s_putF C hin2 h hc j hj (Or.inr hb) hlink hsame hfin (vi_ x) hty d pc' hp (kk _)
      case isFalse h => exact Sm_none
    case isFalse h => exact Sm_none
theorem x_piN (C : Cx_ l g E own cc nL lvl) {ref host : String} {i : Nat} {x : Int32} {r0 : Option Nat} (ci : Nat) (q : vw_C) (hc : clT[ci]? = some q) (j : Nat) (hj : j < q.2.2) (hb : kc_ (ci + 1) = false) (hlink : (Cond.fieldLinkNest own i ref (q.2.1 j).2.1 (q.2.1 j).2.2.1 host) ∈ lw_tbl) (hsame : (q.2.1 j).1 = ref) (hfin : (q.2.1 j).2.2.2 = false) (hty : ft_ (tyT ci j) (vi_ x)) (kd : Nat) (hkd : ci + 1 = kd) (d : decode cc pc = .ok (.putfield i, 3)) (pc' : Nat) (hp : pc + 3 = pc') {f : Mm → Rs α} (kk : ∀ m', Sm_ l g E nL en (f m') k n pc' L st m') : Sm_ l g E nL en (pi_ m r0 kd j x f) k n pc L (vi_ x :: vr_ r0 :: st) m := by
  subst hkd
  cases r0 with
  | none => exact Sm_none
  | some a =>
    show Sm_ l g E nL en (if _ then _ else _) _ _ _ _ _ _
    split
    case isTrue h => exact s_putN C  h hc j hj (Or.inl hb) hlink hsame hfin (vi_ x) hty d pc' hp (kk _)
    case isFalse h => exact Sm_none
theorem x_pj (C : Cx_ l g E own cc nL lvl) {ref : String} {i : Nat} {x : Int64} {r0 : Option Nat} (ci : Nat) (q : vw_C) (hc : clT[ci]? = some q) (j : Nat) (hj : j < q.2.2) (hb : kc_ (ci + 1) = false) (hlink : (Cond.fieldLink own i ref (q.2.1 j).2.1 (q.2.1 j).2.2.1) ∈ lw_all) (hsame : ((q.2.1 j).1 = ref ∨ (Cond.sameField ref (q.2.1 j).1 (q.2.1 j).2.1 (q.2.1 j).2.2.1) ∈ lw_all)) (hfin : (q.2.1 j).2.2.2 = false) (hty : ft_ (tyT ci j) (vj_ x)) (kd : Nat) (hkd : ci + 1 = kd) (d : decode cc pc = .ok (.putfield i, 3)) (pc' : Nat) (hp : pc + 3 = pc') {f : Mm → Rs α} (kk : ∀ m', Sm_ l g E nL en (f m') k n pc' L st m') : Sm_ l g E nL en (pj_ m r0 kd j x f) k n pc L (vj_ x :: vr_ r0 :: st) m := by
  subst hkd
  cases r0 with
  | none => exact Sm_none
  | some a =>
    show Sm_ l g E nL en (if _ then _ else _) _ _ _ _ _ _
    split
    case isTrue h => exact s_putf C  h hc j hj (Or.inl hb) hlink hsame hfin (vj_ x) hty d pc' hp (kk _)
    case isFalse h => exact Sm_none
theorem x_pjF (C : Cx_ l g E own cc nL lvl) (hin2 : (eT_ E).name = "<init>") {i : Nat} {x : Int64} {r0 : Option Nat} (ci : Nat) (q : vw_C) (hc : clT[ci]? = some q) (j : Nat) (hj : j < q.2.2) (hb : kc_ (ci + 1) = false) (hlink : (Cond.fieldLink own i own (q.2.1 j).2.1 (q.2.1 j).2.2.1) ∈ lw_all) (hsame : (q.2.1 j).1 = own) (hfin : (q.2.1 j).2.2.2 = true) (hty : ft_ (tyT ci j) (vj_ x)) (kd : Nat) (hkd : ci + 1 = kd) (d : decode cc pc = .ok (.putfield i, 3)) (pc' : Nat) (hp : pc + 3 = pc') {f : Mm → Rs α} (kk : ∀ m', Sm_ l g E nL en (f m') k n pc' L st m') : Sm_ l g E nL en (pj_ m r0 kd j x f) k n pc L (vj_ x :: vr_ r0 :: st) m := by
  subst hkd
  cases r0 with
  | none => exact Sm_none
  | some a =>
    show Sm_ l g E nL en (if _ then _ else _) _ _ _ _ _ _
    split
    case isTrue h => exact s_putF C hin2 h hc j hj (Or.inl hb) hlink hsame hfin (vj_ x) hty d pc' hp (kk _)
    case isFalse h => exact Sm_none
theorem x_pjFb (C : Cx_ l g E own cc nL lvl) (hin2 : (eT_ E).name = "<init>") {i : Nat} {x : Int64} {r0 : Option Nat} (ci : Nat) (q : vw_C) (hc : clT[ci]? = some q) (j : Nat) (hj : j < q.2.2) (hlink : (Cond.fieldLink own i own (q.2.1 j).2.1 (q.2.1 j).2.2.1) ∈ lw_all) (hsame : (q.2.1 j).1 = own) (hfin : (q.2.1 j).2.2.2 = true) (hty : ft_ (tyT ci j) (vj_ x)) (kd : Nat) (hkd : ci + 1 = kd) (d : decode cc pc = .ok (.putfield i, 3)) (pc' : Nat) (hp : pc + 3 = pc') {f : Mm → Rs α} (kk : ∀ m', Sm_ l g E nL en (f m') k n pc' L st m') : Sm_ l g E nL en (wb_ m r0 (pj_ m r0 kd j x f)) k n pc L (vj_ x :: vr_ r0 :: st) m := by
  subst hkd
  cases r0 with
  | none => exact Sm_none
  | some a =>
    show Sm_ l g E nL en (if _ then (if _ then _ else _) else _) _ _ _ _ _ _
    split
    case isTrue hb =>
      split
      case isTrue h => exact s_putF C hin2 h hc j hj (Or.inr hb) hlink hsame hfin (vj_ x) hty d pc' hp (kk _)
      case isFalse h => exact Sm_none
    case isFalse h => exact Sm_none
theorem x_pjN (C : Cx_ l g E own cc nL lvl) {ref host : String} {i : Nat} {x : Int64} {r0 : Option Nat} (ci : Nat) (q : vw_C) (hc : clT[ci]? = some q) (j : Nat) (hj : j < q.2.2) (hb : kc_ (ci + 1) = false) (hlink : (Cond.fieldLinkNest own i ref (q.2.1 j).2.1 (q.2.1 j).2.2.1 host) ∈ lw_tbl) (hsame : (q.2.1 j).1 = ref) (hfin : (q.2.1 j).2.2.2 = false) (hty : ft_ (tyT ci j) (vj_ x)) (kd : Nat) (hkd : ci + 1 = kd) (d : decode cc pc = .ok (.putfield i, 3)) (pc' : Nat) (hp : pc + 3 = pc') {f : Mm → Rs α} (kk : ∀ m', Sm_ l g E nL en (f m') k n pc' L st m') : Sm_ l g E nL en (pj_ m r0 kd j x f) k n pc L (vj_ x :: vr_ r0 :: st) m := by
  subst hkd
  cases r0 with
  | none => exact Sm_none
  | some a =>
    show Sm_ l g E nL en (if _ then _ else _) _ _ _ _ _ _
    split
    case isTrue h => exact s_putN C  h hc j hj (Or.inl hb) hlink hsame hfin (vj_ x) hty d pc' hp (kk _)
    case isFalse h => exact Sm_none
theorem x_pr (C : Cx_ l g E own cc nL lvl) {ref : String} {i : Nat} {x : Option Nat} {r0 : Option Nat} (ci : Nat) (q : vw_C) (hc : clT[ci]? = some q) (j : Nat) (hj : j < q.2.2) (hb : kc_ (ci + 1) = false) (hlink : (Cond.fieldLink own i ref (q.2.1 j).2.1 (q.2.1 j).2.2.1) ∈ lw_all) (hsame : ((q.2.1 j).1 = ref ∨ (Cond.sameField ref (q.2.1 j).1 (q.2.1 j).2.1 (q.2.1 j).2.2.1) ∈ lw_all)) (hfin : (q.2.1 j).2.2.2 = false) (hty : ft_ (tyT ci j) (vr_ x)) (kd : Nat) (hkd : ci + 1 = kd) (d : decode cc pc = .ok (.putfield i, 3)) (pc' : Nat) (hp : pc + 3 = pc') {f : Mm → Rs α} (kk : ∀ m', Sm_ l g E nL en (f m') k n pc' L st m') : Sm_ l g E nL en (pr_ m r0 kd j x f) k n pc L (vr_ x :: vr_ r0 :: st) m := by
  subst hkd
  cases r0 with
  | none => exact Sm_none
  | some a =>
    show Sm_ l g E nL en (if _ then _ else _) _ _ _ _ _ _
    split
    case isTrue h => exact s_putf C  h hc j hj (Or.inl hb) hlink hsame hfin (vr_ x) hty d pc' hp (kk _)
    case isFalse h => exact Sm_none
theorem x_prF (C : Cx_ l g E own cc nL lvl) (hin2 : (eT_ E).name = "<init>") {i : Nat} {x : Option Nat} {r0 : Option Nat} (ci : Nat) (q : vw_C) (hc : clT[ci]? = some q) (j : Nat) (hj : j < q.2.2) (hb : kc_ (ci + 1) = false) (hlink : (Cond.fieldLink own i own (q.2.1 j).2.1 (q.2.1 j).2.2.1) ∈ lw_all) (hsame : (q.2.1 j).1 = own) (hfin : (q.2.1 j).2.2.2 = true) (hty : ft_ (tyT ci j) (vr_ x)) (kd : Nat) (hkd : ci + 1 = kd) (d : decode cc pc = .ok (.putfield i, 3)) (pc' : Nat) (hp : pc + 3 = pc') {f : Mm → Rs α} (kk : ∀ m', Sm_ l g E nL en (f m') k n pc' L st m') : Sm_ l g E nL en (pr_ m r0 kd j x f) k n pc L (vr_ x :: vr_ r0 :: st) m := by
  subst hkd
  cases r0 with
  | none => exact Sm_none
  | some a =>
    show Sm_ l g E nL en (if _ then _ else _) _ _ _ _ _ _
    split
    case isTrue h => exact s_putF C hin2 h hc j hj (Or.inl hb) hlink hsame hfin (vr_ x) hty d pc' hp (kk _)
    case isFalse h => exact Sm_none
theorem x_prFb (C : Cx_ l g E own cc nL lvl) (hin2 : (eT_ E).name = "<init>") {i : Nat} {x : Option Nat} {r0 : Option Nat} (ci : Nat) (q : vw_C) (hc : clT[ci]? = some q) (j : Nat) (hj : j < q.2.2) (hlink : (Cond.fieldLink own i own (q.2.1 j).2.1 (q.2.1 j).2.2.1) ∈ lw_all) (hsame : (q.2.1 j).1 = own) (hfin : (q.2.1 j).2.2.2 = true) (hty : ft_ (tyT ci j) (vr_ x)) (kd : Nat) (hkd : ci + 1 = kd) (d : decode cc pc = .ok (.putfield i, 3)) (pc' : Nat) (hp : pc + 3 = pc') {f : Mm → Rs α} (kk : ∀ m', Sm_ l g E nL en (f m') k n pc' L st m') : Sm_ l g E nL en (wb_ m r0 (pr_ m r0 kd j x f)) k n pc L (vr_ x :: vr_ r0 :: st) m := by
  subst hkd
  cases r0 with
  | none => exact Sm_none
  | some a =>
    show Sm_ l g E nL en (if _ then (if _ then _ else _) else _) _ _ _ _ _ _
    split
    case isTrue hb =>
      split
      case isTrue h => exact s_putF C hin2 h hc j hj (Or.inr hb) hlink hsame hfin (vr_ x) hty d pc' hp (kk _)
      case isFalse h => exact Sm_none
    case isFalse h => exact Sm_none
theorem x_prN (C : Cx_ l g E own cc nL lvl) {ref host : String} {i : Nat} {x : Option Nat} {r0 : Option Nat} (ci : Nat) (q : vw_C) (hc : clT[ci]? = some q) (j : Nat) (hj : j < q.2.2) (hb : kc_ (ci + 1) = false) (hlink : (Cond.fieldLinkNest own i ref (q.2.1 j).2.1 (q.2.1 j).2.2.1 host) ∈ lw_tbl) (hsame : (q.2.1 j).1 = ref) (hfin : (q.2.1 j).2.2.2 = false) (hty : ft_ (tyT ci j) (vr_ x)) (kd : Nat) (hkd : ci + 1 = kd) (d : decode cc pc = .ok (.putfield i, 3)) (pc' : Nat) (hp : pc + 3 = pc') {f : Mm → Rs α} (kk : ∀ m', Sm_ l g E nL en (f m') k n pc' L st m') : Sm_ l g E nL en (pr_ m r0 kd j x f) k n pc L (vr_ x :: vr_ r0 :: st) m := by
  subst hkd
  cases r0 with
  | none => exact Sm_none
  | some a =>
    show Sm_ l g E nL en (if _ then _ else _) _ _ _ _ _ _
    split
    case isTrue h => exact s_putN C  h hc j hj (Or.inl hb) hlink hsame hfin (vr_ x) hty d pc' hp (kk _)
    case isFalse h => exact Sm_none
theorem x_pz (C : Cx_ l g E own cc nL lvl) {ref : String} {i : Nat} {x : Int32} {r0 : Option Nat} (ci : Nat) (q : vw_C) (hc : clT[ci]? = some q) (j : Nat) (hj : j < q.2.2) (hb : kc_ (ci + 1) = false) (hlink : (Cond.fieldLink own i ref (q.2.1 j).2.1 (q.2.1 j).2.2.1) ∈ lw_all) (hsame : ((q.2.1 j).1 = ref ∨ (Cond.sameField ref (q.2.1 j).1 (q.2.1 j).2.1 (q.2.1 j).2.2.1) ∈ lw_all)) (hfin : (q.2.1 j).2.2.2 = false) (hty : tyT ci j = .boolean ∨ tyT ci j = .byte) (kd : Nat) (hkd : ci + 1 = kd) (d : decode cc pc = .ok (.putfield i, 3)) (pc' : Nat) (hp : pc + 3 = pc') {f : Mm → Rs α} (kk : ∀ m', Sm_ l g E nL en (f m') k n pc' L st m') : Sm_ l g E nL en (pz_ m r0 kd j x f) k n pc L (vi_ x :: vr_ r0 :: st) m := by
  subst hkd
  cases r0 with
  | none => exact Sm_none
  | some a =>
    show Sm_ l g E nL en (if _ then _ else _) _ _ _ _ _ _
    split
    case isTrue h => exact s_putf C  h.1 hc j hj (Or.inl hb) hlink hsame hfin (vi_ x) (by rcases hty with e9 | e9 <;> rw [e9] <;> exact h.2) d pc' hp (kk _)
    case isFalse h => exact Sm_none
theorem x_pzF (C : Cx_ l g E own cc nL lvl) (hin2 : (eT_ E).name = "<init>") {i : Nat} {x : Int32} {r0 : Option Nat} (ci : Nat) (q : vw_C) (hc : clT[ci]? = some q) (j : Nat) (hj : j < q.2.2) (hb : kc_ (ci + 1) = false) (hlink : (Cond.fieldLink own i own (q.2.1 j).2.1 (q.2.1 j).2.2.1) ∈ lw_all) (hsame : (q.2.1 j).1 = own) (hfin : (q.2.1 j).2.2.2 = true) (hty : tyT ci j = .boolean ∨ tyT ci j = .byte) (kd : Nat) (hkd : ci + 1 = kd) (d : decode cc pc = .ok (.putfield i, 3)) (pc' : Nat) (hp : pc + 3 = pc') {f : Mm → Rs α} (kk : ∀ m', Sm_ l g E nL en (f m') k n pc' L st m') : Sm_ l g E nL en (pz_ m r0 kd j x f) k n pc L (vi_ x :: vr_ r0 :: st) m := by
  subst hkd
  cases r0 with
  | none => exact Sm_none
  | some a =>
    show Sm_ l g E nL en (if _ then _ else _) _ _ _ _ _ _
    split
    case isTrue h => exact s_putF C hin2 h.1 hc j hj (Or.inl hb) hlink hsame hfin (vi_ x) (by rcases hty with e9 | e9 <;> rw [e9] <;> exact h.2) d pc' hp (kk _)
    case isFalse h => exact Sm_none
theorem x_pzFb (C : Cx_ l g E own cc nL lvl) (hin2 : (eT_ E).name = "<init>") {i : Nat} {x : Int32} {r0 : Option Nat} (ci : Nat) (q : vw_C) (hc : clT[ci]? = some q) (j : Nat) (hj : j < q.2.2) (hlink : (Cond.fieldLink own i own (q.2.1 j).2.1 (q.2.1 j).2.2.1) ∈ lw_all) (hsame : (q.2.1 j).1 = own) (hfin : (q.2.1 j).2.2.2 = true) (hty : tyT ci j = .boolean ∨ tyT ci j = .byte) (kd : Nat) (hkd : ci + 1 = kd) (d : decode cc pc = .ok (.putfield i, 3)) (pc' : Nat) (hp : pc + 3 = pc') {f : Mm → Rs α} (kk : ∀ m', Sm_ l g E nL en (f m') k n pc' L st m') : Sm_ l g E nL en (wb_ m r0 (pz_ m r0 kd j x f)) k n pc L (vi_ x :: vr_ r0 :: st) m := by
  subst hkd
  cases r0 with
  | none => exact Sm_none
  | some a =>
    show Sm_ l g E nL en (if _ then (if _ then _ else _) else _) _ _ _ _ _ _
    split
    case isTrue hb =>
      split
      case isTrue h => exact s_putF C hin2 h.1 hc j hj (Or.inr hb) hlink hsame hfin (vi_ x) (by rcases hty with e9 | e9 <;> rw [e9] <;> exact h.2) d pc' hp (kk _)
      case isFalse h => exact Sm_none
    case isFalse h => exact Sm_none
theorem x_pzN (C : Cx_ l g E own cc nL lvl) {ref host : String} {i : Nat} {x : Int32} {r0 : Option Nat} (ci : Nat) (q : vw_C) (hc : clT[ci]? = some q) (j : Nat) (hj : j < q.2.2) (hb : kc_ (ci + 1) = false) (hlink : (Cond.fieldLinkNest own i ref (q.2.1 j).2.1 (q.2.1 j).2.2.1 host) ∈ lw_tbl) (hsame : (q.2.1 j).1 = ref) (hfin : (q.2.1 j).2.2.2 = false) (hty : tyT ci j = .boolean ∨ tyT ci j = .byte) (kd : Nat) (hkd : ci + 1 = kd) (d : decode cc pc = .ok (.putfield i, 3)) (pc' : Nat) (hp : pc + 3 = pc') {f : Mm → Rs α} (kk : ∀ m', Sm_ l g E nL en (f m') k n pc' L st m') : Sm_ l g E nL en (pz_ m r0 kd j x f) k n pc L (vi_ x :: vr_ r0 :: st) m := by
  subst hkd
  cases r0 with
  | none => exact Sm_none
  | some a =>
    show Sm_ l g E nL en (if _ then _ else _) _ _ _ _ _ _
    split
    case isTrue h => exact s_putN C  h.1 hc j hj (Or.inl hb) hlink hsame hfin (vi_ x) (by rcases hty with e9 | e9 <;> rw [e9] <;> exact h.2) d pc' hp (kk _)
    case isFalse h => exact Sm_none
/-! the class of an object of a kind -/
def cn_ (k : Nat) : String := if k < 31 then (match clT[k - 1]? with
  | some q => q.1
  | none => "") else if k < 400 then (match atT[k - 200]? with
  | some ty => "[" ++ ty.toString
  | none => "") else xn_ (k - 400)
def kk_ (k : Nat) : Bool := (decide (1 ≤ k) && decide (k < 31)) || (decide (200 ≤ k) && decide (k < 209)) || (decide (400 ≤ k) && decide (k < 412))
theorem rp_cls {s : State} {H : Heap} {a : Nat} (hK : KN g s) (hR : Rp_ g m H) (h : kk_ (mk_ m a) = true) : ∃ cell : Cell, H[a]? = some cell ∧ cell.vm.isStatics = false ∧ s.vm.findClass (cn_ (mk_ m a)) = some cell.cls := by
  simp only [kk_, Bool.or_eq_true, Bool.and_eq_true, decide_eq_true_eq] at h
  rcases h with (⟨h1, h2⟩ | ⟨h1, h2⟩) | ⟨h1, h2⟩
  · obtain ⟨ci, hci⟩ : ∃ ci, mk_ m a = ci + 1 := ⟨mk_ m a - 1, by omega⟩
    have hlt : ci < clT.length := by show ci < 30; omega
    have hc : clT[ci]? = some clT[ci] := List.getElem?_eq_getElem hlt
    obtain ⟨cell, q1, q2, q3, -⟩ := (hR.2.2.2.1 a).1 ci _ hci hc
    refine ⟨cell, q1, by rw [q3]; rfl, ?_⟩
    rw [q2, hci, cn_, if_pos (by omega), Nat.add_sub_cancel, hc]
    exact (hK.1.1 ci _ hc).2.1
  · obtain ⟨t, ht⟩ : ∃ t, mk_ m a = 200 + t := ⟨mk_ m a - 200, by omega⟩
    have hlt : t < atT.length := by show t < 9; omega
    have hc : atT[t]? = some atT[t] := List.getElem?_eq_getElem hlt
    have q1 := (hR.2.2.2.1 a).2.1 t _ ht hc
    refine ⟨_, q1, rfl, ?_⟩
    rw [ht, cn_, if_neg (by omega), if_pos (by omega), Nat.add_sub_cancel_left, hc]
    have h3 := (hK.1.2 t _ (atL_at hc)).2
    have h4 : t < 9 := hlt
    clear q1 hc
    rcases show t = 0 ∨ t = 1 ∨ t = 2 ∨ t = 3 ∨ t = 4 ∨ t = 5 ∨ t = 6 ∨ t = 7 ∨ t = 8 by omega with h | h | h | h | h | h | h | h | h <;> subst h
    · exact h3
    · exact h3
    · exact h3
    · exact h3
    · obtain ⟨_, _, _, _, _, h9⟩ := h3; exact h9
    · obtain ⟨_, _, _, _, _, h9⟩ := h3; exact h9
    · exact h3
    · obtain ⟨_, _, _, _, _, h9⟩ := h3; exact h9
    · obtain ⟨_, _, _, _, _, h9⟩ := h3; exact h9
  · obtain ⟨i, hi⟩ : ∃ i, mk_ m a = 400 + i := ⟨mk_ m a - 400, by omega⟩
    obtain ⟨ce, q1, q2, -, q4⟩ := (hR.2.2.2.1 a).2.2.2 i (by omega) hi
    refine ⟨ce, q1, q2, ?_⟩
    rw [hi, cn_, if_neg (by omega), if_neg (by omega), Nat.add_sub_cancel_left, q4]
    exact hK.2.2.2.2.2.1 i (by omega)
/-- objects of the kind k may be had as nm -/
def ca_ (k : Nat) (nm : String) : Prop := kk_ k = true ∧ (Cond.castable (cn_ k) nm ∈ lw_tbl ∨ cn_ k = nm)
theorem rp_asg {s : State} {H : Heap} {a : Nat} {nm : String} {cT : ClassId} (hK : KN g s) (hR : Rp_ g m H) (h : ca_ (mk_ m a) nm) (hT : s.vm.findClass nm = some cT) : ∃ cell : Cell, H[a]? = some cell ∧ cell.vm.isStatics = false ∧ (∃ kC : Class, s.vm.classes[cell.cls]? = some kC) ∧ s.vm.assignable cell.cls cT = true := by
  obtain ⟨cell, h1, h2, h3⟩ := rp_cls hK hR h.1
  obtain ⟨kC, hkC, -⟩ := Vm.findClass_spec h3
  refine ⟨cell, h1, h2, ⟨kC, hkC⟩, ?_⟩
  rcases h.2 with h | h
  · obtain ⟨c0, t0, f1, f2, f3⟩ := Cond.castable_spec (va_Nw.use (A := #[]) rfl (KN.use hK h rfl))
    cases h3.symm.trans f1
    cases hT.symm.trans f2
    exact f3
  · rw [h] at h3
    cases h3.symm.trans hT
    exact va_asg _ _
/-- checkcast: null, or of a kind -/
def cc_ {α : Type} (m : Mm) (r : Option Nat) (ks : List Nat) (f : Rs α) : Rs α := match r with
  | none => f
  | some a => if mk_ m a ∈ ks then f else none
theorem x_cc (C : Cx_ l g E own cc nL lvl) {i : Nat} {r0 : Option Nat} (nm : String) (ks : List Nat) (hks : ∀ k ∈ ks, ca_ k nm) (hlink : (Cond.classLink own i nm) ∈ lw_all) (d : decode cc pc = .ok (.checkcast i, 3)) (pc' : Nat) (hp : pc + 3 = pc') {f : Rs α} (kk : Sm_ l g E nL en f k n pc' L (vr_ r0 :: st) m) : Sm_ l g E nL en (cc_ m r0 ks f) k n pc L (vr_ r0 :: st) m := by
  subst hp
  cases r0 with
  | none => exact Sm_go kk (fun H locs ls Q hR hS hl w => lv_castN C.1 C.2.1 d (w ls hl))
  | some a =>
    show Sm_ l g E nL en (if _ then _ else _) _ _ _ _ _ _
    split
    case isTrue h =>
      refine Sm_go kk (fun H locs ls Q hR hS hl w => ?_)
      have hK := C.2.2.2.2.2.2.1
      have hT : ∃ cT, (eS_ E).vm.findClass nm = some cT := by
        rcases (hks _ h).2 with h9 | h9
        · obtain ⟨c0, t0, f1, f2, f3⟩ := Cond.castable_spec (va_Nw.use (A := #[]) rfl (KN.use hK h9 rfl))
          exact ⟨t0, f2⟩
        · obtain ⟨cell, h1, h2, h3⟩ := rp_cls hK hR (hks _ h).1
          exact ⟨_, by rw [← h9]; exact h3⟩
      obtain ⟨cT, hT⟩ := hT
      obtain ⟨cell, h1, h2, h3, h4⟩ := rp_asg hK hR (hks _ h) hT
      intro T hTT X
      obtain ⟨vm', X', stp⟩ := X.checkcastYes C.1 C.2.2.2.1 (C.2.2.2.2.1 _ hlink) (by rw [hTT]; exact h1) h2 hT h4 (g := F0 (eM_ E) pc ls (sv_ (vr_ (some a) :: st))) rfl rfl (by rw [C.2.1]; exact d)
      obtain ⟨t, a1, b1⟩ := (w ls hl) (T.setVm vm') hTT X'
      exact ⟨t, stp t a1, b1⟩
    case isFalse h => exact Sm_none
/-- instanceof: null is none, of a kind is one -/
def io_ {α : Type} (m : Mm) (r : Option Nat) (ks : List Nat) (f : Int32 → Rs α) : Rs α := match r with
  | none => f 0
  | some a => if mk_ m a ∈ ks then f 1 else none
theorem x_io (C : Cx_ l g E own cc nL lvl) {i : Nat} {r0 : Option Nat} (nm : String) (ks : List Nat) (hks : ∀ k ∈ ks, ca_ k nm) (hlink : (Cond.classLink own i nm) ∈ lw_all) (d : decode cc pc = .ok (.instanceof i, 3)) (pc' : Nat) (hp : pc + 3 = pc') {f : Int32 → Rs α} (kk : ∀ x, Sm_ l g E nL en (f x) k n pc' L (vi_ x :: st) m) : Sm_ l g E nL en (io_ m r0 ks f) k n pc L (vr_ r0 :: st) m := by
  subst hp
  cases r0 with
  | none => exact Sm_go (kk 0) (fun H locs ls Q hR hS hl w => lv_instN C.1 C.2.1 d (w ls hl))
  | some a =>
    show Sm_ l g E nL en (if _ then _ else _) _ _ _ _ _ _
    split
    case isTrue h =>
      refine Sm_go (kk 1) (fun H locs ls Q hR hS hl w => ?_)
      have hK := C.2.2.2.2.2.2.1
      have hT : ∃ cT, (eS_ E).vm.findClass nm = some cT := by
        rcases (hks _ h).2 with h9 | h9
        · obtain ⟨c0, t0, f1, f2, f3⟩ := Cond.castable_spec (va_Nw.use (A := #[]) rfl (KN.use hK h9 rfl))
          exact ⟨t0, f2⟩
        · obtain ⟨cell, h1, h2, h3⟩ := rp_cls hK hR (hks _ h).1
          exact ⟨_, by rw [← h9]; exact h3⟩
      obtain ⟨cT, hT⟩ := hT
      obtain ⟨cell, h1, h2, h3, h4⟩ := rp_asg hK hR (hks _ h) hT
      intro T hTT X
      obtain ⟨vm', X', stp⟩ := X.instanceofYes C.1 C.2.2.2.1 (C.2.2.2.2.1 _ hlink) (by rw [hTT]; exact h1) h2 hT h4 (g := F0 (eM_ E) pc ls (sv_ (vr_ (some a) :: st))) rfl rfl (by rw [C.2.1]; exact d)
      obtain ⟨t, a1, b1⟩ := (w ls hl) (T.setVm vm') hTT X'
      exact ⟨t, stp t a1, b1⟩
    case isFalse h => exact Sm_none
/-- a reference put into an array of references -/
def bk_ {α : Type} (m : Mm) (x : Option Nat) (ks : List Nat) (f : Rs α) : Rs α := match x with
  | none => f
  | some a => if mk_ m a ∈ ks then f else none
theorem x_br (C : Cx_ l g E own cc nL lvl) {i : Int32} {x r0 : Option Nat} (t : Nat) (nm : String) (ht : atT[t]? = some (.object nm)) (ks : List Nat) (hks : ∀ k ∈ ks, ca_ k nm) (kd : Nat) (hkd : 200 + t = kd) (d : decode cc pc = .ok (.aastore, 1)) (pc' : Nat) (hp : pc + 1 = pc') {f : Mm → Rs α} (kk : ∀ m', Sm_ l g E nL en (f m') k n pc' L st m') : Sm_ l g E nL en (bk_ m x ks (br_ m r0 kd i x f)) k n pc L (vr_ x :: vi_ i :: vr_ r0 :: st) m := by
  subst hkd; subst hp
  cases x with
  | none =>
    cases r0 with
    | none => exact Sm_none
    | some a =>
      show Sm_ l g E nL en (if _ then _ else _) _ _ _ _ _ _
      split
      case isTrue h => exact x_ast (pc' := pc + 1) (t := t) (ty := .object nm) (w := vr_ none) ht h.1 h.2.1 h.2.2 (by simp [sv1_, vt_, mr_sr, tv_]) (fun H locs ls Q hR hS e1 w => va_WaastN C.1 C.2.1 e1 ((C.2.2.2.2.2.2.1.1.2 t _ (atL_at ht)).1 _ _) (fun q => by cases q) (ix_out h.2.2) rfl rfl d w) (kk _)
      case isFalse h => exact Sm_none
  | some b =>
    show Sm_ l g E nL en (if _ then _ else _) _ _ _ _ _ _
    split
    case isFalse h => exact Sm_none
    case isTrue hb =>
      cases r0 with
      | none => exact Sm_none
      | some a =>
        show Sm_ l g E nL en (if _ then _ else _) _ _ _ _ _ _
        split
        case isTrue h =>
          refine x_ast (pc' := pc + 1) (t := t) (ty := .object nm) (w := vr_ (some b)) ht h.1 h.2.1 h.2.2 (by simp [sv1_, vt_, mr_sr, tv_]) (fun H locs ls Q hR hS e1 w => ?_) (kk _)
          have hK := C.2.2.2.2.2.2.1
          obtain ⟨kA, comp, k1, k2, k3, -⟩ := (hK.1.2 t _ (atL_at ht)).2
          obtain ⟨kE, hkE, -⟩ := Vm.findClass_spec k3
          obtain ⟨cellV, g1, g3, ⟨kC, hkC⟩, hasg⟩ := rp_asg hK hR (hks _ hb) k3
          exact W.aast C.1 C.2.1 e1 (fun q h => by cases h) (fun h => by cases h) k1 k2 rfl hkE ⟨fun q => ix_out (c := gA_ g t) (z := fun j => vt_ (.object nm) m a j) h.2.2 (Or.inl q), by rw [arrV_size]; exact ix_lt h.2.2⟩ g1 (fun q h => by rw [h] at g3; cases g3) hkC hasg rfl rfl d w
        case isFalse h => exact Sm_none
end MRW
