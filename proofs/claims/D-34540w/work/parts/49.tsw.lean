/-! a table of jumps -/
def od_ {α : Type} (x : Int32) (lo hi : Int) (f : Rs α) : Rs α := if x.toInt < lo ∨ hi < x.toInt then f else none
section TSW
variable {α β : Type} {l : Launch} {g : GG} {E : Me_} {own : String} {cc : ByteArray} {nL lvl : Nat} {en : α → Fn_} {k n pc : Nat} {L L' : List (Nat × TV)} {st stA : List TV} {m : Mm}
theorem x_tj (C : Cx_ l g E own cc nL lvl) {x : Int32} {dflt lo hi : Int} {offs : Array Int} {len : Nat} (d : decode cc pc = .ok (.tableswitch dflt lo hi offs, len)) (j : Int32) (h1 : ¬ j.toInt < lo) (h2 : ¬ hi < j.toInt) (off : Int) (ho : offs[(j.toInt - lo).toNat]? = some off) (tgt : Nat) (ht : (pc : Int) + off = (tgt : Int)) {A B : Rs α} (kA : Sm_ l g E nL en A k n tgt L st m) (kB : Sm_ l g E nL en B k n pc L (vi_ x :: st) m) : Sm_ l g E nL en (if x = j then A else B) k n pc L (vi_ x :: st) m := by
  split
  case isTrue h =>
    subst h
    exact Sm_go kA (fun H locs ls Q hR hS hl w => lv_tableIn C.1 C.2.1 d h1 h2 ho ht (w ls hl))
  case isFalse => exact kB
theorem x_td (C : Cx_ l g E own cc nL lvl) {x : Int32} {dflt lo hi : Int} {offs : Array Int} {len : Nat} (d : decode cc pc = .ok (.tableswitch dflt lo hi offs, len)) (tgt : Nat) (ht : (pc : Int) + dflt = (tgt : Int)) {A : Rs α} (kA : Sm_ l g E nL en A k n tgt L st m) : Sm_ l g E nL en (od_ x lo hi A) k n pc L (vi_ x :: st) m := by
  unfold od_
  split
  case isTrue h => exact Sm_go kA (fun H locs ls Q hR hS hl w => lv_tableOut C.1 C.2.1 d h ht (w ls hl))
  case isFalse => exact Sm_none
end TSW
