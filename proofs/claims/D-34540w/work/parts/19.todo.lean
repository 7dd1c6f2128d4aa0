/-! ONE ROW STILL TO BE PROVED (it stands here with sorry: to be replaced) -/
section TDW
variable {α β : Type} {l : Launch} {g : GG} {E : Me_} {own : String} {cc : ByteArray} {nL lvl : Nat} {en : α → Fn_} {k n pc : Nat} {L L' : List (Nat × TV)} {st stA : List TV} {m : Mm}
/-- a table of four rows of four numbers -/
theorem x_mn (C : Cx_ l g E own cc nL lvl) {i : Nat} (q1 : Cond.classLink own i "[[I" ∈ lw_all) (d : decode cc pc = .ok (.multianewarray i 2, 4)) (pc' : Nat) (hp : pc + 4 = pc') {f : Nat → Mm → Rs α} (kk : ∀ a m', Sm_ l g E nL en (f a m') (k + 5) (n + 20) pc' L (vr_ (some a) :: st) m') : Sm_ l g E nL en (mn_ m f) k n pc L (vi_ 4 :: vi_ 4 :: st) m := sorry
end TDW
