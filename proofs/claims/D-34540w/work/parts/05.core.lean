/-! THE PURE MEMORY: kinds, lengths, whole numbers, longs, references, size, base (what lies below it is never written) -/
abbrev Mm : Type := (Nat → Nat) × (Nat → Nat) × (Nat → Nat → Int32) × (Nat → Nat → Int64) × (Nat → Nat → Option Nat) × Nat × Nat
def mk_ (m : Mm) : Nat → Nat := m.1
def ml_ (m : Mm) : Nat → Nat := m.2.1
def mi_ (m : Mm) : Nat → Nat → Int32 := m.2.2.1
def mj_ (m : Mm) : Nat → Nat → Int64 := m.2.2.2.1
def mr_ (m : Mm) : Nat → Nat → Option Nat := m.2.2.2.2.1
def mz_ (m : Mm) : Nat := m.2.2.2.2.2.1
def mb_ (m : Mm) : Nat := m.2.2.2.2.2.2
def si_ (m : Mm) (a k : Nat) (x : Int32) : Mm := (mk_ m, ml_ m, fun b j => if b = a ∧ j = k then x else mi_ m b j, mj_ m, mr_ m, mz_ m, mb_ m)
def sj_ (m : Mm) (a k : Nat) (x : Int64) : Mm := (mk_ m, ml_ m, mi_ m, fun b j => if b = a ∧ j = k then x else mj_ m b j, mr_ m, mz_ m, mb_ m)
def sr_ (m : Mm) (a k : Nat) (x : Option Nat) : Mm := (mk_ m, ml_ m, mi_ m, mj_ m, fun b j => if b = a ∧ j = k then x else mr_ m b j, mz_ m, mb_ m)
def sk_ (m : Mm) (a k : Nat) : Mm := (fun b => if b = a then k else mk_ m b, ml_ m, mi_ m, mj_ m, mr_ m, mz_ m, mb_ m)
def al_ (m : Mm) (kd n : Nat) : Mm := (fun b => if b = mz_ m then kd else mk_ m b, fun b => if b = mz_ m then n else ml_ m b, fun b j => if b = mz_ m then 0 else mi_ m b j, fun b j => if b = mz_ m then 0 else mj_ m b j, fun b j => if b = mz_ m then none else mr_ m b j, mz_ m + 1, mb_ m)
theorem mk_si (m a k x) : mk_ (si_ m a k x) = mk_ m := rfl
theorem ml_si (m a k x) : ml_ (si_ m a k x) = ml_ m := rfl
theorem mi_si (m a k x b j) : mi_ (si_ m a k x) b j = if b = a ∧ j = k then x else mi_ m b j := rfl
theorem mj_si (m a k x) : mj_ (si_ m a k x) = mj_ m := rfl
theorem mr_si (m a k x) : mr_ (si_ m a k x) = mr_ m := rfl
theorem mz_si (m a k x) : mz_ (si_ m a k x) = mz_ m := rfl
theorem mb_si (m a k x) : mb_ (si_ m a k x) = mb_ m := rfl
theorem mk_sj (m a k x) : mk_ (sj_ m a k x) = mk_ m := rfl
theorem ml_sj (m a k x) : ml_ (sj_ m a k x) = ml_ m := rfl
theorem mi_sj (m a k x) : mi_ (sj_ m a k x) = mi_ m := rfl
theorem mj_sj (m a k x b j) : mj_ (sj_ m a k x) b j = if b = a ∧ j = k then x else mj_ m b j := rfl
theorem mr_sj (m a k x) : mr_ (sj_ m a k x) = mr_ m := rfl
theorem mz_sj (m a k x) : mz_ (sj_ m a k x) = mz_ m := rfl
theorem mb_sj (m a k x) : mb_ (sj_ m a k x) = mb_ m := rfl
theorem mk_sr (m a k x) : mk_ (sr_ m a k x) = mk_ m := rfl
theorem ml_sr (m a k x) : ml_ (sr_ m a k x) = ml_ m := rfl
theorem mi_sr (m a k x) : mi_ (sr_ m a k x) = mi_ m := rfl
theorem mj_sr (m a k x) : mj_ (sr_ m a k x) = mj_ m := rfl
theorem mr_sr (m a k x b j) : mr_ (sr_ m a k x) b j = if b = a ∧ j = k then x else mr_ m b j := rfl
theorem mz_sr (m a k x) : mz_ (sr_ m a k x) = mz_ m := rfl
theorem mb_sr (m a k x) : mb_ (sr_ m a k x) = mb_ m := rfl
theorem mk_sk (m a k b) : mk_ (sk_ m a k) b = if b = a then k else mk_ m b := rfl
theorem ml_sk (m a k) : ml_ (sk_ m a k) = ml_ m := rfl
theorem mi_sk (m a k) : mi_ (sk_ m a k) = mi_ m := rfl
theorem mj_sk (m a k) : mj_ (sk_ m a k) = mj_ m := rfl
theorem mr_sk (m a k) : mr_ (sk_ m a k) = mr_ m := rfl
theorem mz_sk (m a k) : mz_ (sk_ m a k) = mz_ m := rfl
theorem mb_sk (m a k) : mb_ (sk_ m a k) = mb_ m := rfl
theorem mk_al (m kd n b) : mk_ (al_ m kd n) b = if b = mz_ m then kd else mk_ m b := rfl
theorem ml_al (m kd n b) : ml_ (al_ m kd n) b = if b = mz_ m then n else ml_ m b := rfl
theorem mi_al (m kd n b j) : mi_ (al_ m kd n) b j = if b = mz_ m then 0 else mi_ m b j := rfl
theorem mj_al (m kd n b j) : mj_ (al_ m kd n) b j = if b = mz_ m then 0 else mj_ m b j := rfl
theorem mr_al (m kd n b j) : mr_ (al_ m kd n) b j = if b = mz_ m then none else mr_ m b j := rfl
theorem mz_al (m kd n) : mz_ (al_ m kd n) = mz_ m + 1 := rfl
theorem mb_al (m kd n) : mb_ (al_ m kd n) = mb_ m := rfl
/-! A run's result: the answer, the memory behind it, how many cells and slots it made -/
abbrev Rs (α : Type) : Type := Option (α × Mm × Nat × Nat)
def rt_ {α : Type} (v : α) (m : Mm) : Rs α := some (v, m, 0, 0)
def tk_ {α : Type} (k n : Nat) (r : Rs α) : Rs α := match r with
  | none => none
  | some (v, m, k', n') => some (v, m, k + k', n + n')
def bd_ {α β : Type} (r : Rs α) (f : α → Mm → Rs β) : Rs β := match r with
  | none => none
  | some (v, m, k, n) => tk_ k n (f v m)
/-- a callee that may throw: the exception goes on -/
def xf_ {α β : Type} (f : α → Mm → Rs (β ⊕ Nat)) (v : α ⊕ Nat) (m : Mm) : Rs (β ⊕ Nat) := match v with
  | .inl x => f x m
  | .inr i => rt_ (.inr i) m
/-- .. that doesn't throw here -/
def nf_ {α β : Type} (f : α → Mm → Rs β) (v : α ⊕ Nat) (m : Mm) : Rs β := match v with
  | .inl x => f x m
  | .inr _ => none
/-! reads and writes, with the kind of what is read -/
def gi_ {α : Type} (m : Mm) (r : Option Nat) (kd k : Nat) (f : Int32 → Rs α) : Rs α := match r with
  | none => none
  | some a => if mk_ m a = kd then f (mi_ m a k) else none
def gj_ {α : Type} (m : Mm) (r : Option Nat) (kd k : Nat) (f : Int64 → Rs α) : Rs α := match r with
  | none => none
  | some a => if mk_ m a = kd then f (mj_ m a k) else none
def gr_ {α : Type} (m : Mm) (r : Option Nat) (kd k : Nat) (f : Option Nat → Rs α) : Rs α := match r with
  | none => none
  | some a => if mk_ m a = kd then f (mr_ m a k) else none
def pi_ {α : Type} (m : Mm) (r : Option Nat) (kd k : Nat) (x : Int32) (f : Mm → Rs α) : Rs α := match r with
  | none => none
  | some a => if mk_ m a = kd then f (si_ m a k x) else none
/-- a boolean field -/
def pz_ {α : Type} (m : Mm) (r : Option Nat) (kd k : Nat) (x : Int32) (f : Mm → Rs α) : Rs α := match r with
  | none => none
  | some a => if mk_ m a = kd ∧ (x = 0 ∨ x = 1) then f (si_ m a k x) else none
def pj_ {α : Type} (m : Mm) (r : Option Nat) (kd k : Nat) (x : Int64) (f : Mm → Rs α) : Rs α := match r with
  | none => none
  | some a => if mk_ m a = kd then f (sj_ m a k x) else none
def pr_ {α : Type} (m : Mm) (r : Option Nat) (kd k : Nat) (x : Option Nat) (f : Mm → Rs α) : Rs α := match r with
  | none => none
  | some a => if mk_ m a = kd then f (sr_ m a k x) else none
/-- an address that may be written -/
def wb_ {α : Type} (m : Mm) (r : Option Nat) (f : Rs α) : Rs α := match r with
  | none => none
  | some a => if mb_ m ≤ a then f else none
/-- an index that is within -/
def ix_ (i : Int32) (n : Nat) : Prop := 0 ≤ i.toInt ∧ i.toInt < n
def ai_ {α : Type} (m : Mm) (r : Option Nat) (kd : Nat) (i : Int32) (f : Int32 → Rs α) : Rs α := match r with
  | none => none
  | some a => if mk_ m a = kd ∧ 0 ≤ i.toInt ∧ i.toInt < ml_ m a then f (mi_ m a i.toInt.toNat) else none
def aj_ {α : Type} (m : Mm) (r : Option Nat) (kd : Nat) (i : Int32) (f : Int64 → Rs α) : Rs α := match r with
  | none => none
  | some a => if mk_ m a = kd ∧ 0 ≤ i.toInt ∧ i.toInt < ml_ m a then f (mj_ m a i.toInt.toNat) else none
def ar_ {α : Type} (m : Mm) (r : Option Nat) (kd : Nat) (i : Int32) (f : Option Nat → Rs α) : Rs α := match r with
  | none => none
  | some a => if mk_ m a = kd ∧ 0 ≤ i.toInt ∧ i.toInt < ml_ m a then f (mr_ m a i.toInt.toNat) else none
def bi_ {α : Type} (m : Mm) (r : Option Nat) (kd : Nat) (i x : Int32) (f : Mm → Rs α) : Rs α := match r with
  | none => none
  | some a => if mk_ m a = kd ∧ mb_ m ≤ a ∧ 0 ≤ i.toInt ∧ i.toInt < ml_ m a then f (si_ m a i.toInt.toNat x) else none
def bj_ {α : Type} (m : Mm) (r : Option Nat) (kd : Nat) (i : Int32) (x : Int64) (f : Mm → Rs α) : Rs α := match r with
  | none => none
  | some a => if mk_ m a = kd ∧ mb_ m ≤ a ∧ 0 ≤ i.toInt ∧ i.toInt < ml_ m a then f (sj_ m a i.toInt.toNat x) else none
def br_ {α : Type} (m : Mm) (r : Option Nat) (kd : Nat) (i : Int32) (x : Option Nat) (f : Mm → Rs α) : Rs α := match r with
  | none => none
  | some a => if mk_ m a = kd ∧ mb_ m ≤ a ∧ 0 ≤ i.toInt ∧ i.toInt < ml_ m a then f (sr_ m a i.toInt.toNat x) else none
def ln_ {α : Type} (m : Mm) (r : Option Nat) (kd : Nat) (f : Int32 → Rs α) : Rs α := match r with
  | none => none
  | some a => if mk_ m a = kd then f (Int32.ofNat (ml_ m a)) else none
/-- a new object of n slots -/
def nw_ {α : Type} (m : Mm) (kd n : Nat) (f : Nat → Mm → Rs α) : Rs α := tk_ 1 n (f (mz_ m) (al_ m kd 0))
/-- a new array -/
def na_ {α : Type} (m : Mm) (kd : Nat) (n : Int32) (f : Nat → Mm → Rs α) : Rs α := if 0 ≤ n.toInt ∧ n.toInt ≤ 1000000 then tk_ 1 n.toInt.toNat (f (mz_ m) (al_ m kd n.toInt.toNat)) else none
/-- not null -/
def nn_ {α : Type} (r : Option Nat) (f : Nat → Rs α) : Rs α := match r with
  | none => none
  | some a => f a
