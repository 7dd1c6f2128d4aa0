set_option maxRecDepth 100000
def fX11_among_d5_b44 (e : Nat → Nat) (N : Nat) (m : Mm) (s0 : Int64) : Rs (Int64) := rt_ s0 m
def fX11_among_d5 (e : Nat → Nat) (N : Nat) (m : Mm) (v0 : Option Nat) (v1 : Option Nat) : Rs (Int64) := gi_ m v0 10 2 (fun x1 => if x1 = 0 then (gr_ m v0 10 0 (fun x2 => bd_ (cs_ m x2 8 (fX9_among e N m x2 v1) (cs_ m x2 9 (fX10_among e N m x2 v1) (cs_ m x2 10 (fX11_among_d4 e N m x2 v1) (cs_ m x2 11 (fX12_among_d4 e N m x2 v1) none)))) (fun x3 m1 => gr_ m1 v0 10 1 (fun x8 => bd_ (cs_ m1 x8 8 (fX9_among e N m1 x8 v1) (cs_ m1 x8 9 (fX10_among e N m1 x8 v1) (cs_ m1 x8 10 (fX11_among_d4 e N m1 x8 v1) (cs_ m1 x8 11 (fX12_among_d4 e N m1 x8 v1) none)))) (fun x9 m6 => fX11_among_d5_b44 e N m6 (x3 ||| x9)))))) else (gr_ m v0 10 0 (fun x14 => bd_ (cs_ m x14 8 (fX9_among e N m x14 v1) (cs_ m x14 9 (fX10_among e N m x14 v1) (cs_ m x14 10 (fX11_among_d4 e N m x14 v1) (cs_ m x14 11 (fX12_among_d4 e N m x14 v1) none)))) (fun x15 m11 => gr_ m11 v0 10 1 (fun x20 => bd_ (cs_ m11 x20 8 (fX9_among e N m11 x20 v1) (cs_ m11 x20 9 (fX10_among e N m11 x20 v1) (cs_ m11 x20 10 (fX11_among_d4 e N m11 x20 v1) (cs_ m11 x20 11 (fX12_among_d4 e N m11 x20 v1) none)))) (fun x21 m16 => fX11_among_d5_b44 e N m16 (x15 &&& x21)))))))
def fX12_among_d5 (e : Nat → Nat) (N : Nat) (m : Mm) (v0 : Option Nat) (v1 : Option Nat) : Rs (Int64) := ck_ m v1 2 (bd_ (fX2_liveOnes e N m v1) (fun x1 m1 => gr_ m1 v0 11 0 (fun x2 => bd_ (cs_ m1 x2 8 (fX9_among e N m1 x2 v1) (cs_ m1 x2 9 (fX10_among e N m1 x2 v1) (cs_ m1 x2 10 (fX11_among_d4 e N m1 x2 v1) (cs_ m1 x2 11 (fX12_among_d4 e N m1 x2 v1) none)))) (fun x3 m2 => rt_ (x1 &&& (x3 ^^^ (-1))) m2))))
def fX11_among_d6_b44 (e : Nat → Nat) (N : Nat) (m : Mm) (s0 : Int64) : Rs (Int64) := rt_ s0 m
def fX11_among_d6 (e : Nat → Nat) (N : Nat) (m : Mm) (v0 : Option Nat) (v1 : Option Nat) : Rs (Int64) := gi_ m v0 10 2 (fun x1 => if x1 = 0 then (gr_ m v0 10 0 (fun x2 => bd_ (cs_ m x2 8 (fX9_among e N m x2 v1) (cs_ m x2 9 (fX10_among e N m x2 v1) (cs_ m x2 10 (fX11_among_d5 e N m x2 v1) (cs_ m x2 11 (fX12_among_d5 e N m x2 v1) none)))) (fun x3 m1 => gr_ m1 v0 10 1 (fun x8 => bd_ (cs_ m1 x8 8 (fX9_among e N m1 x8 v1) (cs_ m1 x8 9 (fX10_among e N m1 x8 v1) (cs_ m1 x8 10 (fX11_among_d5 e N m1 x8 v1) (cs_ m1 x8 11 (fX12_among_d5 e N m1 x8 v1) none)))) (fun x9 m6 => fX11_among_d6_b44 e N m6 (x3 ||| x9)))))) else (gr_ m v0 10 0 (fun x14 => bd_ (cs_ m x14 8 (fX9_among e N m x14 v1) (cs_ m x14 9 (fX10_among e N m x14 v1) (cs_ m x14 10 (fX11_among_d5 e N m x14 v1) (cs_ m x14 11 (fX12_among_d5 e N m x14 v1) none)))) (fun x15 m11 => gr_ m11 v0 10 1 (fun x20 => bd_ (cs_ m11 x20 8 (fX9_among e N m11 x20 v1) (cs_ m11 x20 9 (fX10_among e N m11 x20 v1) (cs_ m11 x20 10 (fX11_among_d5 e N m11 x20 v1) (cs_ m11 x20 11 (fX12_among_d5 e N m11 x20 v1) none)))) (fun x21 m16 => fX11_among_d6_b44 e N m16 (x15 &&& x21)))))))
def fX12_among_d6 (e : Nat → Nat) (N : Nat) (m : Mm) (v0 : Option Nat) (v1 : Option Nat) : Rs (Int64) := ck_ m v1 2 (bd_ (fX2_liveOnes e N m v1) (fun x1 m1 => gr_ m1 v0 11 0 (fun x2 => bd_ (cs_ m1 x2 8 (fX9_among e N m1 x2 v1) (cs_ m1 x2 9 (fX10_among e N m1 x2 v1) (cs_ m1 x2 10 (fX11_among_d5 e N m1 x2 v1) (cs_ m1 x2 11 (fX12_among_d5 e N m1 x2 v1) none)))) (fun x3 m2 => rt_ (x1 &&& (x3 ^^^ (-1))) m2))))
def fX11_among_d7_b44 (e : Nat → Nat) (N : Nat) (m : Mm) (s0 : Int64) : Rs (Int64) := rt_ s0 m
def fX11_among_d7 (e : Nat → Nat) (N : Nat) (m : Mm) (v0 : Option Nat) (v1 : Option Nat) : Rs (Int64) := gi_ m v0 10 2 (fun x1 => if x1 = 0 then (gr_ m v0 10 0 (fun x2 => bd_ (cs_ m x2 8 (fX9_among e N m x2 v1) (cs_ m x2 9 (fX10_among e N m x2 v1) (cs_ m x2 10 (fX11_among_d6 e N m x2 v1) (cs_ m x2 11 (fX12_among_d6 e N m x2 v1) none)))) (fun x3 m1 => gr_ m1 v0 10 1 (fun x8 => bd_ (cs_ m1 x8 8 (fX9_among e N m1 x8 v1) (cs_ m1 x8 9 (fX10_among e N m1 x8 v1) (cs_ m1 x8 10 (fX11_among_d6 e N m1 x8 v1) (cs_ m1 x8 11 (fX12_among_d6 e N m1 x8 v1) none)))) (fun x9 m6 => fX11_among_d7_b44 e N m6 (x3 ||| x9)))))) else (gr_ m v0 10 0 (fun x14 => bd_ (cs_ m x14 8 (fX9_among e N m x14 v1) (cs_ m x14 9 (fX10_among e N m x14 v1) (cs_ m x14 10 (fX11_among_d6 e N m x14 v1) (cs_ m x14 11 (fX12_among_d6 e N m x14 v1) none)))) (fun x15 m11 => gr_ m11 v0 10 1 (fun x20 => bd_ (cs_ m11 x20 8 (fX9_among e N m11 x20 v1) (cs_ m11 x20 9 (fX10_among e N m11 x20 v1) (cs_ m11 x20 10 (fX11_among_d6 e N m11 x20 v1) (cs_ m11 x20 11 (fX12_among_d6 e N m11 x20 v1) none)))) (fun x21 m16 => fX11_among_d7_b44 e N m16 (x15 &&& x21)))))))
def fX12_among_d7 (e : Nat → Nat) (N : Nat) (m : Mm) (v0 : Option Nat) (v1 : Option Nat) : Rs (Int64) := ck_ m v1 2 (bd_ (fX2_liveOnes e N m v1) (fun x1 m1 => gr_ m1 v0 11 0 (fun x2 => bd_ (cs_ m1 x2 8 (fX9_among e N m1 x2 v1) (cs_ m1 x2 9 (fX10_among e N m1 x2 v1) (cs_ m1 x2 10 (fX11_among_d6 e N m1 x2 v1) (cs_ m1 x2 11 (fX12_among_d6 e N m1 x2 v1) none)))) (fun x3 m2 => rt_ (x1 &&& (x3 ^^^ (-1))) m2))))
def fX11_among_d8_b44 (e : Nat → Nat) (N : Nat) (m : Mm) (s0 : Int64) : Rs (Int64) := rt_ s0 m
def fX11_among_d8 (e : Nat → Nat) (N : Nat) (m : Mm) (v0 : Option Nat) (v1 : Option Nat) : Rs (Int64) := gi_ m v0 10 2 (fun x1 => if x1 = 0 then (gr_ m v0 10 0 (fun x2 => bd_ (cs_ m x2 8 (fX9_among e N m x2 v1) (cs_ m x2 9 (fX10_among e N m x2 v1) (cs_ m x2 10 (fX11_among_d7 e N m x2 v1) (cs_ m x2 11 (fX12_among_d7 e N m x2 v1) none)))) (fun x3 m1 => gr_ m1 v0 10 1 (fun x8 => bd_ (cs_ m1 x8 8 (fX9_among e N m1 x8 v1) (cs_ m1 x8 9 (fX10_among e N m1 x8 v1) (cs_ m1 x8 10 (fX11_among_d7 e N m1 x8 v1) (cs_ m1 x8 11 (fX12_among_d7 e N m1 x8 v1) none)))) (fun x9 m6 => fX11_among_d8_b44 e N m6 (x3 ||| x9)))))) else (gr_ m v0 10 0 (fun x14 => bd_ (cs_ m x14 8 (fX9_among e N m x14 v1) (cs_ m x14 9 (fX10_among e N m x14 v1) (cs_ m x14 10 (fX11_among_d7 e N m x14 v1) (cs_ m x14 11 (fX12_among_d7 e N m x14 v1) none)))) (fun x15 m11 => gr_ m11 v0 10 1 (fun x20 => bd_ (cs_ m11 x20 8 (fX9_among e N m11 x20 v1) (cs_ m11 x20 9 (fX10_among e N m11 x20 v1) (cs_ m11 x20 10 (fX11_among_d7 e N m11 x20 v1) (cs_ m11 x20 11 (fX12_among_d7 e N m11 x20 v1) none)))) (fun x21 m16 => fX11_among_d8_b44 e N m16 (x15 &&& x21)))))))
def fX12_among_d8 (e : Nat → Nat) (N : Nat) (m : Mm) (v0 : Option Nat) (v1 : Option Nat) : Rs (Int64) := ck_ m v1 2 (bd_ (fX2_liveOnes e N m v1) (fun x1 m1 => gr_ m1 v0 11 0 (fun x2 => bd_ (cs_ m1 x2 8 (fX9_among e N m1 x2 v1) (cs_ m1 x2 9 (fX10_among e N m1 x2 v1) (cs_ m1 x2 10 (fX11_among_d7 e N m1 x2 v1) (cs_ m1 x2 11 (fX12_among_d7 e N m1 x2 v1) none)))) (fun x3 m2 => rt_ (x1 &&& (x3 ^^^ (-1))) m2))))
def fX11_among_d9_b44 (e : Nat → Nat) (N : Nat) (m : Mm) (s0 : Int64) : Rs (Int64) := rt_ s0 m
def fX11_among_d9 (e : Nat → Nat) (N : Nat) (m : Mm) (v0 : Option Nat) (v1 : Option Nat) : Rs (Int64) := gi_ m v0 10 2 (fun x1 => if x1 = 0 then (gr_ m v0 10 0 (fun x2 => bd_ (cs_ m x2 8 (fX9_among e N m x2 v1) (cs_ m x2 9 (fX10_among e N m x2 v1) (cs_ m x2 10 (fX11_among_d8 e N m x2 v1) (cs_ m x2 11 (fX12_among_d8 e N m x2 v1) none)))) (fun x3 m1 => gr_ m1 v0 10 1 (fun x8 => bd_ (cs_ m1 x8 8 (fX9_among e N m1 x8 v1) (cs_ m1 x8 9 (fX10_among e N m1 x8 v1) (cs_ m1 x8 10 (fX11_among_d8 e N m1 x8 v1) (cs_ m1 x8 11 (fX12_among_d8 e N m1 x8 v1) none)))) (fun x9 m6 => fX11_among_d9_b44 e N m6 (x3 ||| x9)))))) else (gr_ m v0 10 0 (fun x14 => bd_ (cs_ m x14 8 (fX9_among e N m x14 v1) (cs_ m x14 9 (fX10_among e N m x14 v1) (cs_ m x14 10 (fX11_among_d8 e N m x14 v1) (cs_ m x14 11 (fX12_among_d8 e N m x14 v1) none)))) (fun x15 m11 => gr_ m11 v0 10 1 (fun x20 => bd_ (cs_ m11 x20 8 (fX9_among e N m11 x20 v1) (cs_ m11 x20 9 (fX10_among e N m11 x20 v1) (cs_ m11 x20 10 (fX11_among_d8 e N m11 x20 v1) (cs_ m11 x20 11 (fX12_among_d8 e N m11 x20 v1) none)))) (fun x21 m16 => fX11_among_d9_b44 e N m16 (x15 &&& x21)))))))
def fX12_among_d9 (e : Nat → Nat) (N : Nat) (m : Mm) (v0 : Option Nat) (v1 : Option Nat) : Rs (Int64) := ck_ m v1 2 (bd_ (fX2_liveOnes e N m v1) (fun x1 m1 => gr_ m1 v0 11 0 (fun x2 => bd_ (cs_ m1 x2 8 (fX9_among e N m1 x2 v1) (cs_ m1 x2 9 (fX10_among e N m1 x2 v1) (cs_ m1 x2 10 (fX11_among_d8 e N m1 x2 v1) (cs_ m1 x2 11 (fX12_among_d8 e N m1 x2 v1) none)))) (fun x3 m2 => rt_ (x1 &&& (x3 ^^^ (-1))) m2))))
def fX11_among_d10_b44 (e : Nat → Nat) (N : Nat) (m : Mm) (s0 : Int64) : Rs (Int64) := rt_ s0 m
def fX11_among_d10 (e : Nat → Nat) (N : Nat) (m : Mm) (v0 : Option Nat) (v1 : Option Nat) : Rs (Int64) := gi_ m v0 10 2 (fun x1 => if x1 = 0 then (gr_ m v0 10 0 (fun x2 => bd_ (cs_ m x2 8 (fX9_among e N m x2 v1) (cs_ m x2 9 (fX10_among e N m x2 v1) (cs_ m x2 10 (fX11_among_d9 e N m x2 v1) (cs_ m x2 11 (fX12_among_d9 e N m x2 v1) none)))) (fun x3 m1 => gr_ m1 v0 10 1 (fun x8 => bd_ (cs_ m1 x8 8 (fX9_among e N m1 x8 v1) (cs_ m1 x8 9 (fX10_among e N m1 x8 v1) (cs_ m1 x8 10 (fX11_among_d9 e N m1 x8 v1) (cs_ m1 x8 11 (fX12_among_d9 e N m1 x8 v1) none)))) (fun x9 m6 => fX11_among_d10_b44 e N m6 (x3 ||| x9)))))) else (gr_ m v0 10 0 (fun x14 => bd_ (cs_ m x14 8 (fX9_among e N m x14 v1) (cs_ m x14 9 (fX10_among e N m x14 v1) (cs_ m x14 10 (fX11_among_d9 e N m x14 v1) (cs_ m x14 11 (fX12_among_d9 e N m x14 v1) none)))) (fun x15 m11 => gr_ m11 v0 10 1 (fun x20 => bd_ (cs_ m11 x20 8 (fX9_among e N m11 x20 v1) (cs_ m11 x20 9 (fX10_among e N m11 x20 v1) (cs_ m11 x20 10 (fX11_among_d9 e N m11 x20 v1) (cs_ m11 x20 11 (fX12_among_d9 e N m11 x20 v1) none)))) (fun x21 m16 => fX11_among_d10_b44 e N m16 (x15 &&& x21)))))))
def fX12_among_d10 (e : Nat → Nat) (N : Nat) (m : Mm) (v0 : Option Nat) (v1 : Option Nat) : Rs (Int64) := ck_ m v1 2 (bd_ (fX2_liveOnes e N m v1) (fun x1 m1 => gr_ m1 v0 11 0 (fun x2 => bd_ (cs_ m1 x2 8 (fX9_among e N m1 x2 v1) (cs_ m1 x2 9 (fX10_among e N m1 x2 v1) (cs_ m1 x2 10 (fX11_among_d9 e N m1 x2 v1) (cs_ m1 x2 11 (fX12_among_d9 e N m1 x2 v1) none)))) (fun x3 m2 => rt_ (x1 &&& (x3 ^^^ (-1))) m2))))
def fX11_among_d11_b44 (e : Nat → Nat) (N : Nat) (m : Mm) (s0 : Int64) : Rs (Int64) := rt_ s0 m
def fX11_among_d11 (e : Nat → Nat) (N : Nat) (m : Mm) (v0 : Option Nat) (v1 : Option Nat) : Rs (Int64) := gi_ m v0 10 2 (fun x1 => if x1 = 0 then (gr_ m v0 10 0 (fun x2 => bd_ (cs_ m x2 8 (fX9_among e N m x2 v1) (cs_ m x2 9 (fX10_among e N m x2 v1) (cs_ m x2 10 (fX11_among_d10 e N m x2 v1) (cs_ m x2 11 (fX12_among_d10 e N m x2 v1) none)))) (fun x3 m1 => gr_ m1 v0 10 1 (fun x8 => bd_ (cs_ m1 x8 8 (fX9_among e N m1 x8 v1) (cs_ m1 x8 9 (fX10_among e N m1 x8 v1) (cs_ m1 x8 10 (fX11_among_d10 e N m1 x8 v1) (cs_ m1 x8 11 (fX12_among_d10 e N m1 x8 v1) none)))) (fun x9 m6 => fX11_among_d11_b44 e N m6 (x3 ||| x9)))))) else (gr_ m v0 10 0 (fun x14 => bd_ (cs_ m x14 8 (fX9_among e N m x14 v1) (cs_ m x14 9 (fX10_among e N m x14 v1) (cs_ m x14 10 (fX11_among_d10 e N m x14 v1) (cs_ m x14 11 (fX12_among_d10 e N m x14 v1) none)))) (fun x15 m11 => gr_ m11 v0 10 1 (fun x20 => bd_ (cs_ m11 x20 8 (fX9_among e N m11 x20 v1) (cs_ m11 x20 9 (fX10_among e N m11 x20 v1) (cs_ m11 x20 10 (fX11_among_d10 e N m11 x20 v1) (cs_ m11 x20 11 (fX12_among_d10 e N m11 x20 v1) none)))) (fun x21 m16 => fX11_among_d11_b44 e N m16 (x15 &&& x21)))))))
def fX12_among_d11 (e : Nat → Nat) (N : Nat) (m : Mm) (v0 : Option Nat) (v1 : Option Nat) : Rs (Int64) := ck_ m v1 2 (bd_ (fX2_liveOnes e N m v1) (fun x1 m1 => gr_ m1 v0 11 0 (fun x2 => bd_ (cs_ m1 x2 8 (fX9_among e N m1 x2 v1) (cs_ m1 x2 9 (fX10_among e N m1 x2 v1) (cs_ m1 x2 10 (fX11_among_d10 e N m1 x2 v1) (cs_ m1 x2 11 (fX12_among_d10 e N m1 x2 v1) none)))) (fun x3 m2 => rt_ (x1 &&& (x3 ^^^ (-1))) m2))))
def fX11_among_d12_b44 (e : Nat → Nat) (N : Nat) (m : Mm) (s0 : Int64) : Rs (Int64) := rt_ s0 m
def fX11_among_d12 (e : Nat → Nat) (N : Nat) (m : Mm) (v0 : Option Nat) (v1 : Option Nat) : Rs (Int64) := gi_ m v0 10 2 (fun x1 => if x1 = 0 then (gr_ m v0 10 0 (fun x2 => bd_ (cs_ m x2 8 (fX9_among e N m x2 v1) (cs_ m x2 9 (fX10_among e N m x2 v1) (cs_ m x2 10 (fX11_among_d11 e N m x2 v1) (cs_ m x2 11 (fX12_among_d11 e N m x2 v1) none)))) (fun x3 m1 => gr_ m1 v0 10 1 (fun x8 => bd_ (cs_ m1 x8 8 (fX9_among e N m1 x8 v1) (cs_ m1 x8 9 (fX10_among e N m1 x8 v1) (cs_ m1 x8 10 (fX11_among_d11 e N m1 x8 v1) (cs_ m1 x8 11 (fX12_among_d11 e N m1 x8 v1) none)))) (fun x9 m6 => fX11_among_d12_b44 e N m6 (x3 ||| x9)))))) else (gr_ m v0 10 0 (fun x14 => bd_ (cs_ m x14 8 (fX9_among e N m x14 v1) (cs_ m x14 9 (fX10_among e N m x14 v1) (cs_ m x14 10 (fX11_among_d11 e N m x14 v1) (cs_ m x14 11 (fX12_among_d11 e N m x14 v1) none)))) (fun x15 m11 => gr_ m11 v0 10 1 (fun x20 => bd_ (cs_ m11 x20 8 (fX9_among e N m11 x20 v1) (cs_ m11 x20 9 (fX10_among e N m11 x20 v1) (cs_ m11 x20 10 (fX11_among_d11 e N m11 x20 v1) (cs_ m11 x20 11 (fX12_among_d11 e N m11 x20 v1) none)))) (fun x21 m16 => fX11_among_d12_b44 e N m16 (x15 &&& x21)))))))
def fX12_among_d12 (e : Nat → Nat) (N : Nat) (m : Mm) (v0 : Option Nat) (v1 : Option Nat) : Rs (Int64) := ck_ m v1 2 (bd_ (fX2_liveOnes e N m v1) (fun x1 m1 => gr_ m1 v0 11 0 (fun x2 => bd_ (cs_ m1 x2 8 (fX9_among e N m1 x2 v1) (cs_ m1 x2 9 (fX10_among e N m1 x2 v1) (cs_ m1 x2 10 (fX11_among_d11 e N m1 x2 v1) (cs_ m1 x2 11 (fX12_among_d11 e N m1 x2 v1) none)))) (fun x3 m2 => rt_ (x1 &&& (x3 ^^^ (-1))) m2))))
def fX11_among_d13_b44 (e : Nat → Nat) (N : Nat) (m : Mm) (s0 : Int64) : Rs (Int64) := rt_ s0 m
def fX11_among_d13 (e : Nat → Nat) (N : Nat) (m : Mm) (v0 : Option Nat) (v1 : Option Nat) : Rs (Int64) := gi_ m v0 10 2 (fun x1 => if x1 = 0 then (gr_ m v0 10 0 (fun x2 => bd_ (cs_ m x2 8 (fX9_among e N m x2 v1) (cs_ m x2 9 (fX10_among e N m x2 v1) (cs_ m x2 10 (fX11_among_d12 e N m x2 v1) (cs_ m x2 11 (fX12_among_d12 e N m x2 v1) none)))) (fun x3 m1 => gr_ m1 v0 10 1 (fun x8 => bd_ (cs_ m1 x8 8 (fX9_among e N m1 x8 v1) (cs_ m1 x8 9 (fX10_among e N m1 x8 v1) (cs_ m1 x8 10 (fX11_among_d12 e N m1 x8 v1) (cs_ m1 x8 11 (fX12_among_d12 e N m1 x8 v1) none)))) (fun x9 m6 => fX11_among_d13_b44 e N m6 (x3 ||| x9)))))) else (gr_ m v0 10 0 (fun x14 => bd_ (cs_ m x14 8 (fX9_among e N m x14 v1) (cs_ m x14 9 (fX10_among e N m x14 v1) (cs_ m x14 10 (fX11_among_d12 e N m x14 v1) (cs_ m x14 11 (fX12_among_d12 e N m x14 v1) none)))) (fun x15 m11 => gr_ m11 v0 10 1 (fun x20 => bd_ (cs_ m11 x20 8 (fX9_among e N m11 x20 v1) (cs_ m11 x20 9 (fX10_among e N m11 x20 v1) (cs_ m11 x20 10 (fX11_among_d12 e N m11 x20 v1) (cs_ m11 x20 11 (fX12_among_d12 e N m11 x20 v1) none)))) (fun x21 m16 => fX11_among_d13_b44 e N m16 (x15 &&& x21)))))))
def fX12_among_d13 (e : Nat → Nat) (N : Nat) (m : Mm) (v0 : Option Nat) (v1 : Option Nat) : Rs (Int64) := ck_ m v1 2 (bd_ (fX2_liveOnes e N m v1) (fun x1 m1 => gr_ m1 v0 11 0 (fun x2 => bd_ (cs_ m1 x2 8 (fX9_among e N m1 x2 v1) (cs_ m1 x2 9 (fX10_among e N m1 x2 v1) (cs_ m1 x2 10 (fX11_among_d12 e N m1 x2 v1) (cs_ m1 x2 11 (fX12_among_d12 e N m1 x2 v1) none)))) (fun x3 m2 => rt_ (x1 &&& (x3 ^^^ (-1))) m2))))
def fX11_among_d14_b44 (e : Nat → Nat) (N : Nat) (m : Mm) (s0 : Int64) : Rs (Int64) := rt_ s0 m
def fX11_among_d14 (e : Nat → Nat) (N : Nat) (m : Mm) (v0 : Option Nat) (v1 : Option Nat) : Rs (Int64) := gi_ m v0 10 2 (fun x1 => if x1 = 0 then (gr_ m v0 10 0 (fun x2 => bd_ (cs_ m x2 8 (fX9_among e N m x2 v1) (cs_ m x2 9 (fX10_among e N m x2 v1) (cs_ m x2 10 (fX11_among_d13 e N m x2 v1) (cs_ m x2 11 (fX12_among_d13 e N m x2 v1) none)))) (fun x3 m1 => gr_ m1 v0 10 1 (fun x8 => bd_ (cs_ m1 x8 8 (fX9_among e N m1 x8 v1) (cs_ m1 x8 9 (fX10_among e N m1 x8 v1) (cs_ m1 x8 10 (fX11_among_d13 e N m1 x8 v1) (cs_ m1 x8 11 (fX12_among_d13 e N m1 x8 v1) none)))) (fun x9 m6 => fX11_among_d14_b44 e N m6 (x3 ||| x9)))))) else (gr_ m v0 10 0 (fun x14 => bd_ (cs_ m x14 8 (fX9_among e N m x14 v1) (cs_ m x14 9 (fX10_among e N m x14 v1) (cs_ m x14 10 (fX11_among_d13 e N m x14 v1) (cs_ m x14 11 (fX12_among_d13 e N m x14 v1) none)))) (fun x15 m11 => gr_ m11 v0 10 1 (fun x20 => bd_ (cs_ m11 x20 8 (fX9_among e N m11 x20 v1) (cs_ m11 x20 9 (fX10_among e N m11 x20 v1) (cs_ m11 x20 10 (fX11_among_d13 e N m11 x20 v1) (cs_ m11 x20 11 (fX12_among_d13 e N m11 x20 v1) none)))) (fun x21 m16 => fX11_among_d14_b44 e N m16 (x15 &&& x21)))))))
def fX12_among_d14 (e : Nat → Nat) (N : Nat) (m : Mm) (v0 : Option Nat) (v1 : Option Nat) : Rs (Int64) := ck_ m v1 2 (bd_ (fX2_liveOnes e N m v1) (fun x1 m1 => gr_ m1 v0 11 0 (fun x2 => bd_ (cs_ m1 x2 8 (fX9_among e N m1 x2 v1) (cs_ m1 x2 9 (fX10_among e N m1 x2 v1) (cs_ m1 x2 10 (fX11_among_d13 e N m1 x2 v1) (cs_ m1 x2 11 (fX12_among_d13 e N m1 x2 v1) none)))) (fun x3 m2 => rt_ (x1 &&& (x3 ^^^ (-1))) m2))))
abbrev cX1_search : ByteArray := prog_1_method_47_code
def yX1_search : MethodName := ⟨RX1, "search", "(III)I"⟩
def dkwX1_search_4 : List UInt8 := [185, 0, 80, 2, 0, 87, 132, 7, 1, 167, 255, 186, 42, 180, 0, 72, 185, 0, 137, 1, 0, 172]
abbrev dktX1_search_4 : List UInt8 := dkwX1_search_4 ++ []
def dkwX1_search_3 : List UInt8 := [3, 182, 0, 209, 153, 0, 23, 42, 180, 0, 72, 16, 100, 27, 104, 21, 7, 96, 184, 1, 193]
abbrev dktX1_search_3 : List UInt8 := dkwX1_search_3 ++ dktX1_search_4
def dkwX1_search_2 : List UInt8 := [154, 0, 51, 25, 4, 21, 7, 28, 29, 184, 1, 189, 153, 0, 39, 25, 4, 25, 4, 180, 0, 189, 21, 7]
abbrev dktX1_search_2 : List UInt8 := dkwX1_search_2 ++ dktX1_search_3
def dkwX1_search_1 : List UInt8 := [185, 0, 201, 1, 0, 3, 54, 7, 21, 7, 16, 48, 162, 0, 69, 22, 5, 21, 7, 123, 10, 127, 10, 148]
abbrev dktX1_search_1 : List UInt8 := dkwX1_search_1 ++ dktX1_search_2
def dkwX1_search_0 : List UInt8 := [42, 27, 28, 29, 182, 1, 177, 58, 4, 42, 182, 1, 181, 25, 4, 182, 1, 185, 55, 5, 42, 180, 0, 72]
abbrev dktX1_search_0 : List UInt8 := dkwX1_search_0 ++ dktX1_search_1
theorem dksX1_search_0 : cX1_search.data.toList.drop 0 = dktX1_search_0 := by decide +kernel
theorem dksX1_search_1 : cX1_search.data.toList.drop 24 = dktX1_search_1 := dk_seg dksX1_search_0 24 rfl rfl
theorem dksX1_search_2 : cX1_search.data.toList.drop 48 = dktX1_search_2 := dk_seg dksX1_search_1 24 rfl rfl
theorem dksX1_search_3 : cX1_search.data.toList.drop 72 = dktX1_search_3 := dk_seg dksX1_search_2 24 rfl rfl
theorem dksX1_search_4 : cX1_search.data.toList.drop 93 = dktX1_search_4 := dk_seg dksX1_search_3 21 rfl rfl
theorem dX1_search_0 : decode cX1_search 0 = .ok (.aload_n 0, 1) := dk_42 (dk_at dksX1_search_0 0 rfl rfl)
theorem dX1_search_1 : decode cX1_search 1 = .ok (.iload_n 1, 1) := dk_27 (dk_at dksX1_search_0 1 rfl rfl)
theorem dX1_search_2 : decode cX1_search 2 = .ok (.iload_n 2, 1) := dk_28 (dk_at dksX1_search_0 2 rfl rfl)
theorem dX1_search_3 : decode cX1_search 3 = .ok (.iload_n 3, 1) := dk_29 (dk_at dksX1_search_0 3 rfl rfl)
theorem dX1_search_4 : decode cX1_search 4 = .ok (.invokevirtual 433, 3) := dk_182 1 177 (dk_at dksX1_search_0 4 rfl rfl)
theorem dX1_search_7 : decode cX1_search 7 = .ok (.astore 4, 2) := dk_58 4 (dk_at dksX1_search_0 7 rfl rfl)
theorem dX1_search_9 : decode cX1_search 9 = .ok (.aload_n 0, 1) := dk_42 (dk_at dksX1_search_0 9 rfl rfl)
theorem dX1_search_10 : decode cX1_search 10 = .ok (.invokevirtual 437, 3) := dk_182 1 181 (dk_at dksX1_search_0 10 rfl rfl)
theorem dX1_search_13 : decode cX1_search 13 = .ok (.aload 4, 2) := dk_25 4 (dk_at dksX1_search_0 13 rfl rfl)
theorem dX1_search_15 : decode cX1_search 15 = .ok (.invokevirtual 441, 3) := dk_182 1 185 (dk_at dksX1_search_0 15 rfl rfl)
theorem dX1_search_18 : decode cX1_search 18 = .ok (.lstore 5, 2) := dk_55 5 (dk_at dksX1_search_0 18 rfl rfl)
theorem dX1_search_20 : decode cX1_search 20 = .ok (.aload_n 0, 1) := dk_42 (dk_at dksX1_search_0 20 rfl rfl)
theorem dX1_search_21 : decode cX1_search 21 = .ok (.getfield 72, 3) := dk_180 0 72 (dk_at dksX1_search_0 21 rfl rfl)
theorem dX1_search_24 : decode cX1_search 24 = .ok (.invokeinterface 201 1, 5) := by decide +kernel
theorem dX1_search_29 : decode cX1_search 29 = .ok (.iconst 0, 1) := dk_3 (dk_at dksX1_search_1 5 rfl rfl)
theorem dX1_search_30 : decode cX1_search 30 = .ok (.istore 7, 2) := dk_54 7 (dk_at dksX1_search_1 6 rfl rfl)
theorem dX1_search_32 : decode cX1_search 32 = .ok (.iload 7, 2) := dk_21 7 (dk_at dksX1_search_1 8 rfl rfl)
theorem dX1_search_34 : decode cX1_search 34 = .ok (.bipush 48, 2) := dk_16 48 (dk_at dksX1_search_1 10 rfl rfl)
theorem dX1_search_36 : decode cX1_search 36 = .ok (.if_icmp .ge 69, 3) := dk_162 0 69 (dk_at dksX1_search_1 12 rfl rfl)
theorem dX1_search_39 : decode cX1_search 39 = .ok (.lload 5, 2) := dk_22 5 (dk_at dksX1_search_1 15 rfl rfl)
theorem dX1_search_41 : decode cX1_search 41 = .ok (.iload 7, 2) := dk_21 7 (dk_at dksX1_search_1 17 rfl rfl)
theorem dX1_search_43 : decode cX1_search 43 = .ok (.lshr, 1) := dk_123 (dk_at dksX1_search_1 19 rfl rfl)
theorem dX1_search_44 : decode cX1_search 44 = .ok (.lconst 1, 1) := dk_10 (dk_at dksX1_search_1 20 rfl rfl)
theorem dX1_search_45 : decode cX1_search 45 = .ok (.land, 1) := dk_127 (dk_at dksX1_search_1 21 rfl rfl)
theorem dX1_search_46 : decode cX1_search 46 = .ok (.lconst 1, 1) := dk_10 (dk_at dksX1_search_1 22 rfl rfl)
theorem dX1_search_47 : decode cX1_search 47 = .ok (.lcmp, 1) := dk_148 (dk_at dksX1_search_1 23 rfl rfl)
theorem dX1_search_48 : decode cX1_search 48 = .ok (.ifCond .ne 51, 3) := dk_154 0 51 (dk_at dksX1_search_2 0 rfl rfl)
theorem dX1_search_51 : decode cX1_search 51 = .ok (.aload 4, 2) := dk_25 4 (dk_at dksX1_search_2 3 rfl rfl)
theorem dX1_search_53 : decode cX1_search 53 = .ok (.iload 7, 2) := dk_21 7 (dk_at dksX1_search_2 5 rfl rfl)
theorem dX1_search_55 : decode cX1_search 55 = .ok (.iload_n 2, 1) := dk_28 (dk_at dksX1_search_2 7 rfl rfl)
theorem dX1_search_56 : decode cX1_search 56 = .ok (.iload_n 3, 1) := dk_29 (dk_at dksX1_search_2 8 rfl rfl)
theorem dX1_search_57 : decode cX1_search 57 = .ok (.invokestatic 445, 3) := dk_184 1 189 (dk_at dksX1_search_2 9 rfl rfl)
theorem dX1_search_60 : decode cX1_search 60 = .ok (.ifCond .eq 39, 3) := dk_153 0 39 (dk_at dksX1_search_2 12 rfl rfl)
theorem dX1_search_63 : decode cX1_search 63 = .ok (.aload 4, 2) := dk_25 4 (dk_at dksX1_search_2 15 rfl rfl)
theorem dX1_search_65 : decode cX1_search 65 = .ok (.aload 4, 2) := dk_25 4 (dk_at dksX1_search_2 17 rfl rfl)
theorem dX1_search_67 : decode cX1_search 67 = .ok (.getfield 189, 3) := dk_180 0 189 (dk_at dksX1_search_2 19 rfl rfl)
theorem dX1_search_70 : decode cX1_search 70 = .ok (.iload 7, 2) := dk_21 7 (dk_at dksX1_search_2 22 rfl rfl)
theorem dX1_search_72 : decode cX1_search 72 = .ok (.iconst 0, 1) := dk_3 (dk_at dksX1_search_3 0 rfl rfl)
theorem dX1_search_73 : decode cX1_search 73 = .ok (.invokevirtual 209, 3) := dk_182 0 209 (dk_at dksX1_search_3 1 rfl rfl)
theorem dX1_search_76 : decode cX1_search 76 = .ok (.ifCond .eq 23, 3) := dk_153 0 23 (dk_at dksX1_search_3 4 rfl rfl)
theorem dX1_search_79 : decode cX1_search 79 = .ok (.aload_n 0, 1) := dk_42 (dk_at dksX1_search_3 7 rfl rfl)
theorem dX1_search_80 : decode cX1_search 80 = .ok (.getfield 72, 3) := dk_180 0 72 (dk_at dksX1_search_3 8 rfl rfl)
theorem dX1_search_83 : decode cX1_search 83 = .ok (.bipush 100, 2) := dk_16 100 (dk_at dksX1_search_3 11 rfl rfl)
theorem dX1_search_85 : decode cX1_search 85 = .ok (.iload_n 1, 1) := dk_27 (dk_at dksX1_search_3 13 rfl rfl)
theorem dX1_search_86 : decode cX1_search 86 = .ok (.imul, 1) := dk_104 (dk_at dksX1_search_3 14 rfl rfl)
theorem dX1_search_87 : decode cX1_search 87 = .ok (.iload 7, 2) := dk_21 7 (dk_at dksX1_search_3 15 rfl rfl)
theorem dX1_search_89 : decode cX1_search 89 = .ok (.iadd, 1) := dk_96 (dk_at dksX1_search_3 17 rfl rfl)
theorem dX1_search_90 : decode cX1_search 90 = .ok (.invokestatic 449, 3) := dk_184 1 193 (dk_at dksX1_search_3 18 rfl rfl)
theorem dX1_search_93 : decode cX1_search 93 = .ok (.invokeinterface 80 2, 5) := by decide +kernel
theorem dX1_search_98 : decode cX1_search 98 = .ok (.pop, 1) := dk_87 (dk_at dksX1_search_4 5 rfl rfl)
theorem dX1_search_99 : decode cX1_search 99 = .ok (.iinc 7 1, 3) := dk_132 7 1 (dk_at dksX1_search_4 6 rfl rfl)
theorem dX1_search_102 : decode cX1_search 102 = .ok (.goto (-70), 3) := dk_167 255 186 (dk_at dksX1_search_4 9 rfl rfl)
theorem dX1_search_105 : decode cX1_search 105 = .ok (.aload_n 0, 1) := dk_42 (dk_at dksX1_search_4 12 rfl rfl)
theorem dX1_search_106 : decode cX1_search 106 = .ok (.getfield 72, 3) := dk_180 0 72 (dk_at dksX1_search_4 13 rfl rfl)
theorem dX1_search_109 : decode cX1_search 109 = .ok (.invokeinterface 137 1, 5) := by decide +kernel
theorem dX1_search_114 : decode cX1_search 114 = .ok (.ireturn, 1) := dk_172 (dk_at dksX1_search_4 21 rfl rfl)
def fX1_search_b99 (e : Nat → Nat) (N : Nat) (k32 : Mm → Option Nat → Int32 → Int32 → Int32 → Option Nat → Int64 → Int32 → Rs (Int32 ⊕ Nat)) (m : Mm) (v0 : Option Nat) (v1 : Int32) (v2 : Int32) (v3 : Int32) (v4 : Option Nat) (v5 : Int64) (v7 : Int32) : Rs (Int32 ⊕ Nat) := k32 m v0 v1 v2 v3 v4 v5 (v7 + 1)
def fX1_search_b32 (e : Nat → Nat) (N : Nat) : Nat → Mm → Option Nat → Int32 → Int32 → Int32 → Option Nat → Int64 → Int32 → Rs (Int32 ⊕ Nat)
  | 0, _, _, _, _, _, _, _, _ => none
  | F + 1, m, v0, v1, v2, v3, v4, v5, v7 => if v7 < 48 then (if (lg_cmp ((v5 >>> ((v7 : Int32).toInt64 &&& 63)) &&& 1) 1) = 0 then (bd_ (fX1_belongs e N m v4 v7 v2 v3) (fun x1 m1 => if x1 = 0 then (fX1_search_b99 e N (fX1_search_b32 e N F) m1 v0 v1 v2 v3 v4 v5 v7) else (gi_ m1 v4 2 3 (fun x2 => ck_ m1 v4 2 (bd_ (fX2_may e N m1 v4 x2 v7 0) (fun x3 m2 => if x3 = 0 then (fX1_search_b99 e N (fX1_search_b32 e N F) m2 v0 v1 v2 v3 v4 v5 v7) else (gr_ m2 v0 1 8 (fun x4 => bd_ (fJ21_valueOf e N m2 ((100 * v1) + v7)) (fun x5 m3 => ck_ m3 x4 13 (bd_ (fJ2_add e N m3 x4 x5) (fun x6 m4 => fX1_search_b99 e N (fX1_search_b32 e N F) m4 v0 v1 v2 v3 v4 v5 v7))))))))))) else (fX1_search_b99 e N (fX1_search_b32 e N F) m v0 v1 v2 v3 v4 v5 v7)) else (gr_ m v0 1 8 (fun x7 => ck_ m x7 13 (bd_ (fJ2_size e N m x7) (fun x8 m5 => rt_ (.inl x8) m5))))
def fX1_search (e : Nat → Nat) (N : Nat) (m : Mm) (v0 : Option Nat) (v1 : Int32) (v2 : Int32) (v3 : Int32) : Rs (Int32 ⊕ Nat) := ck_ m v0 1 (bd_ (fX1_searched e N m v0 v1 v2 v3) (xf_ (fun x1 m1 => ck_ m1 v0 1 (bd_ (fX1_filter e N m1 v0) (xf_ (fun x2 m2 => bd_ (cs_ m2 x2 8 (fX9_among e N m2 x2 x1) (cs_ m2 x2 9 (fX10_among e N m2 x2 x1) (cs_ m2 x2 10 (fX11_among_d14 e N m2 x2 x1) (cs_ m2 x2 11 (fX12_among_d14 e N m2 x2 x1) none)))) (fun x3 m3 => gr_ m3 v0 1 8 (fun x8 => ck_ m3 x8 13 (bd_ (fJ2_clear e N m3 x8) (fun _ m8 => fX1_search_b32 e N N m8 v0 v1 v2 v3 x1 x3 0))))))))))
abbrev cX0_search : ByteArray := method_24_code
def yX0_search : MethodName := ⟨RX0, "search", "(LMasterTree;III[J)I"⟩
def dkwX0_search_1 : List UInt8 := [172]
abbrev dktX0_search_1 : List UInt8 := dkwX0_search_1 ++ []
def dkwX0_search_0 : List UInt8 := [25, 4, 3, 42, 27, 28, 29, 182, 0, 86, 133, 80, 167, 0, 11, 58, 5, 4, 172, 58, 5, 5, 172, 3]
abbrev dktX0_search_0 : List UInt8 := dkwX0_search_0 ++ dktX0_search_1
theorem dksX0_search_0 : cX0_search.data.toList.drop 0 = dktX0_search_0 := by decide +kernel
theorem dksX0_search_1 : cX0_search.data.toList.drop 24 = dktX0_search_1 := dk_seg dksX0_search_0 24 rfl rfl
theorem dX0_search_0 : decode cX0_search 0 = .ok (.aload 4, 2) := dk_25 4 (dk_at dksX0_search_0 0 rfl rfl)
theorem dX0_search_2 : decode cX0_search 2 = .ok (.iconst 0, 1) := dk_3 (dk_at dksX0_search_0 2 rfl rfl)
theorem dX0_search_3 : decode cX0_search 3 = .ok (.aload_n 0, 1) := dk_42 (dk_at dksX0_search_0 3 rfl rfl)
theorem dX0_search_4 : decode cX0_search 4 = .ok (.iload_n 1, 1) := dk_27 (dk_at dksX0_search_0 4 rfl rfl)
theorem dX0_search_5 : decode cX0_search 5 = .ok (.iload_n 2, 1) := dk_28 (dk_at dksX0_search_0 5 rfl rfl)
theorem dX0_search_6 : decode cX0_search 6 = .ok (.iload_n 3, 1) := dk_29 (dk_at dksX0_search_0 6 rfl rfl)
theorem dX0_search_7 : decode cX0_search 7 = .ok (.invokevirtual 86, 3) := dk_182 0 86 (dk_at dksX0_search_0 7 rfl rfl)
theorem dX0_search_10 : decode cX0_search 10 = .ok (.i2l, 1) := dk_133 (dk_at dksX0_search_0 10 rfl rfl)
theorem dX0_search_11 : decode cX0_search 11 = .ok (.lastore, 1) := dk_80 (dk_at dksX0_search_0 11 rfl rfl)
theorem dX0_search_12 : decode cX0_search 12 = .ok (.goto 11, 3) := dk_167 0 11 (dk_at dksX0_search_0 12 rfl rfl)
theorem dX0_search_15 : decode cX0_search 15 = .ok (.astore 5, 2) := dk_58 5 (dk_at dksX0_search_0 15 rfl rfl)
theorem dX0_search_17 : decode cX0_search 17 = .ok (.iconst 1, 1) := dk_4 (dk_at dksX0_search_0 17 rfl rfl)
theorem dX0_search_18 : decode cX0_search 18 = .ok (.ireturn, 1) := dk_172 (dk_at dksX0_search_0 18 rfl rfl)
theorem dX0_search_19 : decode cX0_search 19 = .ok (.astore 5, 2) := dk_58 5 (dk_at dksX0_search_0 19 rfl rfl)
theorem dX0_search_21 : decode cX0_search 21 = .ok (.iconst 2, 1) := dk_5 (dk_at dksX0_search_0 21 rfl rfl)
theorem dX0_search_22 : decode cX0_search 22 = .ok (.ireturn, 1) := dk_172 (dk_at dksX0_search_0 22 rfl rfl)
theorem dX0_search_23 : decode cX0_search 23 = .ok (.iconst 0, 1) := dk_3 (dk_at dksX0_search_0 23 rfl rfl)
theorem dX0_search_24 : decode cX0_search 24 = .ok (.ireturn, 1) := dk_172 (dk_at dksX0_search_1 0 rfl rfl)
def fX0_search (e : Nat → Nat) (N : Nat) (m : Mm) (v0 : Option Nat) (v1 : Int32) (v2 : Int32) (v3 : Int32) (v4 : Option Nat) : Rs (Int32) := ck_ m v0 1 (bd_ (fX1_search e N m v0 v1 v2 v3) (ch_ (fun x1 m1 => bj_ m1 v4 203 0 ((x1 : Int32).toInt64) (fun m2 => rt_ 0 m2)) (fun i_ m0 => if i_ = 0 then rt_ 1 m0 else if i_ = 2 then rt_ 2 m0 else none)))
def fJ26_hasNext_t24_b26 (e : Nat → Nat) (N : Nat) (m : Mm) (s0 : Int32) : Rs (Int32) := rz_ s0 s0 m
def fJ26_hasNext_t24_b25 (e : Nat → Nat) (N : Nat) (m : Mm) : Rs (Int32) := fJ26_hasNext_t24_b26 e N m 0
def fJ26_hasNext_t24 (e : Nat → Nat) (N : Nat) (m : Mm) (v0 : Option Nat) : Rs (Int32) := gr_ m v0 24 1 (fun x1 => if x1 = none then (fJ26_hasNext_t24_b25 e N m) else (gr_ m v0 24 1 (fun x2 => gr_ m x2 16 0 (fun x3 => gr_ m v0 24 2 (fun x4 => if x3 = x4 then (fJ26_hasNext_t24_b25 e N m) else (fJ26_hasNext_t24_b26 e N m 1))))))
def fJ26_nextEntry_t24_b20 (e : Nat → Nat) (N : Nat) (m : Mm) : Rs (Option Nat) := none
def fJ26_nextEntry_t24 (e : Nat → Nat) (N : Nat) (m : Mm) (v0 : Option Nat) : Rs (Option Nat) := gr_ m v0 24 1 (fun x1 => if x1 = none then (fJ26_nextEntry_t24_b20 e N m) else (gr_ m x1 16 0 (fun x2 => gr_ m v0 24 2 (fun x3 => if x2 = x3 then (fJ26_nextEntry_t24_b20 e N m) else (gr_ m v0 24 4 (fun x4 => gr_ m x4 21 0 (fun x5 => gi_ m x5 15 5 (fun x6 => gi_ m v0 24 3 (fun x7 => if x6 = x7 then (bd_ (fJ4_successor e N m x1) (fun x8 m1 => pr_ m1 v0 24 1 x8 (fun m2 => pr_ m2 v0 24 0 x1 (fun m3 => rt_ x1 m3)))) else (none))))))))))
abbrev cJ33_next : ByteArray := prog_91_method_2_code
def yJ33_next : MethodName := ⟨RJ33, "next", "()Ljava/lang/Object;"⟩
def dkwJ33_next_0 : List UInt8 := [42, 182, 0, 13, 180, 0, 17, 176]
abbrev dktJ33_next_0 : List UInt8 := dkwJ33_next_0 ++ []
theorem dksJ33_next_0 : cJ33_next.data.toList.drop 0 = dktJ33_next_0 := by decide +kernel
theorem dJ33_next_0 : decode cJ33_next 0 = .ok (.aload_n 0, 1) := dk_42 (dk_at dksJ33_next_0 0 rfl rfl)
theorem dJ33_next_1 : decode cJ33_next 1 = .ok (.invokevirtual 13, 3) := dk_182 0 13 (dk_at dksJ33_next_0 1 rfl rfl)
theorem dJ33_next_4 : decode cJ33_next 4 = .ok (.getfield 17, 3) := dk_180 0 17 (dk_at dksJ33_next_0 4 rfl rfl)
theorem dJ33_next_7 : decode cJ33_next 7 = .ok (.areturn, 1) := dk_176 (dk_at dksJ33_next_0 7 rfl rfl)
def fJ33_next (e : Nat → Nat) (N : Nat) (m : Mm) (v0 : Option Nat) : Rs (Option Nat) := ck_ m v0 24 (bd_ (fJ26_nextEntry_t24 e N m v0) (fun x1 m1 => gr_ m1 x1 16 0 (fun x2 => rt_ x2 m1)))
abbrev cJ38_navigableKeySet : ByteArray := prog_87_method_49_code
def yJ38_navigableKeySet : MethodName := ⟨RJ38, "navigableKeySet", "()Ljava/util/NavigableSet;"⟩
def dkwJ38_navigableKeySet_1 : List UInt8 := [181, 0, 181, 176]
abbrev dktJ38_navigableKeySet_1 : List UInt8 := dkwJ38_navigableKeySet_1 ++ []
def dkwJ38_navigableKeySet_0 : List UInt8 := [42, 180, 0, 181, 76, 43, 198, 0, 7, 43, 167, 0, 16, 42, 187, 0, 185, 89, 42, 183, 0, 187, 90]
abbrev dktJ38_navigableKeySet_0 : List UInt8 := dkwJ38_navigableKeySet_0 ++ dktJ38_navigableKeySet_1
theorem dksJ38_navigableKeySet_0 : cJ38_navigableKeySet.data.toList.drop 0 = dktJ38_navigableKeySet_0 := by decide +kernel
theorem dksJ38_navigableKeySet_1 : cJ38_navigableKeySet.data.toList.drop 23 = dktJ38_navigableKeySet_1 := dk_seg dksJ38_navigableKeySet_0 23 rfl rfl
theorem dJ38_navigableKeySet_0 : decode cJ38_navigableKeySet 0 = .ok (.aload_n 0, 1) := dk_42 (dk_at dksJ38_navigableKeySet_0 0 rfl rfl)
theorem dJ38_navigableKeySet_1 : decode cJ38_navigableKeySet 1 = .ok (.getfield 181, 3) := dk_180 0 181 (dk_at dksJ38_navigableKeySet_0 1 rfl rfl)
theorem dJ38_navigableKeySet_4 : decode cJ38_navigableKeySet 4 = .ok (.astore_n 1, 1) := dk_76 (dk_at dksJ38_navigableKeySet_0 4 rfl rfl)
theorem dJ38_navigableKeySet_5 : decode cJ38_navigableKeySet 5 = .ok (.aload_n 1, 1) := dk_43 (dk_at dksJ38_navigableKeySet_0 5 rfl rfl)
theorem dJ38_navigableKeySet_6 : decode cJ38_navigableKeySet 6 = .ok (.ifnull 7, 3) := dk_198 0 7 (dk_at dksJ38_navigableKeySet_0 6 rfl rfl)
theorem dJ38_navigableKeySet_9 : decode cJ38_navigableKeySet 9 = .ok (.aload_n 1, 1) := dk_43 (dk_at dksJ38_navigableKeySet_0 9 rfl rfl)
theorem dJ38_navigableKeySet_10 : decode cJ38_navigableKeySet 10 = .ok (.goto 16, 3) := dk_167 0 16 (dk_at dksJ38_navigableKeySet_0 10 rfl rfl)
theorem dJ38_navigableKeySet_13 : decode cJ38_navigableKeySet 13 = .ok (.aload_n 0, 1) := dk_42 (dk_at dksJ38_navigableKeySet_0 13 rfl rfl)
theorem dJ38_navigableKeySet_14 : decode cJ38_navigableKeySet 14 = .ok (.new 185, 3) := dk_187 0 185 (dk_at dksJ38_navigableKeySet_0 14 rfl rfl)
theorem dJ38_navigableKeySet_17 : decode cJ38_navigableKeySet 17 = .ok (.dup, 1) := dk_89 (dk_at dksJ38_navigableKeySet_0 17 rfl rfl)
theorem dJ38_navigableKeySet_18 : decode cJ38_navigableKeySet 18 = .ok (.aload_n 0, 1) := dk_42 (dk_at dksJ38_navigableKeySet_0 18 rfl rfl)
theorem dJ38_navigableKeySet_19 : decode cJ38_navigableKeySet 19 = .ok (.invokespecial 187, 3) := dk_183 0 187 (dk_at dksJ38_navigableKeySet_0 19 rfl rfl)
theorem dJ38_navigableKeySet_22 : decode cJ38_navigableKeySet 22 = .ok (.dup_x1, 1) := dk_90 (dk_at dksJ38_navigableKeySet_0 22 rfl rfl)
theorem dJ38_navigableKeySet_23 : decode cJ38_navigableKeySet 23 = .ok (.putfield 181, 3) := dk_181 0 181 (dk_at dksJ38_navigableKeySet_1 0 rfl rfl)
theorem dJ38_navigableKeySet_26 : decode cJ38_navigableKeySet 26 = .ok (.areturn, 1) := dk_176 (dk_at dksJ38_navigableKeySet_1 3 rfl rfl)
def fJ38_navigableKeySet_t21_b26 (e : Nat → Nat) (N : Nat) (m : Mm) (s0 : Option Nat) : Rs (Option Nat) := rt_ s0 m
def fJ38_navigableKeySet_t21 (e : Nat → Nat) (N : Nat) (m : Mm) (v0 : Option Nat) : Rs (Option Nat) := gr_ m v0 21 9 (fun x1 => if x1 = none then (nw_ m 17 1 (fun x2 m1 => bd_ (fJ36_init e N m1 (some x2) v0) (fun _ m2 => pr_ m2 v0 21 9 (some x2) (fun m3 => fJ38_navigableKeySet_t21_b26 e N m3 (some x2))))) else (fJ38_navigableKeySet_t21_b26 e N m x1))
abbrev cJ38_keySet : ByteArray := prog_87_method_50_code
def yJ38_keySet : MethodName := ⟨RJ38, "keySet", "()Ljava/util/Set;"⟩
theorem dJ38_keySet_0 : decode cJ38_keySet 0 = .ok (.aload_n 0, 1) := by decide +kernel
theorem dJ38_keySet_1 : decode cJ38_keySet 1 = .ok (.invokevirtual 190, 3) := by decide +kernel
theorem dJ38_keySet_4 : decode cJ38_keySet 4 = .ok (.areturn, 1) := by decide +kernel
def fJ38_keySet_t21 (e : Nat → Nat) (N : Nat) (m : Mm) (v0 : Option Nat) : Rs (Option Nat) := ck_ m v0 21 (bd_ (fJ38_navigableKeySet_t21 e N m v0) (fun x1 m1 => rt_ x1 m1))
abbrev cX9_applies : ByteArray := prog_4_method_3_code
def yX9_applies : MethodName := ⟨RX9, "applies", "(LMasterTree$Master;LMasterTree$Entry;)Z"⟩
def dkwX9_applies_4 : List UInt8 := [29, 172]
abbrev dktX9_applies_4 : List UInt8 := dkwX9_applies_4 ++ []
def dkwX9_applies_3 : List UInt8 := [180, 0, 18, 153, 0, 16, 21, 6, 42, 180, 0, 15, 164, 0, 7, 4, 167, 0, 4, 3, 62, 167, 255, 188]
abbrev dktX9_applies_3 : List UInt8 := dkwX9_applies_3 ++ dktX9_applies_4
def dkwX9_applies_2 : List UInt8 := [21, 5, 17, 3, 232, 112, 54, 6, 29, 154, 0, 28, 21, 6, 42, 180, 0, 15, 159, 0, 19, 42]
abbrev dktX9_applies_2 : List UInt8 := dkwX9_applies_2 ++ dktX9_applies_3
def dkwX9_applies_1 : List UInt8 := [185, 0, 52, 1, 0, 153, 0, 64, 25, 4, 185, 0, 58, 1, 0, 192, 0, 29, 182, 0, 83, 54, 5]
abbrev dktX9_applies_1 : List UInt8 := dkwX9_applies_1 ++ dktX9_applies_2
def dkwX9_applies_0 : List UInt8 := [3, 62, 44, 42, 180, 0, 9, 182, 0, 68, 185, 0, 74, 1, 0, 185, 0, 80, 1, 0, 58, 4, 25, 4]
abbrev dktX9_applies_0 : List UInt8 := dkwX9_applies_0 ++ dktX9_applies_1
theorem dksX9_applies_0 : cX9_applies.data.toList.drop 0 = dktX9_applies_0 := by decide +kernel
theorem dksX9_applies_1 : cX9_applies.data.toList.drop 24 = dktX9_applies_1 := dk_seg dksX9_applies_0 24 rfl rfl
theorem dksX9_applies_2 : cX9_applies.data.toList.drop 47 = dktX9_applies_2 := dk_seg dksX9_applies_1 23 rfl rfl
theorem dksX9_applies_3 : cX9_applies.data.toList.drop 69 = dktX9_applies_3 := dk_seg dksX9_applies_2 22 rfl rfl
theorem dksX9_applies_4 : cX9_applies.data.toList.drop 93 = dktX9_applies_4 := dk_seg dksX9_applies_3 24 rfl rfl
theorem dX9_applies_0 : decode cX9_applies 0 = .ok (.iconst 0, 1) := dk_3 (dk_at dksX9_applies_0 0 rfl rfl)
theorem dX9_applies_1 : decode cX9_applies 1 = .ok (.istore_n 3, 1) := dk_62 (dk_at dksX9_applies_0 1 rfl rfl)
theorem dX9_applies_2 : decode cX9_applies 2 = .ok (.aload_n 2, 1) := dk_44 (dk_at dksX9_applies_0 2 rfl rfl)
theorem dX9_applies_3 : decode cX9_applies 3 = .ok (.aload_n 0, 1) := dk_42 (dk_at dksX9_applies_0 3 rfl rfl)
theorem dX9_applies_4 : decode cX9_applies 4 = .ok (.getfield 9, 3) := dk_180 0 9 (dk_at dksX9_applies_0 4 rfl rfl)
theorem dX9_applies_7 : decode cX9_applies 7 = .ok (.invokevirtual 68, 3) := dk_182 0 68 (dk_at dksX9_applies_0 7 rfl rfl)
theorem dX9_applies_10 : decode cX9_applies 10 = .ok (.invokeinterface 74 1, 5) := by decide +kernel
theorem dX9_applies_15 : decode cX9_applies 15 = .ok (.invokeinterface 80 1, 5) := by decide +kernel
theorem dX9_applies_20 : decode cX9_applies 20 = .ok (.astore 4, 2) := dk_58 4 (dk_at dksX9_applies_0 20 rfl rfl)
theorem dX9_applies_22 : decode cX9_applies 22 = .ok (.aload 4, 2) := dk_25 4 (dk_at dksX9_applies_0 22 rfl rfl)
theorem dX9_applies_24 : decode cX9_applies 24 = .ok (.invokeinterface 52 1, 5) := by decide +kernel
theorem dX9_applies_29 : decode cX9_applies 29 = .ok (.ifCond .eq 64, 3) := dk_153 0 64 (dk_at dksX9_applies_1 5 rfl rfl)
theorem dX9_applies_32 : decode cX9_applies 32 = .ok (.aload 4, 2) := dk_25 4 (dk_at dksX9_applies_1 8 rfl rfl)
theorem dX9_applies_34 : decode cX9_applies 34 = .ok (.invokeinterface 58 1, 5) := by decide +kernel
theorem dX9_applies_39 : decode cX9_applies 39 = .ok (.checkcast 29, 3) := dk_192 0 29 (dk_at dksX9_applies_1 15 rfl rfl)
theorem dX9_applies_42 : decode cX9_applies 42 = .ok (.invokevirtual 83, 3) := dk_182 0 83 (dk_at dksX9_applies_1 18 rfl rfl)
theorem dX9_applies_45 : decode cX9_applies 45 = .ok (.istore 5, 2) := dk_54 5 (dk_at dksX9_applies_1 21 rfl rfl)
theorem dX9_applies_47 : decode cX9_applies 47 = .ok (.iload 5, 2) := dk_21 5 (dk_at dksX9_applies_2 0 rfl rfl)
theorem dX9_applies_49 : decode cX9_applies 49 = .ok (.sipush 1000, 3) := dk_17 3 232 (dk_at dksX9_applies_2 2 rfl rfl)
theorem dX9_applies_52 : decode cX9_applies 52 = .ok (.irem, 1) := dk_112 (dk_at dksX9_applies_2 5 rfl rfl)
theorem dX9_applies_53 : decode cX9_applies 53 = .ok (.istore 6, 2) := dk_54 6 (dk_at dksX9_applies_2 6 rfl rfl)
theorem dX9_applies_55 : decode cX9_applies 55 = .ok (.iload_n 3, 1) := dk_29 (dk_at dksX9_applies_2 8 rfl rfl)
theorem dX9_applies_56 : decode cX9_applies 56 = .ok (.ifCond .ne 28, 3) := dk_154 0 28 (dk_at dksX9_applies_2 9 rfl rfl)
theorem dX9_applies_59 : decode cX9_applies 59 = .ok (.iload 6, 2) := dk_21 6 (dk_at dksX9_applies_2 12 rfl rfl)
theorem dX9_applies_61 : decode cX9_applies 61 = .ok (.aload_n 0, 1) := dk_42 (dk_at dksX9_applies_2 14 rfl rfl)
theorem dX9_applies_62 : decode cX9_applies 62 = .ok (.getfield 15, 3) := dk_180 0 15 (dk_at dksX9_applies_2 15 rfl rfl)
theorem dX9_applies_65 : decode cX9_applies 65 = .ok (.if_icmp .eq 19, 3) := dk_159 0 19 (dk_at dksX9_applies_2 18 rfl rfl)
theorem dX9_applies_68 : decode cX9_applies 68 = .ok (.aload_n 0, 1) := dk_42 (dk_at dksX9_applies_2 21 rfl rfl)
theorem dX9_applies_69 : decode cX9_applies 69 = .ok (.getfield 18, 3) := dk_180 0 18 (dk_at dksX9_applies_3 0 rfl rfl)
theorem dX9_applies_72 : decode cX9_applies 72 = .ok (.ifCond .eq 16, 3) := dk_153 0 16 (dk_at dksX9_applies_3 3 rfl rfl)
theorem dX9_applies_75 : decode cX9_applies 75 = .ok (.iload 6, 2) := dk_21 6 (dk_at dksX9_applies_3 6 rfl rfl)
theorem dX9_applies_77 : decode cX9_applies 77 = .ok (.aload_n 0, 1) := dk_42 (dk_at dksX9_applies_3 8 rfl rfl)
theorem dX9_applies_78 : decode cX9_applies 78 = .ok (.getfield 15, 3) := dk_180 0 15 (dk_at dksX9_applies_3 9 rfl rfl)
theorem dX9_applies_81 : decode cX9_applies 81 = .ok (.if_icmp .le 7, 3) := dk_164 0 7 (dk_at dksX9_applies_3 12 rfl rfl)
theorem dX9_applies_84 : decode cX9_applies 84 = .ok (.iconst 1, 1) := dk_4 (dk_at dksX9_applies_3 15 rfl rfl)
theorem dX9_applies_85 : decode cX9_applies 85 = .ok (.goto 4, 3) := dk_167 0 4 (dk_at dksX9_applies_3 16 rfl rfl)
theorem dX9_applies_88 : decode cX9_applies 88 = .ok (.iconst 0, 1) := dk_3 (dk_at dksX9_applies_3 19 rfl rfl)
theorem dX9_applies_89 : decode cX9_applies 89 = .ok (.istore_n 3, 1) := dk_62 (dk_at dksX9_applies_3 20 rfl rfl)
theorem dX9_applies_90 : decode cX9_applies 90 = .ok (.goto (-68), 3) := dk_167 255 188 (dk_at dksX9_applies_3 21 rfl rfl)
theorem dX9_applies_93 : decode cX9_applies 93 = .ok (.iload_n 3, 1) := dk_29 (dk_at dksX9_applies_4 0 rfl rfl)
theorem dX9_applies_94 : decode cX9_applies 94 = .ok (.ireturn, 1) := dk_172 (dk_at dksX9_applies_4 1 rfl rfl)
def fX9_applies_b89 (e : Nat → Nat) (N : Nat) (k22 : Mm → Option Nat → Int32 → Option Nat → Rs (Int32)) (m : Mm) (v0 : Option Nat) (v4 : Option Nat) (s0 : Int32) : Rs (Int32) := k22 m v0 s0 v4
def fX9_applies_b84 (e : Nat → Nat) (N : Nat) (k22 : Mm → Option Nat → Int32 → Option Nat → Rs (Int32)) (m : Mm) (v0 : Option Nat) (v4 : Option Nat) : Rs (Int32) := fX9_applies_b89 e N k22 m v0 v4 1
def fX9_applies_b88 (e : Nat → Nat) (N : Nat) (k22 : Mm → Option Nat → Int32 → Option Nat → Rs (Int32)) (m : Mm) (v0 : Option Nat) (v4 : Option Nat) : Rs (Int32) := fX9_applies_b89 e N k22 m v0 v4 0
def fX9_applies_b22 (e : Nat → Nat) (N : Nat) : Nat → Mm → Option Nat → Int32 → Option Nat → Rs (Int32)
  | 0, _, _, _, _ => none
  | F + 1, m, v0, v3, v4 => ck_ m v4 24 (bd_ (fJ26_hasNext_t24 e N m v4) (fun x1 m1 => if x1 = 0 then (rz_ v3 v3 m1) else (ck_ m1 v4 24 (bd_ (fJ33_next e N m1 v4) (fun x2 m2 => cc_ m2 x2 [27] (ck_ m2 x2 27 (bd_ (fJ21_intValue e N m2 x2) (fun x3 m3 => if v3 = 0 then (gi_ m3 v0 8 1 (fun x4 => if (x3 - x3 / 1000 * 1000) = x4 then (fX9_applies_b84 e N (fX9_applies_b22 e N F) m3 v0 v4) else (gi_ m3 v0 8 2 (fun x5 => if x5 = 0 then (fX9_applies_b88 e N (fX9_applies_b22 e N F) m3 v0 v4) else (gi_ m3 v0 8 1 (fun x6 => if x6 < (x3 - x3 / 1000 * 1000) then (fX9_applies_b84 e N (fX9_applies_b22 e N F) m3 v0 v4) else (fX9_applies_b88 e N (fX9_applies_b22 e N F) m3 v0 v4))))))) else (fX9_applies_b84 e N (fX9_applies_b22 e N F) m3 v0 v4)))))))))
def fX9_applies (e : Nat → Nat) (N : Nat) (m : Mm) (v0 : Option Nat) (v1 : Option Nat) (v2 : Option Nat) : Rs (Int32) := gi_ m v0 8 0 (fun x1 => ck_ m v2 3 (bd_ (fX3_valuesOf e N m v2 x1) (fun x2 m1 => ck_ m1 x2 21 (bd_ (fJ38_keySet_t21 e N m1 x2) (fun x3 m2 => ck_ m2 x3 17 (bd_ (fJ36_iterator e N m2 x3) (fun x4 m3 => fX9_applies_b22 e N N m3 v0 0 x4)))))))
abbrev cX10_applies : ByteArray := prog_3_method_3_code
def yX10_applies : MethodName := ⟨RX10, "applies", "(LMasterTree$Master;LMasterTree$Entry;)Z"⟩
def dkwX10_applies_1 : List UInt8 := [192, 0, 29, 42, 180, 0, 7, 182, 0, 31, 153, 0, 7, 4, 167, 0, 4, 3, 172]
abbrev dktX10_applies_1 : List UInt8 := dkwX10_applies_1 ++ []
def dkwX10_applies_0 : List UInt8 := [44, 180, 0, 39, 198, 0, 36, 43, 180, 0, 13, 44, 180, 0, 39, 180, 0, 45, 185, 0, 25, 2, 0]
abbrev dktX10_applies_0 : List UInt8 := dkwX10_applies_0 ++ dktX10_applies_1
theorem dksX10_applies_0 : cX10_applies.data.toList.drop 0 = dktX10_applies_0 := by decide +kernel
theorem dksX10_applies_1 : cX10_applies.data.toList.drop 23 = dktX10_applies_1 := dk_seg dksX10_applies_0 23 rfl rfl
theorem dX10_applies_0 : decode cX10_applies 0 = .ok (.aload_n 2, 1) := dk_44 (dk_at dksX10_applies_0 0 rfl rfl)
theorem dX10_applies_1 : decode cX10_applies 1 = .ok (.getfield 39, 3) := dk_180 0 39 (dk_at dksX10_applies_0 1 rfl rfl)
theorem dX10_applies_4 : decode cX10_applies 4 = .ok (.ifnull 36, 3) := dk_198 0 36 (dk_at dksX10_applies_0 4 rfl rfl)
theorem dX10_applies_7 : decode cX10_applies 7 = .ok (.aload_n 1, 1) := dk_43 (dk_at dksX10_applies_0 7 rfl rfl)
theorem dX10_applies_8 : decode cX10_applies 8 = .ok (.getfield 13, 3) := dk_180 0 13 (dk_at dksX10_applies_0 8 rfl rfl)
theorem dX10_applies_11 : decode cX10_applies 11 = .ok (.aload_n 2, 1) := dk_44 (dk_at dksX10_applies_0 11 rfl rfl)
theorem dX10_applies_12 : decode cX10_applies 12 = .ok (.getfield 39, 3) := dk_180 0 39 (dk_at dksX10_applies_0 12 rfl rfl)
theorem dX10_applies_15 : decode cX10_applies 15 = .ok (.getfield 45, 3) := dk_180 0 45 (dk_at dksX10_applies_0 15 rfl rfl)
theorem dX10_applies_18 : decode cX10_applies 18 = .ok (.invokeinterface 25 2, 5) := by decide +kernel
theorem dX10_applies_23 : decode cX10_applies 23 = .ok (.checkcast 29, 3) := dk_192 0 29 (dk_at dksX10_applies_1 0 rfl rfl)
theorem dX10_applies_26 : decode cX10_applies 26 = .ok (.aload_n 0, 1) := dk_42 (dk_at dksX10_applies_1 3 rfl rfl)
theorem dX10_applies_27 : decode cX10_applies 27 = .ok (.getfield 7, 3) := dk_180 0 7 (dk_at dksX10_applies_1 4 rfl rfl)
theorem dX10_applies_30 : decode cX10_applies 30 = .ok (.invokevirtual 31, 3) := dk_182 0 31 (dk_at dksX10_applies_1 7 rfl rfl)
theorem dX10_applies_33 : decode cX10_applies 33 = .ok (.ifCond .eq 7, 3) := dk_153 0 7 (dk_at dksX10_applies_1 10 rfl rfl)
theorem dX10_applies_36 : decode cX10_applies 36 = .ok (.iconst 1, 1) := dk_4 (dk_at dksX10_applies_1 13 rfl rfl)
theorem dX10_applies_37 : decode cX10_applies 37 = .ok (.goto 4, 3) := dk_167 0 4 (dk_at dksX10_applies_1 14 rfl rfl)
theorem dX10_applies_40 : decode cX10_applies 40 = .ok (.iconst 0, 1) := dk_3 (dk_at dksX10_applies_1 17 rfl rfl)
theorem dX10_applies_41 : decode cX10_applies 41 = .ok (.ireturn, 1) := dk_172 (dk_at dksX10_applies_1 18 rfl rfl)
def fX10_applies_b41 (e : Nat → Nat) (N : Nat) (m : Mm) (s0 : Int32) : Rs (Int32) := rz_ s0 s0 m
def fX10_applies_b40 (e : Nat → Nat) (N : Nat) (m : Mm) : Rs (Int32) := fX10_applies_b41 e N m 0
def fX10_applies (e : Nat → Nat) (N : Nat) (m : Mm) (v0 : Option Nat) (v1 : Option Nat) (v2 : Option Nat) : Rs (Int32) := gr_ m v2 3 3 (fun x1 => if x1 = none then (fX10_applies_b40 e N m) else (gr_ m v1 2 2 (fun x2 => gr_ m v2 3 3 (fun x3 => gi_ m x3 7 7 (fun x4 => ck_ m x2 13 (bd_ (fJ2_get e N m x2 x4) (fun x5 m1 => cc_ m1 x5 [6] (gr_ m1 v0 9 0 (fun x6 => ck_ m1 x5 6 (bd_ (fX6_isBeneath e N m1 x5 x6) (fun x7 m2 => if x7 = 0 then (fX10_applies_b40 e N m2) else (fX10_applies_b41 e N m2 1))))))))))))
abbrev cX11_applies : ByteArray := prog_6_method_3_code
def yX11_applies : MethodName := ⟨RX11, "applies", "(LMasterTree$Master;LMasterTree$Entry;)Z"⟩
def dkwX11_applies_2 : List UInt8 := [154, 0, 15, 42, 180, 0, 13, 43, 44, 182, 0, 24, 153, 0, 7, 4, 167, 0, 4, 3, 172]
abbrev dktX11_applies_2 : List UInt8 := dkwX11_applies_2 ++ []
def dkwX11_applies_1 : List UInt8 := [44, 182, 0, 24, 153, 0, 7, 4, 167, 0, 36, 3, 167, 0, 32, 42, 180, 0, 7, 43, 44, 182, 0, 24]
abbrev dktX11_applies_1 : List UInt8 := dkwX11_applies_1 ++ dktX11_applies_2
def dkwX11_applies_0 : List UInt8 := [42, 180, 0, 16, 153, 0, 35, 42, 180, 0, 7, 43, 44, 182, 0, 24, 153, 0, 19, 42, 180, 0, 13, 43]
abbrev dktX11_applies_0 : List UInt8 := dkwX11_applies_0 ++ dktX11_applies_1
theorem dksX11_applies_0 : cX11_applies.data.toList.drop 0 = dktX11_applies_0 := by decide +kernel
theorem dksX11_applies_1 : cX11_applies.data.toList.drop 24 = dktX11_applies_1 := dk_seg dksX11_applies_0 24 rfl rfl
theorem dksX11_applies_2 : cX11_applies.data.toList.drop 48 = dktX11_applies_2 := dk_seg dksX11_applies_1 24 rfl rfl
theorem dX11_applies_0 : decode cX11_applies 0 = .ok (.aload_n 0, 1) := dk_42 (dk_at dksX11_applies_0 0 rfl rfl)
theorem dX11_applies_1 : decode cX11_applies 1 = .ok (.getfield 16, 3) := dk_180 0 16 (dk_at dksX11_applies_0 1 rfl rfl)
theorem dX11_applies_4 : decode cX11_applies 4 = .ok (.ifCond .eq 35, 3) := dk_153 0 35 (dk_at dksX11_applies_0 4 rfl rfl)
theorem dX11_applies_7 : decode cX11_applies 7 = .ok (.aload_n 0, 1) := dk_42 (dk_at dksX11_applies_0 7 rfl rfl)
theorem dX11_applies_8 : decode cX11_applies 8 = .ok (.getfield 7, 3) := dk_180 0 7 (dk_at dksX11_applies_0 8 rfl rfl)
theorem dX11_applies_11 : decode cX11_applies 11 = .ok (.aload_n 1, 1) := dk_43 (dk_at dksX11_applies_0 11 rfl rfl)
theorem dX11_applies_12 : decode cX11_applies 12 = .ok (.aload_n 2, 1) := dk_44 (dk_at dksX11_applies_0 12 rfl rfl)
theorem dX11_applies_13 : decode cX11_applies 13 = .ok (.invokevirtual 24, 3) := dk_182 0 24 (dk_at dksX11_applies_0 13 rfl rfl)
theorem dX11_applies_16 : decode cX11_applies 16 = .ok (.ifCond .eq 19, 3) := dk_153 0 19 (dk_at dksX11_applies_0 16 rfl rfl)
theorem dX11_applies_19 : decode cX11_applies 19 = .ok (.aload_n 0, 1) := dk_42 (dk_at dksX11_applies_0 19 rfl rfl)
theorem dX11_applies_20 : decode cX11_applies 20 = .ok (.getfield 13, 3) := dk_180 0 13 (dk_at dksX11_applies_0 20 rfl rfl)
theorem dX11_applies_23 : decode cX11_applies 23 = .ok (.aload_n 1, 1) := dk_43 (dk_at dksX11_applies_0 23 rfl rfl)
theorem dX11_applies_24 : decode cX11_applies 24 = .ok (.aload_n 2, 1) := dk_44 (dk_at dksX11_applies_1 0 rfl rfl)
theorem dX11_applies_25 : decode cX11_applies 25 = .ok (.invokevirtual 24, 3) := dk_182 0 24 (dk_at dksX11_applies_1 1 rfl rfl)
theorem dX11_applies_28 : decode cX11_applies 28 = .ok (.ifCond .eq 7, 3) := dk_153 0 7 (dk_at dksX11_applies_1 4 rfl rfl)
theorem dX11_applies_31 : decode cX11_applies 31 = .ok (.iconst 1, 1) := dk_4 (dk_at dksX11_applies_1 7 rfl rfl)
theorem dX11_applies_32 : decode cX11_applies 32 = .ok (.goto 36, 3) := dk_167 0 36 (dk_at dksX11_applies_1 8 rfl rfl)
theorem dX11_applies_35 : decode cX11_applies 35 = .ok (.iconst 0, 1) := dk_3 (dk_at dksX11_applies_1 11 rfl rfl)
theorem dX11_applies_36 : decode cX11_applies 36 = .ok (.goto 32, 3) := dk_167 0 32 (dk_at dksX11_applies_1 12 rfl rfl)
theorem dX11_applies_39 : decode cX11_applies 39 = .ok (.aload_n 0, 1) := dk_42 (dk_at dksX11_applies_1 15 rfl rfl)
theorem dX11_applies_40 : decode cX11_applies 40 = .ok (.getfield 7, 3) := dk_180 0 7 (dk_at dksX11_applies_1 16 rfl rfl)
theorem dX11_applies_43 : decode cX11_applies 43 = .ok (.aload_n 1, 1) := dk_43 (dk_at dksX11_applies_1 19 rfl rfl)
theorem dX11_applies_44 : decode cX11_applies 44 = .ok (.aload_n 2, 1) := dk_44 (dk_at dksX11_applies_1 20 rfl rfl)
theorem dX11_applies_45 : decode cX11_applies 45 = .ok (.invokevirtual 24, 3) := dk_182 0 24 (dk_at dksX11_applies_1 21 rfl rfl)
theorem dX11_applies_48 : decode cX11_applies 48 = .ok (.ifCond .ne 15, 3) := dk_154 0 15 (dk_at dksX11_applies_2 0 rfl rfl)
theorem dX11_applies_51 : decode cX11_applies 51 = .ok (.aload_n 0, 1) := dk_42 (dk_at dksX11_applies_2 3 rfl rfl)
theorem dX11_applies_52 : decode cX11_applies 52 = .ok (.getfield 13, 3) := dk_180 0 13 (dk_at dksX11_applies_2 4 rfl rfl)
theorem dX11_applies_55 : decode cX11_applies 55 = .ok (.aload_n 1, 1) := dk_43 (dk_at dksX11_applies_2 7 rfl rfl)
theorem dX11_applies_56 : decode cX11_applies 56 = .ok (.aload_n 2, 1) := dk_44 (dk_at dksX11_applies_2 8 rfl rfl)
theorem dX11_applies_57 : decode cX11_applies 57 = .ok (.invokevirtual 24, 3) := dk_182 0 24 (dk_at dksX11_applies_2 9 rfl rfl)
theorem dX11_applies_60 : decode cX11_applies 60 = .ok (.ifCond .eq 7, 3) := dk_153 0 7 (dk_at dksX11_applies_2 12 rfl rfl)
theorem dX11_applies_63 : decode cX11_applies 63 = .ok (.iconst 1, 1) := dk_4 (dk_at dksX11_applies_2 15 rfl rfl)
theorem dX11_applies_64 : decode cX11_applies 64 = .ok (.goto 4, 3) := dk_167 0 4 (dk_at dksX11_applies_2 16 rfl rfl)
theorem dX11_applies_67 : decode cX11_applies 67 = .ok (.iconst 0, 1) := dk_3 (dk_at dksX11_applies_2 19 rfl rfl)
theorem dX11_applies_68 : decode cX11_applies 68 = .ok (.ireturn, 1) := dk_172 (dk_at dksX11_applies_2 20 rfl rfl)
def fX11_applies_d0_b68 (e : Nat → Nat) (N : Nat) (m : Mm) (s0 : Int32) : Rs (Int32) := rz_ s0 s0 m
def fX11_applies_d0_b35 (e : Nat → Nat) (N : Nat) (m : Mm) : Rs (Int32) := fX11_applies_d0_b68 e N m 0
def fX11_applies_d0_b63 (e : Nat → Nat) (N : Nat) (m : Mm) : Rs (Int32) := fX11_applies_d0_b68 e N m 1
def fX11_applies_d0 (e : Nat → Nat) (N : Nat) (m : Mm) (v0 : Option Nat) (v1 : Option Nat) (v2 : Option Nat) : Rs (Int32) := gi_ m v0 10 2 (fun x1 => if x1 = 0 then (gr_ m v0 10 0 (fun x2 => bd_ (cs_ m x2 8 (fX9_applies e N m x2 v1 v2) (cs_ m x2 9 (fX10_applies e N m x2 v1 v2) none)) (fun x3 m1 => if x3 = 0 then (gr_ m1 v0 10 1 (fun x6 => bd_ (cs_ m1 x6 8 (fX9_applies e N m1 x6 v1 v2) (cs_ m1 x6 9 (fX10_applies e N m1 x6 v1 v2) none)) (fun x7 m4 => if x7 = 0 then (fX11_applies_d0_b68 e N m4 0) else (fX11_applies_d0_b63 e N m4)))) else (fX11_applies_d0_b63 e N m1)))) else (gr_ m v0 10 0 (fun x10 => bd_ (cs_ m x10 8 (fX9_applies e N m x10 v1 v2) (cs_ m x10 9 (fX10_applies e N m x10 v1 v2) none)) (fun x11 m7 => if x11 = 0 then (fX11_applies_d0_b35 e N m7) else (gr_ m7 v0 10 1 (fun x14 => bd_ (cs_ m7 x14 8 (fX9_applies e N m7 x14 v1 v2) (cs_ m7 x14 9 (fX10_applies e N m7 x14 v1 v2) none)) (fun x15 m10 => if x15 = 0 then (fX11_applies_d0_b35 e N m10) else (fX11_applies_d0_b68 e N m10 1))))))))
abbrev cX12_applies : ByteArray := prog_22_method_3_code
def yX12_applies : MethodName := ⟨RX12, "applies", "(LMasterTree$Master;LMasterTree$Entry;)Z"⟩
def dkwX12_applies_0 : List UInt8 := [42, 180, 0, 7, 43, 44, 182, 0, 25, 154, 0, 7, 4, 167, 0, 4, 3, 172]
abbrev dktX12_applies_0 : List UInt8 := dkwX12_applies_0 ++ []
theorem dksX12_applies_0 : cX12_applies.data.toList.drop 0 = dktX12_applies_0 := by decide +kernel
theorem dX12_applies_0 : decode cX12_applies 0 = .ok (.aload_n 0, 1) := dk_42 (dk_at dksX12_applies_0 0 rfl rfl)
theorem dX12_applies_1 : decode cX12_applies 1 = .ok (.getfield 7, 3) := dk_180 0 7 (dk_at dksX12_applies_0 1 rfl rfl)
theorem dX12_applies_4 : decode cX12_applies 4 = .ok (.aload_n 1, 1) := dk_43 (dk_at dksX12_applies_0 4 rfl rfl)
theorem dX12_applies_5 : decode cX12_applies 5 = .ok (.aload_n 2, 1) := dk_44 (dk_at dksX12_applies_0 5 rfl rfl)
theorem dX12_applies_6 : decode cX12_applies 6 = .ok (.invokevirtual 25, 3) := dk_182 0 25 (dk_at dksX12_applies_0 6 rfl rfl)
theorem dX12_applies_9 : decode cX12_applies 9 = .ok (.ifCond .ne 7, 3) := dk_154 0 7 (dk_at dksX12_applies_0 9 rfl rfl)
theorem dX12_applies_12 : decode cX12_applies 12 = .ok (.iconst 1, 1) := dk_4 (dk_at dksX12_applies_0 12 rfl rfl)
theorem dX12_applies_13 : decode cX12_applies 13 = .ok (.goto 4, 3) := dk_167 0 4 (dk_at dksX12_applies_0 13 rfl rfl)
theorem dX12_applies_16 : decode cX12_applies 16 = .ok (.iconst 0, 1) := dk_3 (dk_at dksX12_applies_0 16 rfl rfl)
theorem dX12_applies_17 : decode cX12_applies 17 = .ok (.ireturn, 1) := dk_172 (dk_at dksX12_applies_0 17 rfl rfl)
def fX12_applies_d0_b17 (e : Nat → Nat) (N : Nat) (m : Mm) (s0 : Int32) : Rs (Int32) := rz_ s0 s0 m
def fX12_applies_d0 (e : Nat → Nat) (N : Nat) (m : Mm) (v0 : Option Nat) (v1 : Option Nat) (v2 : Option Nat) : Rs (Int32) := gr_ m v0 11 0 (fun x1 => bd_ (cs_ m x1 8 (fX9_applies e N m x1 v1 v2) (cs_ m x1 9 (fX10_applies e N m x1 v1 v2) none)) (fun x2 m1 => if x2 = 0 then (fX12_applies_d0_b17 e N m1 1) else (fX12_applies_d0_b17 e N m1 0)))
def fX11_applies_d1_b68 (e : Nat → Nat) (N : Nat) (m : Mm) (s0 : Int32) : Rs (Int32) := rz_ s0 s0 m
def fX11_applies_d1_b35 (e : Nat → Nat) (N : Nat) (m : Mm) : Rs (Int32) := fX11_applies_d1_b68 e N m 0
def fX11_applies_d1_b63 (e : Nat → Nat) (N : Nat) (m : Mm) : Rs (Int32) := fX11_applies_d1_b68 e N m 1
def fX11_applies_d1 (e : Nat → Nat) (N : Nat) (m : Mm) (v0 : Option Nat) (v1 : Option Nat) (v2 : Option Nat) : Rs (Int32) := gi_ m v0 10 2 (fun x1 => if x1 = 0 then (gr_ m v0 10 0 (fun x2 => bd_ (cs_ m x2 8 (fX9_applies e N m x2 v1 v2) (cs_ m x2 9 (fX10_applies e N m x2 v1 v2) (cs_ m x2 10 (fX11_applies_d0 e N m x2 v1 v2) (cs_ m x2 11 (fX12_applies_d0 e N m x2 v1 v2) none)))) (fun x3 m1 => if x3 = 0 then (gr_ m1 v0 10 1 (fun x8 => bd_ (cs_ m1 x8 8 (fX9_applies e N m1 x8 v1 v2) (cs_ m1 x8 9 (fX10_applies e N m1 x8 v1 v2) (cs_ m1 x8 10 (fX11_applies_d0 e N m1 x8 v1 v2) (cs_ m1 x8 11 (fX12_applies_d0 e N m1 x8 v1 v2) none)))) (fun x9 m6 => if x9 = 0 then (fX11_applies_d1_b68 e N m6 0) else (fX11_applies_d1_b63 e N m6)))) else (fX11_applies_d1_b63 e N m1)))) else (gr_ m v0 10 0 (fun x14 => bd_ (cs_ m x14 8 (fX9_applies e N m x14 v1 v2) (cs_ m x14 9 (fX10_applies e N m x14 v1 v2) (cs_ m x14 10 (fX11_applies_d0 e N m x14 v1 v2) (cs_ m x14 11 (fX12_applies_d0 e N m x14 v1 v2) none)))) (fun x15 m11 => if x15 = 0 then (fX11_applies_d1_b35 e N m11) else (gr_ m11 v0 10 1 (fun x20 => bd_ (cs_ m11 x20 8 (fX9_applies e N m11 x20 v1 v2) (cs_ m11 x20 9 (fX10_applies e N m11 x20 v1 v2) (cs_ m11 x20 10 (fX11_applies_d0 e N m11 x20 v1 v2) (cs_ m11 x20 11 (fX12_applies_d0 e N m11 x20 v1 v2) none)))) (fun x21 m16 => if x21 = 0 then (fX11_applies_d1_b35 e N m16) else (fX11_applies_d1_b68 e N m16 1))))))))
def fX12_applies_d1_b17 (e : Nat → Nat) (N : Nat) (m : Mm) (s0 : Int32) : Rs (Int32) := rz_ s0 s0 m
def fX12_applies_d1 (e : Nat → Nat) (N : Nat) (m : Mm) (v0 : Option Nat) (v1 : Option Nat) (v2 : Option Nat) : Rs (Int32) := gr_ m v0 11 0 (fun x1 => bd_ (cs_ m x1 8 (fX9_applies e N m x1 v1 v2) (cs_ m x1 9 (fX10_applies e N m x1 v1 v2) (cs_ m x1 10 (fX11_applies_d0 e N m x1 v1 v2) (cs_ m x1 11 (fX12_applies_d0 e N m x1 v1 v2) none)))) (fun x2 m1 => if x2 = 0 then (fX12_applies_d1_b17 e N m1 1) else (fX12_applies_d1_b17 e N m1 0)))
def fX11_applies_d2_b68 (e : Nat → Nat) (N : Nat) (m : Mm) (s0 : Int32) : Rs (Int32) := rz_ s0 s0 m
def fX11_applies_d2_b35 (e : Nat → Nat) (N : Nat) (m : Mm) : Rs (Int32) := fX11_applies_d2_b68 e N m 0
def fX11_applies_d2_b63 (e : Nat → Nat) (N : Nat) (m : Mm) : Rs (Int32) := fX11_applies_d2_b68 e N m 1
def fX11_applies_d2 (e : Nat → Nat) (N : Nat) (m : Mm) (v0 : Option Nat) (v1 : Option Nat) (v2 : Option Nat) : Rs (Int32) := gi_ m v0 10 2 (fun x1 => if x1 = 0 then (gr_ m v0 10 0 (fun x2 => bd_ (cs_ m x2 8 (fX9_applies e N m x2 v1 v2) (cs_ m x2 9 (fX10_applies e N m x2 v1 v2) (cs_ m x2 10 (fX11_applies_d1 e N m x2 v1 v2) (cs_ m x2 11 (fX12_applies_d1 e N m x2 v1 v2) none)))) (fun x3 m1 => if x3 = 0 then (gr_ m1 v0 10 1 (fun x8 => bd_ (cs_ m1 x8 8 (fX9_applies e N m1 x8 v1 v2) (cs_ m1 x8 9 (fX10_applies e N m1 x8 v1 v2) (cs_ m1 x8 10 (fX11_applies_d1 e N m1 x8 v1 v2) (cs_ m1 x8 11 (fX12_applies_d1 e N m1 x8 v1 v2) none)))) (fun x9 m6 => if x9 = 0 then (fX11_applies_d2_b68 e N m6 0) else (fX11_applies_d2_b63 e N m6)))) else (fX11_applies_d2_b63 e N m1)))) else (gr_ m v0 10 0 (fun x14 => bd_ (cs_ m x14 8 (fX9_applies e N m x14 v1 v2) (cs_ m x14 9 (fX10_applies e N m x14 v1 v2) (cs_ m x14 10 (fX11_applies_d1 e N m x14 v1 v2) (cs_ m x14 11 (fX12_applies_d1 e N m x14 v1 v2) none)))) (fun x15 m11 => if x15 = 0 then (fX11_applies_d2_b35 e N m11) else (gr_ m11 v0 10 1 (fun x20 => bd_ (cs_ m11 x20 8 (fX9_applies e N m11 x20 v1 v2) (cs_ m11 x20 9 (fX10_applies e N m11 x20 v1 v2) (cs_ m11 x20 10 (fX11_applies_d1 e N m11 x20 v1 v2) (cs_ m11 x20 11 (fX12_applies_d1 e N m11 x20 v1 v2) none)))) (fun x21 m16 => if x21 = 0 then (fX11_applies_d2_b35 e N m16) else (fX11_applies_d2_b68 e N m16 1))))))))
def fX12_applies_d2_b17 (e : Nat → Nat) (N : Nat) (m : Mm) (s0 : Int32) : Rs (Int32) := rz_ s0 s0 m
def fX12_applies_d2 (e : Nat → Nat) (N : Nat) (m : Mm) (v0 : Option Nat) (v1 : Option Nat) (v2 : Option Nat) : Rs (Int32) := gr_ m v0 11 0 (fun x1 => bd_ (cs_ m x1 8 (fX9_applies e N m x1 v1 v2) (cs_ m x1 9 (fX10_applies e N m x1 v1 v2) (cs_ m x1 10 (fX11_applies_d1 e N m x1 v1 v2) (cs_ m x1 11 (fX12_applies_d1 e N m x1 v1 v2) none)))) (fun x2 m1 => if x2 = 0 then (fX12_applies_d2_b17 e N m1 1) else (fX12_applies_d2_b17 e N m1 0)))
def fX11_applies_d3_b68 (e : Nat → Nat) (N : Nat) (m : Mm) (s0 : Int32) : Rs (Int32) := rz_ s0 s0 m
def fX11_applies_d3_b35 (e : Nat → Nat) (N : Nat) (m : Mm) : Rs (Int32) := fX11_applies_d3_b68 e N m 0
def fX11_applies_d3_b63 (e : Nat → Nat) (N : Nat) (m : Mm) : Rs (Int32) := fX11_applies_d3_b68 e N m 1
def fX11_applies_d3 (e : Nat → Nat) (N : Nat) (m : Mm) (v0 : Option Nat) (v1 : Option Nat) (v2 : Option Nat) : Rs (Int32) := gi_ m v0 10 2 (fun x1 => if x1 = 0 then (gr_ m v0 10 0 (fun x2 => bd_ (cs_ m x2 8 (fX9_applies e N m x2 v1 v2) (cs_ m x2 9 (fX10_applies e N m x2 v1 v2) (cs_ m x2 10 (fX11_applies_d2 e N m x2 v1 v2) (cs_ m x2 11 (fX12_applies_d2 e N m x2 v1 v2) none)))) (fun x3 m1 => if x3 = 0 then (gr_ m1 v0 10 1 (fun x8 => bd_ (cs_ m1 x8 8 (fX9_applies e N m1 x8 v1 v2) (cs_ m1 x8 9 (fX10_applies e N m1 x8 v1 v2) (cs_ m1 x8 10 (fX11_applies_d2 e N m1 x8 v1 v2) (cs_ m1 x8 11 (fX12_applies_d2 e N m1 x8 v1 v2) none)))) (fun x9 m6 => if x9 = 0 then (fX11_applies_d3_b68 e N m6 0) else (fX11_applies_d3_b63 e N m6)))) else (fX11_applies_d3_b63 e N m1)))) else (gr_ m v0 10 0 (fun x14 => bd_ (cs_ m x14 8 (fX9_applies e N m x14 v1 v2) (cs_ m x14 9 (fX10_applies e N m x14 v1 v2) (cs_ m x14 10 (fX11_applies_d2 e N m x14 v1 v2) (cs_ m x14 11 (fX12_applies_d2 e N m x14 v1 v2) none)))) (fun x15 m11 => if x15 = 0 then (fX11_applies_d3_b35 e N m11) else (gr_ m11 v0 10 1 (fun x20 => bd_ (cs_ m11 x20 8 (fX9_applies e N m11 x20 v1 v2) (cs_ m11 x20 9 (fX10_applies e N m11 x20 v1 v2) (cs_ m11 x20 10 (fX11_applies_d2 e N m11 x20 v1 v2) (cs_ m11 x20 11 (fX12_applies_d2 e N m11 x20 v1 v2) none)))) (fun x21 m16 => if x21 = 0 then (fX11_applies_d3_b35 e N m16) else (fX11_applies_d3_b68 e N m16 1))))))))
def fX12_applies_d3_b17 (e : Nat → Nat) (N : Nat) (m : Mm) (s0 : Int32) : Rs (Int32) := rz_ s0 s0 m
def fX12_applies_d3 (e : Nat → Nat) (N : Nat) (m : Mm) (v0 : Option Nat) (v1 : Option Nat) (v2 : Option Nat) : Rs (Int32) := gr_ m v0 11 0 (fun x1 => bd_ (cs_ m x1 8 (fX9_applies e N m x1 v1 v2) (cs_ m x1 9 (fX10_applies e N m x1 v1 v2) (cs_ m x1 10 (fX11_applies_d2 e N m x1 v1 v2) (cs_ m x1 11 (fX12_applies_d2 e N m x1 v1 v2) none)))) (fun x2 m1 => if x2 = 0 then (fX12_applies_d3_b17 e N m1 1) else (fX12_applies_d3_b17 e N m1 0)))
def fX11_applies_d4_b68 (e : Nat → Nat) (N : Nat) (m : Mm) (s0 : Int32) : Rs (Int32) := rz_ s0 s0 m
def fX11_applies_d4_b35 (e : Nat → Nat) (N : Nat) (m : Mm) : Rs (Int32) := fX11_applies_d4_b68 e N m 0
def fX11_applies_d4_b63 (e : Nat → Nat) (N : Nat) (m : Mm) : Rs (Int32) := fX11_applies_d4_b68 e N m 1
def fX11_applies_d4 (e : Nat → Nat) (N : Nat) (m : Mm) (v0 : Option Nat) (v1 : Option Nat) (v2 : Option Nat) : Rs (Int32) := gi_ m v0 10 2 (fun x1 => if x1 = 0 then (gr_ m v0 10 0 (fun x2 => bd_ (cs_ m x2 8 (fX9_applies e N m x2 v1 v2) (cs_ m x2 9 (fX10_applies e N m x2 v1 v2) (cs_ m x2 10 (fX11_applies_d3 e N m x2 v1 v2) (cs_ m x2 11 (fX12_applies_d3 e N m x2 v1 v2) none)))) (fun x3 m1 => if x3 = 0 then (gr_ m1 v0 10 1 (fun x8 => bd_ (cs_ m1 x8 8 (fX9_applies e N m1 x8 v1 v2) (cs_ m1 x8 9 (fX10_applies e N m1 x8 v1 v2) (cs_ m1 x8 10 (fX11_applies_d3 e N m1 x8 v1 v2) (cs_ m1 x8 11 (fX12_applies_d3 e N m1 x8 v1 v2) none)))) (fun x9 m6 => if x9 = 0 then (fX11_applies_d4_b68 e N m6 0) else (fX11_applies_d4_b63 e N m6)))) else (fX11_applies_d4_b63 e N m1)))) else (gr_ m v0 10 0 (fun x14 => bd_ (cs_ m x14 8 (fX9_applies e N m x14 v1 v2) (cs_ m x14 9 (fX10_applies e N m x14 v1 v2) (cs_ m x14 10 (fX11_applies_d3 e N m x14 v1 v2) (cs_ m x14 11 (fX12_applies_d3 e N m x14 v1 v2) none)))) (fun x15 m11 => if x15 = 0 then (fX11_applies_d4_b35 e N m11) else (gr_ m11 v0 10 1 (fun x20 => bd_ (cs_ m11 x20 8 (fX9_applies e N m11 x20 v1 v2) (cs_ m11 x20 9 (fX10_applies e N m11 x20 v1 v2) (cs_ m11 x20 10 (fX11_applies_d3 e N m11 x20 v1 v2) (cs_ m11 x20 11 (fX12_applies_d3 e N m11 x20 v1 v2) none)))) (fun x21 m16 => if x21 = 0 then (fX11_applies_d4_b35 e N m16) else (fX11_applies_d4_b68 e N m16 1))))))))
def fX12_applies_d4_b17 (e : Nat → Nat) (N : Nat) (m : Mm) (s0 : Int32) : Rs (Int32) := rz_ s0 s0 m
def fX12_applies_d4 (e : Nat → Nat) (N : Nat) (m : Mm) (v0 : Option Nat) (v1 : Option Nat) (v2 : Option Nat) : Rs (Int32) := gr_ m v0 11 0 (fun x1 => bd_ (cs_ m x1 8 (fX9_applies e N m x1 v1 v2) (cs_ m x1 9 (fX10_applies e N m x1 v1 v2) (cs_ m x1 10 (fX11_applies_d3 e N m x1 v1 v2) (cs_ m x1 11 (fX12_applies_d3 e N m x1 v1 v2) none)))) (fun x2 m1 => if x2 = 0 then (fX12_applies_d4_b17 e N m1 1) else (fX12_applies_d4_b17 e N m1 0)))
def fX11_applies_d5_b68 (e : Nat → Nat) (N : Nat) (m : Mm) (s0 : Int32) : Rs (Int32) := rz_ s0 s0 m
def fX11_applies_d5_b35 (e : Nat → Nat) (N : Nat) (m : Mm) : Rs (Int32) := fX11_applies_d5_b68 e N m 0
def fX11_applies_d5_b63 (e : Nat → Nat) (N : Nat) (m : Mm) : Rs (Int32) := fX11_applies_d5_b68 e N m 1
def fX11_applies_d5 (e : Nat → Nat) (N : Nat) (m : Mm) (v0 : Option Nat) (v1 : Option Nat) (v2 : Option Nat) : Rs (Int32) := gi_ m v0 10 2 (fun x1 => if x1 = 0 then (gr_ m v0 10 0 (fun x2 => bd_ (cs_ m x2 8 (fX9_applies e N m x2 v1 v2) (cs_ m x2 9 (fX10_applies e N m x2 v1 v2) (cs_ m x2 10 (fX11_applies_d4 e N m x2 v1 v2) (cs_ m x2 11 (fX12_applies_d4 e N m x2 v1 v2) none)))) (fun x3 m1 => if x3 = 0 then (gr_ m1 v0 10 1 (fun x8 => bd_ (cs_ m1 x8 8 (fX9_applies e N m1 x8 v1 v2) (cs_ m1 x8 9 (fX10_applies e N m1 x8 v1 v2) (cs_ m1 x8 10 (fX11_applies_d4 e N m1 x8 v1 v2) (cs_ m1 x8 11 (fX12_applies_d4 e N m1 x8 v1 v2) none)))) (fun x9 m6 => if x9 = 0 then (fX11_applies_d5_b68 e N m6 0) else (fX11_applies_d5_b63 e N m6)))) else (fX11_applies_d5_b63 e N m1)))) else (gr_ m v0 10 0 (fun x14 => bd_ (cs_ m x14 8 (fX9_applies e N m x14 v1 v2) (cs_ m x14 9 (fX10_applies e N m x14 v1 v2) (cs_ m x14 10 (fX11_applies_d4 e N m x14 v1 v2) (cs_ m x14 11 (fX12_applies_d4 e N m x14 v1 v2) none)))) (fun x15 m11 => if x15 = 0 then (fX11_applies_d5_b35 e N m11) else (gr_ m11 v0 10 1 (fun x20 => bd_ (cs_ m11 x20 8 (fX9_applies e N m11 x20 v1 v2) (cs_ m11 x20 9 (fX10_applies e N m11 x20 v1 v2) (cs_ m11 x20 10 (fX11_applies_d4 e N m11 x20 v1 v2) (cs_ m11 x20 11 (fX12_applies_d4 e N m11 x20 v1 v2) none)))) (fun x21 m16 => if x21 = 0 then (fX11_applies_d5_b35 e N m16) else (fX11_applies_d5_b68 e N m16 1))))))))
theorem wX11_among_d5_b44 {l : Launch} {g : GG} {E : Me_} (C : Cx_ l g E "MasterTree$Combined" cX11_among 2 25) (hret : (eT_ E).sig.returnType = (Option.some Jvm.ClassFile.FieldType.long)) (h0 : ∀ x ∈ (eC_ E).exceptionTable.toList, False) (hin : (eT_ E).name = "among") (N : Nat) : ∀ (m : Mm) (s0 : Int64) (k n : Nat), Sm_ l g E 2 en_j (fX11_among_d5_b44 (gE_ g) N m s0) k n 44 [] [vj_ s0] m := by
  intro m s0 k n
  unfold fX11_among_d5_b44
  exact x_lret C hret rfl dX11_among_44
theorem wX11_among_d5 {l : Launch} {g : GG} {E : Me_} (C : Cx_ l g E "MasterTree$Combined" cX11_among 2 25) (hret : (eT_ E).sig.returnType = (Option.some Jvm.ClassFile.FieldType.long)) (h0 : ∀ x ∈ (eC_ E).exceptionTable.toList, False) (hin : (eT_ E).name = "among") (N : Nat) : ∀ (m : Mm) (v0 : Option Nat) (v1 : Option Nat) (k n : Nat), Sm_ l g E 2 en_j (fX11_among_d5 (gE_ g) N m v0 v1) k n 0 [(0, vr_ v0), (1, vr_ v1)] [] m := by
  intro m v0 v1 k n
  unfold fX11_among_d5
  refine s_aload_n C rfl 0 rfl dX11_among_0 1 rfl ?_
  refine x_gi C 9 (RX11, TX11, 3) rfl 2 (Nat.le_of_ble_eq_true rfl) q2642 (Or.inl rfl) rfl 10 rfl dX11_among_1 4 rfl (fun x1 => ?_)
  refine s_if_eq C dX11_among_4 27 rfl 7 rfl (fun c_ => ?_) (fun c_ => ?_)
  · refine s_aload_n C rfl 0 rfl dX11_among_27 28 rfl ?_
    refine x_gr C 9 (RX11, TX11, 3) rfl 0 (Nat.le_of_ble_eq_true rfl) q2640 (Or.inl rfl) rfl 10 rfl dX11_among_28 31 rfl (fun x2 => ?_)
    refine s_aload_n C rfl 1 rfl dX11_among_31 32 rfl ?_
    refine x_wj [] 35 (fun kk_ => ?_) (fun x3 m1 k1 n1 => ?_)
    · refine x_csr (kd := 8) (fun hb_ hb0_ => ?_) ?_
      · exact x_callA (enc := en_j) (owner := "MasterTree$Filter") C 19 1 [vr_ v1] 8 (ctX9_among C.2.2.2.2.2.2.2.2.1 N m x2 v1) hb_ hb0_ rfl rfl q2772 q2688 q2701 q2702 q139 q2703 q2687 ⟨by decide +kernel, by decide +kernel, by decide +kernel⟩ (Nat.le_of_ble_eq_true rfl) (Nat.le_of_ble_eq_true rfl) rfl (Nat.le_of_ble_eq_true rfl) dX11_among_32 35 rfl rfl hen_j (kk_j kk_) (kx_n he_j)
      refine x_csr (kd := 9) (fun hb_ hb0_ => ?_) ?_
      · exact x_callA (enc := en_j) (owner := "MasterTree$Filter") C 13 1 [vr_ v1] 9 (ctX10_among C.2.2.2.2.2.2.2.2.1 N m x2 v1) hb_ hb0_ rfl rfl q2772 q2688 q2689 q2690 q140 q2691 q2687 ⟨by decide +kernel, by decide +kernel, by decide +kernel⟩ (Nat.le_of_ble_eq_true rfl) (Nat.le_of_ble_eq_true rfl) rfl (Nat.le_of_ble_eq_true rfl) dX11_among_32 35 rfl rfl hen_j (kk_j kk_) (kx_n he_j)
      refine x_csr (kd := 10) (fun hb_ hb0_ => ?_) ?_
      · exact x_callA (enc := en_j) (owner := "MasterTree$Filter") C 24 1 [vr_ v1] 10 (ctX11_among_d4 C.2.2.2.2.2.2.2.2.1 N m x2 v1) hb_ hb0_ rfl rfl q2772 q2688 q2769 q2770 q141 q2771 q2687 ⟨by decide +kernel, by decide +kernel, by decide +kernel⟩ (Nat.le_of_ble_eq_true rfl) (Nat.le_of_ble_eq_true rfl) rfl (Nat.le_of_ble_eq_true rfl) dX11_among_32 35 rfl rfl hen_j (kk_j kk_) (kx_n he_j)
      refine x_csr (kd := 11) (fun hb_ hb0_ => ?_) ?_
      · exact x_callA (enc := en_j) (owner := "MasterTree$Filter") C 24 1 [vr_ v1] 11 (ctX12_among_d4 C.2.2.2.2.2.2.2.2.1 N m x2 v1) hb_ hb0_ rfl rfl q2772 q2688 q2781 q2773 q142 q2774 q2687 ⟨by decide +kernel, by decide +kernel, by decide +kernel⟩ (Nat.le_of_ble_eq_true rfl) (Nat.le_of_ble_eq_true rfl) rfl (Nat.le_of_ble_eq_true rfl) dX11_among_32 35 rfl rfl hen_j (kk_j kk_) (kx_n he_j)
      exact Sm_bn
    refine s_aload_n C rfl 0 rfl dX11_among_35 36 rfl ?_
    refine x_gr C 9 (RX11, TX11, 3) rfl 1 (Nat.le_of_ble_eq_true rfl) q2641 (Or.inl rfl) rfl 10 rfl dX11_among_36 39 rfl (fun x8 => ?_)
    refine s_aload_n C rfl 1 rfl dX11_among_39 40 rfl ?_
    refine x_wj [vj_ x3] 43 (fun kk_ => ?_) (fun x9 m6 k1 n1 => ?_)
    · refine x_csr (kd := 8) (fun hb_ hb0_ => ?_) ?_
      · exact x_callA (enc := en_j) (owner := "MasterTree$Filter") C 19 1 [vr_ v1] 8 (ctX9_among C.2.2.2.2.2.2.2.2.1 N m1 x8 v1) hb_ hb0_ rfl rfl q2772 q2688 q2701 q2702 q139 q2703 q2687 ⟨by decide +kernel, by decide +kernel, by decide +kernel⟩ (Nat.le_of_ble_eq_true rfl) (Nat.le_of_ble_eq_true rfl) rfl (Nat.le_of_ble_eq_true rfl) dX11_among_40 43 rfl rfl hen_j (kk_j kk_) (kx_n he_j)
      refine x_csr (kd := 9) (fun hb_ hb0_ => ?_) ?_
      · exact x_callA (enc := en_j) (owner := "MasterTree$Filter") C 13 1 [vr_ v1] 9 (ctX10_among C.2.2.2.2.2.2.2.2.1 N m1 x8 v1) hb_ hb0_ rfl rfl q2772 q2688 q2689 q2690 q140 q2691 q2687 ⟨by decide +kernel, by decide +kernel, by decide +kernel⟩ (Nat.le_of_ble_eq_true rfl) (Nat.le_of_ble_eq_true rfl) rfl (Nat.le_of_ble_eq_true rfl) dX11_among_40 43 rfl rfl hen_j (kk_j kk_) (kx_n he_j)
      refine x_csr (kd := 10) (fun hb_ hb0_ => ?_) ?_
      · exact x_callA (enc := en_j) (owner := "MasterTree$Filter") C 24 1 [vr_ v1] 10 (ctX11_among_d4 C.2.2.2.2.2.2.2.2.1 N m1 x8 v1) hb_ hb0_ rfl rfl q2772 q2688 q2769 q2770 q141 q2771 q2687 ⟨by decide +kernel, by decide +kernel, by decide +kernel⟩ (Nat.le_of_ble_eq_true rfl) (Nat.le_of_ble_eq_true rfl) rfl (Nat.le_of_ble_eq_true rfl) dX11_among_40 43 rfl rfl hen_j (kk_j kk_) (kx_n he_j)
      refine x_csr (kd := 11) (fun hb_ hb0_ => ?_) ?_
      · exact x_callA (enc := en_j) (owner := "MasterTree$Filter") C 24 1 [vr_ v1] 11 (ctX12_among_d4 C.2.2.2.2.2.2.2.2.1 N m1 x8 v1) hb_ hb0_ rfl rfl q2772 q2688 q2781 q2773 q142 q2774 q2687 ⟨by decide +kernel, by decide +kernel, by decide +kernel⟩ (Nat.le_of_ble_eq_true rfl) (Nat.le_of_ble_eq_true rfl) rfl (Nat.le_of_ble_eq_true rfl) dX11_among_40 43 rfl rfl hen_j (kk_j kk_) (kx_n he_j)
      exact Sm_bn
    refine s_lor C dX11_among_43 44 rfl ?_
    refine Sm_sub [] rfl ?_
    exact wX11_among_d5_b44 C hret h0 hin N _ _ _ _
  · refine s_aload_n C rfl 0 rfl dX11_among_7 8 rfl ?_
    refine x_gr C 9 (RX11, TX11, 3) rfl 0 (Nat.le_of_ble_eq_true rfl) q2640 (Or.inl rfl) rfl 10 rfl dX11_among_8 11 rfl (fun x14 => ?_)
    refine s_aload_n C rfl 1 rfl dX11_among_11 12 rfl ?_
    refine x_wj [] 15 (fun kk_ => ?_) (fun x15 m11 k1 n1 => ?_)
    · refine x_csr (kd := 8) (fun hb_ hb0_ => ?_) ?_
      · exact x_callA (enc := en_j) (owner := "MasterTree$Filter") C 19 1 [vr_ v1] 8 (ctX9_among C.2.2.2.2.2.2.2.2.1 N m x14 v1) hb_ hb0_ rfl rfl q2772 q2688 q2701 q2702 q139 q2703 q2687 ⟨by decide +kernel, by decide +kernel, by decide +kernel⟩ (Nat.le_of_ble_eq_true rfl) (Nat.le_of_ble_eq_true rfl) rfl (Nat.le_of_ble_eq_true rfl) dX11_among_12 15 rfl rfl hen_j (kk_j kk_) (kx_n he_j)
      refine x_csr (kd := 9) (fun hb_ hb0_ => ?_) ?_
      · exact x_callA (enc := en_j) (owner := "MasterTree$Filter") C 13 1 [vr_ v1] 9 (ctX10_among C.2.2.2.2.2.2.2.2.1 N m x14 v1) hb_ hb0_ rfl rfl q2772 q2688 q2689 q2690 q140 q2691 q2687 ⟨by decide +kernel, by decide +kernel, by decide +kernel⟩ (Nat.le_of_ble_eq_true rfl) (Nat.le_of_ble_eq_true rfl) rfl (Nat.le_of_ble_eq_true rfl) dX11_among_12 15 rfl rfl hen_j (kk_j kk_) (kx_n he_j)
      refine x_csr (kd := 10) (fun hb_ hb0_ => ?_) ?_
      · exact x_callA (enc := en_j) (owner := "MasterTree$Filter") C 24 1 [vr_ v1] 10 (ctX11_among_d4 C.2.2.2.2.2.2.2.2.1 N m x14 v1) hb_ hb0_ rfl rfl q2772 q2688 q2769 q2770 q141 q2771 q2687 ⟨by decide +kernel, by decide +kernel, by decide +kernel⟩ (Nat.le_of_ble_eq_true rfl) (Nat.le_of_ble_eq_true rfl) rfl (Nat.le_of_ble_eq_true rfl) dX11_among_12 15 rfl rfl hen_j (kk_j kk_) (kx_n he_j)
      refine x_csr (kd := 11) (fun hb_ hb0_ => ?_) ?_
      · exact x_callA (enc := en_j) (owner := "MasterTree$Filter") C 24 1 [vr_ v1] 11 (ctX12_among_d4 C.2.2.2.2.2.2.2.2.1 N m x14 v1) hb_ hb0_ rfl rfl q2772 q2688 q2781 q2773 q142 q2774 q2687 ⟨by decide +kernel, by decide +kernel, by decide +kernel⟩ (Nat.le_of_ble_eq_true rfl) (Nat.le_of_ble_eq_true rfl) rfl (Nat.le_of_ble_eq_true rfl) dX11_among_12 15 rfl rfl hen_j (kk_j kk_) (kx_n he_j)
      exact Sm_bn
    refine s_aload_n C rfl 0 rfl dX11_among_15 16 rfl ?_
    refine x_gr C 9 (RX11, TX11, 3) rfl 1 (Nat.le_of_ble_eq_true rfl) q2641 (Or.inl rfl) rfl 10 rfl dX11_among_16 19 rfl (fun x20 => ?_)
    refine s_aload_n C rfl 1 rfl dX11_among_19 20 rfl ?_
    refine x_wj [vj_ x15] 23 (fun kk_ => ?_) (fun x21 m16 k1 n1 => ?_)
    · refine x_csr (kd := 8) (fun hb_ hb0_ => ?_) ?_
      · exact x_callA (enc := en_j) (owner := "MasterTree$Filter") C 19 1 [vr_ v1] 8 (ctX9_among C.2.2.2.2.2.2.2.2.1 N m11 x20 v1) hb_ hb0_ rfl rfl q2772 q2688 q2701 q2702 q139 q2703 q2687 ⟨by decide +kernel, by decide +kernel, by decide +kernel⟩ (Nat.le_of_ble_eq_true rfl) (Nat.le_of_ble_eq_true rfl) rfl (Nat.le_of_ble_eq_true rfl) dX11_among_20 23 rfl rfl hen_j (kk_j kk_) (kx_n he_j)
      refine x_csr (kd := 9) (fun hb_ hb0_ => ?_) ?_
      · exact x_callA (enc := en_j) (owner := "MasterTree$Filter") C 13 1 [vr_ v1] 9 (ctX10_among C.2.2.2.2.2.2.2.2.1 N m11 x20 v1) hb_ hb0_ rfl rfl q2772 q2688 q2689 q2690 q140 q2691 q2687 ⟨by decide +kernel, by decide +kernel, by decide +kernel⟩ (Nat.le_of_ble_eq_true rfl) (Nat.le_of_ble_eq_true rfl) rfl (Nat.le_of_ble_eq_true rfl) dX11_among_20 23 rfl rfl hen_j (kk_j kk_) (kx_n he_j)
      refine x_csr (kd := 10) (fun hb_ hb0_ => ?_) ?_
      · exact x_callA (enc := en_j) (owner := "MasterTree$Filter") C 24 1 [vr_ v1] 10 (ctX11_among_d4 C.2.2.2.2.2.2.2.2.1 N m11 x20 v1) hb_ hb0_ rfl rfl q2772 q2688 q2769 q2770 q141 q2771 q2687 ⟨by decide +kernel, by decide +kernel, by decide +kernel⟩ (Nat.le_of_ble_eq_true rfl) (Nat.le_of_ble_eq_true rfl) rfl (Nat.le_of_ble_eq_true rfl) dX11_among_20 23 rfl rfl hen_j (kk_j kk_) (kx_n he_j)
      refine x_csr (kd := 11) (fun hb_ hb0_ => ?_) ?_
      · exact x_callA (enc := en_j) (owner := "MasterTree$Filter") C 24 1 [vr_ v1] 11 (ctX12_among_d4 C.2.2.2.2.2.2.2.2.1 N m11 x20 v1) hb_ hb0_ rfl rfl q2772 q2688 q2781 q2773 q142 q2774 q2687 ⟨by decide +kernel, by decide +kernel, by decide +kernel⟩ (Nat.le_of_ble_eq_true rfl) (Nat.le_of_ble_eq_true rfl) rfl (Nat.le_of_ble_eq_true rfl) dX11_among_20 23 rfl rfl hen_j (kk_j kk_) (kx_n he_j)
      exact Sm_bn
    refine s_land C dX11_among_23 24 rfl ?_
    refine s_goto C (off := 20) 44 dX11_among_24 rfl ?_
    refine Sm_sub [] rfl ?_
    exact wX11_among_d5_b44 C hret h0 hin N _ _ _ _
theorem hdX11_among_d5 : ((⟨"MasterTree$Combined", "among", "(LMasterTree$Master;)J"⟩ : MethodName)).cls ≠ "java/lang/invoke/MethodHandle" ∧ ((⟨"MasterTree$Combined", "among", "(LMasterTree$Master;)J"⟩ : MethodName)).cls ≠ "java/lang/invoke/VarHandle" ∧ (parseMethodDescriptor ((⟨"MasterTree$Combined", "among", "(LMasterTree$Master;)J"⟩ : MethodName)).desc).map (fun d => d.parameters.length) = some 1 := ⟨by decide +kernel, by decide +kernel, by decide +kernel⟩
theorem ctX11_among_d5 {l : Launch} {g : GG} (hst : l.stackTraces = false) (N : Nat) (m : Mm) (v0 : Option Nat) (v1 : Option Nat) : ∀ v m' k n, fX11_among_d5 (gE_ g) N m v0 v1 = some (v, m', k, n) → Ct_ l g (⟨"MasterTree$Combined", "among", "(LMasterTree$Master;)J"⟩ : MethodName) (ws_ (⟨"MasterTree$Combined", "among", "(LMasterTree$Master;)J"⟩ : MethodName) cX11_among 2 (Option.some Jvm.ClassFile.FieldType.long)) 25 [vr_ v0, vr_ v1] m (en_j v) m' k n :=
  Ct_of (by decide +kernel) rfl hst (Nat.le_of_ble_eq_true rfl) rfl (fun E C hret h0 hin => wX11_among_d5 C hret h0 hin N m v0 v1 0 0)
theorem wX12_among_d5 {l : Launch} {g : GG} {E : Me_} (C : Cx_ l g E "MasterTree$Not" cX12_among 2 25) (hret : (eT_ E).sig.returnType = (Option.some Jvm.ClassFile.FieldType.long)) (h0 : ∀ x ∈ (eC_ E).exceptionTable.toList, False) (hin : (eT_ E).name = "among") (N : Nat) : ∀ (m : Mm) (v0 : Option Nat) (v1 : Option Nat) (k n : Nat), Sm_ l g E 2 en_j (fX12_among_d5 (gE_ g) N m v0 v1) k n 0 [(0, vr_ v0), (1, vr_ v1)] [] m := by
  intro m v0 v1 k n
  unfold fX12_among_d5
  refine s_aload_n C rfl 1 rfl dX12_among_0 1 rfl ?_
  refine x_ck (fun hb_ hb0_ => ?_)
  refine x_callV (enc := en_j) C 12 0 [] 2 (ctX2_liveOnes C.2.2.2.2.2.2.2.2.1 N m v1) hb_ hb0_ rfl rfl q2775 q2776 q2777 q85 q2778 hdX2_liveOnes (Nat.le_of_ble_eq_true rfl) (Nat.le_of_ble_eq_true rfl) rfl (Nat.le_of_ble_eq_true rfl) dX12_among_1 4 rfl rfl hen_j (kk_j (fun x1 m1 k1 n1 => ?_)) (kx_n he_j)
  refine s_aload_n C rfl 0 rfl dX12_among_4 5 rfl ?_
  refine x_gr C 10 (RX12, TX12, 1) rfl 0 (Nat.le_of_ble_eq_true rfl) q2666 (Or.inl rfl) rfl 11 rfl dX12_among_5 8 rfl (fun x2 => ?_)
  refine s_aload_n C rfl 1 rfl dX12_among_8 9 rfl ?_
  refine x_wj [vj_ x1] 12 (fun kk_ => ?_) (fun x3 m2 k1 n1 => ?_)
  · refine x_csr (kd := 8) (fun hb_ hb0_ => ?_) ?_
    · exact x_callA (enc := en_j) (owner := "MasterTree$Filter") C 19 1 [vr_ v1] 8 (ctX9_among C.2.2.2.2.2.2.2.2.1 N m1 x2 v1) hb_ hb0_ rfl rfl q2779 q2688 q2701 q2702 q139 q2703 q2687 ⟨by decide +kernel, by decide +kernel, by decide +kernel⟩ (Nat.le_of_ble_eq_true rfl) (Nat.le_of_ble_eq_true rfl) rfl (Nat.le_of_ble_eq_true rfl) dX12_among_9 12 rfl rfl hen_j (kk_j kk_) (kx_n he_j)
    refine x_csr (kd := 9) (fun hb_ hb0_ => ?_) ?_
    · exact x_callA (enc := en_j) (owner := "MasterTree$Filter") C 13 1 [vr_ v1] 9 (ctX10_among C.2.2.2.2.2.2.2.2.1 N m1 x2 v1) hb_ hb0_ rfl rfl q2779 q2688 q2689 q2690 q140 q2691 q2687 ⟨by decide +kernel, by decide +kernel, by decide +kernel⟩ (Nat.le_of_ble_eq_true rfl) (Nat.le_of_ble_eq_true rfl) rfl (Nat.le_of_ble_eq_true rfl) dX12_among_9 12 rfl rfl hen_j (kk_j kk_) (kx_n he_j)
    refine x_csr (kd := 10) (fun hb_ hb0_ => ?_) ?_
    · exact x_callA (enc := en_j) (owner := "MasterTree$Filter") C 24 1 [vr_ v1] 10 (ctX11_among_d4 C.2.2.2.2.2.2.2.2.1 N m1 x2 v1) hb_ hb0_ rfl rfl q2779 q2688 q2769 q2770 q141 q2771 q2687 ⟨by decide +kernel, by decide +kernel, by decide +kernel⟩ (Nat.le_of_ble_eq_true rfl) (Nat.le_of_ble_eq_true rfl) rfl (Nat.le_of_ble_eq_true rfl) dX12_among_9 12 rfl rfl hen_j (kk_j kk_) (kx_n he_j)
    refine x_csr (kd := 11) (fun hb_ hb0_ => ?_) ?_
    · exact x_callA (enc := en_j) (owner := "MasterTree$Filter") C 24 1 [vr_ v1] 11 (ctX12_among_d4 C.2.2.2.2.2.2.2.2.1 N m1 x2 v1) hb_ hb0_ rfl rfl q2779 q2688 q2781 q2773 q142 q2774 q2687 ⟨by decide +kernel, by decide +kernel, by decide +kernel⟩ (Nat.le_of_ble_eq_true rfl) (Nat.le_of_ble_eq_true rfl) rfl (Nat.le_of_ble_eq_true rfl) dX12_among_9 12 rfl rfl hen_j (kk_j kk_) (kx_n he_j)
    exact Sm_bn
  refine s_ldc2 C (-1) q2780 dX12_among_12 15 rfl ?_
  refine s_lxor C dX12_among_15 16 rfl ?_
  refine s_land C dX12_among_16 17 rfl ?_
  exact x_lret C hret rfl dX12_among_17
theorem hdX12_among_d5 : ((⟨"MasterTree$Not", "among", "(LMasterTree$Master;)J"⟩ : MethodName)).cls ≠ "java/lang/invoke/MethodHandle" ∧ ((⟨"MasterTree$Not", "among", "(LMasterTree$Master;)J"⟩ : MethodName)).cls ≠ "java/lang/invoke/VarHandle" ∧ (parseMethodDescriptor ((⟨"MasterTree$Not", "among", "(LMasterTree$Master;)J"⟩ : MethodName)).desc).map (fun d => d.parameters.length) = some 1 := ⟨by decide +kernel, by decide +kernel, by decide +kernel⟩
theorem ctX12_among_d5 {l : Launch} {g : GG} (hst : l.stackTraces = false) (N : Nat) (m : Mm) (v0 : Option Nat) (v1 : Option Nat) : ∀ v m' k n, fX12_among_d5 (gE_ g) N m v0 v1 = some (v, m', k, n) → Ct_ l g (⟨"MasterTree$Not", "among", "(LMasterTree$Master;)J"⟩ : MethodName) (ws_ (⟨"MasterTree$Not", "among", "(LMasterTree$Master;)J"⟩ : MethodName) cX12_among 2 (Option.some Jvm.ClassFile.FieldType.long)) 25 [vr_ v0, vr_ v1] m (en_j v) m' k n :=
  Ct_of (by decide +kernel) rfl hst (Nat.le_of_ble_eq_true rfl) rfl (fun E C hret h0 hin => wX12_among_d5 C hret h0 hin N m v0 v1 0 0)
theorem wX11_among_d6_b44 {l : Launch} {g : GG} {E : Me_} (C : Cx_ l g E "MasterTree$Combined" cX11_among 2 26) (hret : (eT_ E).sig.returnType = (Option.some Jvm.ClassFile.FieldType.long)) (h0 : ∀ x ∈ (eC_ E).exceptionTable.toList, False) (hin : (eT_ E).name = "among") (N : Nat) : ∀ (m : Mm) (s0 : Int64) (k n : Nat), Sm_ l g E 2 en_j (fX11_among_d6_b44 (gE_ g) N m s0) k n 44 [] [vj_ s0] m := by
  intro m s0 k n
  unfold fX11_among_d6_b44
  exact x_lret C hret rfl dX11_among_44
theorem wX11_among_d6 {l : Launch} {g : GG} {E : Me_} (C : Cx_ l g E "MasterTree$Combined" cX11_among 2 26) (hret : (eT_ E).sig.returnType = (Option.some Jvm.ClassFile.FieldType.long)) (h0 : ∀ x ∈ (eC_ E).exceptionTable.toList, False) (hin : (eT_ E).name = "among") (N : Nat) : ∀ (m : Mm) (v0 : Option Nat) (v1 : Option Nat) (k n : Nat), Sm_ l g E 2 en_j (fX11_among_d6 (gE_ g) N m v0 v1) k n 0 [(0, vr_ v0), (1, vr_ v1)] [] m := by
  intro m v0 v1 k n
  unfold fX11_among_d6
  refine s_aload_n C rfl 0 rfl dX11_among_0 1 rfl ?_
  refine x_gi C 9 (RX11, TX11, 3) rfl 2 (Nat.le_of_ble_eq_true rfl) q2642 (Or.inl rfl) rfl 10 rfl dX11_among_1 4 rfl (fun x1 => ?_)
  refine s_if_eq C dX11_among_4 27 rfl 7 rfl (fun c_ => ?_) (fun c_ => ?_)
  · refine s_aload_n C rfl 0 rfl dX11_among_27 28 rfl ?_
    refine x_gr C 9 (RX11, TX11, 3) rfl 0 (Nat.le_of_ble_eq_true rfl) q2640 (Or.inl rfl) rfl 10 rfl dX11_among_28 31 rfl (fun x2 => ?_)
    refine s_aload_n C rfl 1 rfl dX11_among_31 32 rfl ?_
    refine x_wj [] 35 (fun kk_ => ?_) (fun x3 m1 k1 n1 => ?_)
    · refine x_csr (kd := 8) (fun hb_ hb0_ => ?_) ?_
      · exact x_callA (enc := en_j) (owner := "MasterTree$Filter") C 19 1 [vr_ v1] 8 (ctX9_among C.2.2.2.2.2.2.2.2.1 N m x2 v1) hb_ hb0_ rfl rfl q2772 q2688 q2701 q2702 q139 q2703 q2687 ⟨by decide +kernel, by decide +kernel, by decide +kernel⟩ (Nat.le_of_ble_eq_true rfl) (Nat.le_of_ble_eq_true rfl) rfl (Nat.le_of_ble_eq_true rfl) dX11_among_32 35 rfl rfl hen_j (kk_j kk_) (kx_n he_j)
      refine x_csr (kd := 9) (fun hb_ hb0_ => ?_) ?_
      · exact x_callA (enc := en_j) (owner := "MasterTree$Filter") C 13 1 [vr_ v1] 9 (ctX10_among C.2.2.2.2.2.2.2.2.1 N m x2 v1) hb_ hb0_ rfl rfl q2772 q2688 q2689 q2690 q140 q2691 q2687 ⟨by decide +kernel, by decide +kernel, by decide +kernel⟩ (Nat.le_of_ble_eq_true rfl) (Nat.le_of_ble_eq_true rfl) rfl (Nat.le_of_ble_eq_true rfl) dX11_among_32 35 rfl rfl hen_j (kk_j kk_) (kx_n he_j)
      refine x_csr (kd := 10) (fun hb_ hb0_ => ?_) ?_
      · exact x_callA (enc := en_j) (owner := "MasterTree$Filter") C 25 1 [vr_ v1] 10 (ctX11_among_d5 C.2.2.2.2.2.2.2.2.1 N m x2 v1) hb_ hb0_ rfl rfl q2772 q2688 q2769 q2770 q141 q2771 q2687 ⟨by decide +kernel, by decide +kernel, by decide +kernel⟩ (Nat.le_of_ble_eq_true rfl) (Nat.le_of_ble_eq_true rfl) rfl (Nat.le_of_ble_eq_true rfl) dX11_among_32 35 rfl rfl hen_j (kk_j kk_) (kx_n he_j)
      refine x_csr (kd := 11) (fun hb_ hb0_ => ?_) ?_
      · exact x_callA (enc := en_j) (owner := "MasterTree$Filter") C 25 1 [vr_ v1] 11 (ctX12_among_d5 C.2.2.2.2.2.2.2.2.1 N m x2 v1) hb_ hb0_ rfl rfl q2772 q2688 q2781 q2773 q142 q2774 q2687 ⟨by decide +kernel, by decide +kernel, by decide +kernel⟩ (Nat.le_of_ble_eq_true rfl) (Nat.le_of_ble_eq_true rfl) rfl (Nat.le_of_ble_eq_true rfl) dX11_among_32 35 rfl rfl hen_j (kk_j kk_) (kx_n he_j)
      exact Sm_bn
    refine s_aload_n C rfl 0 rfl dX11_among_35 36 rfl ?_
    refine x_gr C 9 (RX11, TX11, 3) rfl 1 (Nat.le_of_ble_eq_true rfl) q2641 (Or.inl rfl) rfl 10 rfl dX11_among_36 39 rfl (fun x8 => ?_)
    refine s_aload_n C rfl 1 rfl dX11_among_39 40 rfl ?_
    refine x_wj [vj_ x3] 43 (fun kk_ => ?_) (fun x9 m6 k1 n1 => ?_)
    · refine x_csr (kd := 8) (fun hb_ hb0_ => ?_) ?_
      · exact x_callA (enc := en_j) (owner := "MasterTree$Filter") C 19 1 [vr_ v1] 8 (ctX9_among C.2.2.2.2.2.2.2.2.1 N m1 x8 v1) hb_ hb0_ rfl rfl q2772 q2688 q2701 q2702 q139 q2703 q2687 ⟨by decide +kernel, by decide +kernel, by decide +kernel⟩ (Nat.le_of_ble_eq_true rfl) (Nat.le_of_ble_eq_true rfl) rfl (Nat.le_of_ble_eq_true rfl) dX11_among_40 43 rfl rfl hen_j (kk_j kk_) (kx_n he_j)
      refine x_csr (kd := 9) (fun hb_ hb0_ => ?_) ?_
      · exact x_callA (enc := en_j) (owner := "MasterTree$Filter") C 13 1 [vr_ v1] 9 (ctX10_among C.2.2.2.2.2.2.2.2.1 N m1 x8 v1) hb_ hb0_ rfl rfl q2772 q2688 q2689 q2690 q140 q2691 q2687 ⟨by decide +kernel, by decide +kernel, by decide +kernel⟩ (Nat.le_of_ble_eq_true rfl) (Nat.le_of_ble_eq_true rfl) rfl (Nat.le_of_ble_eq_true rfl) dX11_among_40 43 rfl rfl hen_j (kk_j kk_) (kx_n he_j)
      refine x_csr (kd := 10) (fun hb_ hb0_ => ?_) ?_
      · exact x_callA (enc := en_j) (owner := "MasterTree$Filter") C 25 1 [vr_ v1] 10 (ctX11_among_d5 C.2.2.2.2.2.2.2.2.1 N m1 x8 v1) hb_ hb0_ rfl rfl q2772 q2688 q2769 q2770 q141 q2771 q2687 ⟨by decide +kernel, by decide +kernel, by decide +kernel⟩ (Nat.le_of_ble_eq_true rfl) (Nat.le_of_ble_eq_true rfl) rfl (Nat.le_of_ble_eq_true rfl) dX11_among_40 43 rfl rfl hen_j (kk_j kk_) (kx_n he_j)
      refine x_csr (kd := 11) (fun hb_ hb0_ => ?_) ?_
      · exact x_callA (enc := en_j) (owner := "MasterTree$Filter") C 25 1 [vr_ v1] 11 (ctX12_among_d5 C.2.2.2.2.2.2.2.2.1 N m1 x8 v1) hb_ hb0_ rfl rfl q2772 q2688 q2781 q2773 q142 q2774 q2687 ⟨by decide +kernel, by decide +kernel, by decide +kernel⟩ (Nat.le_of_ble_eq_true rfl) (Nat.le_of_ble_eq_true rfl) rfl (Nat.le_of_ble_eq_true rfl) dX11_among_40 43 rfl rfl hen_j (kk_j kk_) (kx_n he_j)
      exact Sm_bn
    refine s_lor C dX11_among_43 44 rfl ?_
    refine Sm_sub [] rfl ?_
    exact wX11_among_d6_b44 C hret h0 hin N _ _ _ _
  · refine s_aload_n C rfl 0 rfl dX11_among_7 8 rfl ?_
    refine x_gr C 9 (RX11, TX11, 3) rfl 0 (Nat.le_of_ble_eq_true rfl) q2640 (Or.inl rfl) rfl 10 rfl dX11_among_8 11 rfl (fun x14 => ?_)
    refine s_aload_n C rfl 1 rfl dX11_among_11 12 rfl ?_
    refine x_wj [] 15 (fun kk_ => ?_) (fun x15 m11 k1 n1 => ?_)
    · refine x_csr (kd := 8) (fun hb_ hb0_ => ?_) ?_
      · exact x_callA (enc := en_j) (owner := "MasterTree$Filter") C 19 1 [vr_ v1] 8 (ctX9_among C.2.2.2.2.2.2.2.2.1 N m x14 v1) hb_ hb0_ rfl rfl q2772 q2688 q2701 q2702 q139 q2703 q2687 ⟨by decide +kernel, by decide +kernel, by decide +kernel⟩ (Nat.le_of_ble_eq_true rfl) (Nat.le_of_ble_eq_true rfl) rfl (Nat.le_of_ble_eq_true rfl) dX11_among_12 15 rfl rfl hen_j (kk_j kk_) (kx_n he_j)
      refine x_csr (kd := 9) (fun hb_ hb0_ => ?_) ?_
      · exact x_callA (enc := en_j) (owner := "MasterTree$Filter") C 13 1 [vr_ v1] 9 (ctX10_among C.2.2.2.2.2.2.2.2.1 N m x14 v1) hb_ hb0_ rfl rfl q2772 q2688 q2689 q2690 q140 q2691 q2687 ⟨by decide +kernel, by decide +kernel, by decide +kernel⟩ (Nat.le_of_ble_eq_true rfl) (Nat.le_of_ble_eq_true rfl) rfl (Nat.le_of_ble_eq_true rfl) dX11_among_12 15 rfl rfl hen_j (kk_j kk_) (kx_n he_j)
      refine x_csr (kd := 10) (fun hb_ hb0_ => ?_) ?_
      · exact x_callA (enc := en_j) (owner := "MasterTree$Filter") C 25 1 [vr_ v1] 10 (ctX11_among_d5 C.2.2.2.2.2.2.2.2.1 N m x14 v1) hb_ hb0_ rfl rfl q2772 q2688 q2769 q2770 q141 q2771 q2687 ⟨by decide +kernel, by decide +kernel, by decide +kernel⟩ (Nat.le_of_ble_eq_true rfl) (Nat.le_of_ble_eq_true rfl) rfl (Nat.le_of_ble_eq_true rfl) dX11_among_12 15 rfl rfl hen_j (kk_j kk_) (kx_n he_j)
      refine x_csr (kd := 11) (fun hb_ hb0_ => ?_) ?_
      · exact x_callA (enc := en_j) (owner := "MasterTree$Filter") C 25 1 [vr_ v1] 11 (ctX12_among_d5 C.2.2.2.2.2.2.2.2.1 N m x14 v1) hb_ hb0_ rfl rfl q2772 q2688 q2781 q2773 q142 q2774 q2687 ⟨by decide +kernel, by decide +kernel, by decide +kernel⟩ (Nat.le_of_ble_eq_true rfl) (Nat.le_of_ble_eq_true rfl) rfl (Nat.le_of_ble_eq_true rfl) dX11_among_12 15 rfl rfl hen_j (kk_j kk_) (kx_n he_j)
      exact Sm_bn
    refine s_aload_n C rfl 0 rfl dX11_among_15 16 rfl ?_
    refine x_gr C 9 (RX11, TX11, 3) rfl 1 (Nat.le_of_ble_eq_true rfl) q2641 (Or.inl rfl) rfl 10 rfl dX11_among_16 19 rfl (fun x20 => ?_)
    refine s_aload_n C rfl 1 rfl dX11_among_19 20 rfl ?_
    refine x_wj [vj_ x15] 23 (fun kk_ => ?_) (fun x21 m16 k1 n1 => ?_)
    · refine x_csr (kd := 8) (fun hb_ hb0_ => ?_) ?_
      · exact x_callA (enc := en_j) (owner := "MasterTree$Filter") C 19 1 [vr_ v1] 8 (ctX9_among C.2.2.2.2.2.2.2.2.1 N m11 x20 v1) hb_ hb0_ rfl rfl q2772 q2688 q2701 q2702 q139 q2703 q2687 ⟨by decide +kernel, by decide +kernel, by decide +kernel⟩ (Nat.le_of_ble_eq_true rfl) (Nat.le_of_ble_eq_true rfl) rfl (Nat.le_of_ble_eq_true rfl) dX11_among_20 23 rfl rfl hen_j (kk_j kk_) (kx_n he_j)
      refine x_csr (kd := 9) (fun hb_ hb0_ => ?_) ?_
      · exact x_callA (enc := en_j) (owner := "MasterTree$Filter") C 13 1 [vr_ v1] 9 (ctX10_among C.2.2.2.2.2.2.2.2.1 N m11 x20 v1) hb_ hb0_ rfl rfl q2772 q2688 q2689 q2690 q140 q2691 q2687 ⟨by decide +kernel, by decide +kernel, by decide +kernel⟩ (Nat.le_of_ble_eq_true rfl) (Nat.le_of_ble_eq_true rfl) rfl (Nat.le_of_ble_eq_true rfl) dX11_among_20 23 rfl rfl hen_j (kk_j kk_) (kx_n he_j)
      refine x_csr (kd := 10) (fun hb_ hb0_ => ?_) ?_
      · exact x_callA (enc := en_j) (owner := "MasterTree$Filter") C 25 1 [vr_ v1] 10 (ctX11_among_d5 C.2.2.2.2.2.2.2.2.1 N m11 x20 v1) hb_ hb0_ rfl rfl q2772 q2688 q2769 q2770 q141 q2771 q2687 ⟨by decide +kernel, by decide +kernel, by decide +kernel⟩ (Nat.le_of_ble_eq_true rfl) (Nat.le_of_ble_eq_true rfl) rfl (Nat.le_of_ble_eq_true rfl) dX11_among_20 23 rfl rfl hen_j (kk_j kk_) (kx_n he_j)
      refine x_csr (kd := 11) (fun hb_ hb0_ => ?_) ?_
      · exact x_callA (enc := en_j) (owner := "MasterTree$Filter") C 25 1 [vr_ v1] 11 (ctX12_among_d5 C.2.2.2.2.2.2.2.2.1 N m11 x20 v1) hb_ hb0_ rfl rfl q2772 q2688 q2781 q2773 q142 q2774 q2687 ⟨by decide +kernel, by decide +kernel, by decide +kernel⟩ (Nat.le_of_ble_eq_true rfl) (Nat.le_of_ble_eq_true rfl) rfl (Nat.le_of_ble_eq_true rfl) dX11_among_20 23 rfl rfl hen_j (kk_j kk_) (kx_n he_j)
      exact Sm_bn
    refine s_land C dX11_among_23 24 rfl ?_
    refine s_goto C (off := 20) 44 dX11_among_24 rfl ?_
    refine Sm_sub [] rfl ?_
    exact wX11_among_d6_b44 C hret h0 hin N _ _ _ _
theorem hdX11_among_d6 : ((⟨"MasterTree$Combined", "among", "(LMasterTree$Master;)J"⟩ : MethodName)).cls ≠ "java/lang/invoke/MethodHandle" ∧ ((⟨"MasterTree$Combined", "among", "(LMasterTree$Master;)J"⟩ : MethodName)).cls ≠ "java/lang/invoke/VarHandle" ∧ (parseMethodDescriptor ((⟨"MasterTree$Combined", "among", "(LMasterTree$Master;)J"⟩ : MethodName)).desc).map (fun d => d.parameters.length) = some 1 := ⟨by decide +kernel, by decide +kernel, by decide +kernel⟩
theorem ctX11_among_d6 {l : Launch} {g : GG} (hst : l.stackTraces = false) (N : Nat) (m : Mm) (v0 : Option Nat) (v1 : Option Nat) : ∀ v m' k n, fX11_among_d6 (gE_ g) N m v0 v1 = some (v, m', k, n) → Ct_ l g (⟨"MasterTree$Combined", "among", "(LMasterTree$Master;)J"⟩ : MethodName) (ws_ (⟨"MasterTree$Combined", "among", "(LMasterTree$Master;)J"⟩ : MethodName) cX11_among 2 (Option.some Jvm.ClassFile.FieldType.long)) 26 [vr_ v0, vr_ v1] m (en_j v) m' k n :=
  Ct_of (by decide +kernel) rfl hst (Nat.le_of_ble_eq_true rfl) rfl (fun E C hret h0 hin => wX11_among_d6 C hret h0 hin N m v0 v1 0 0)
theorem wX12_among_d6 {l : Launch} {g : GG} {E : Me_} (C : Cx_ l g E "MasterTree$Not" cX12_among 2 26) (hret : (eT_ E).sig.returnType = (Option.some Jvm.ClassFile.FieldType.long)) (h0 : ∀ x ∈ (eC_ E).exceptionTable.toList, False) (hin : (eT_ E).name = "among") (N : Nat) : ∀ (m : Mm) (v0 : Option Nat) (v1 : Option Nat) (k n : Nat), Sm_ l g E 2 en_j (fX12_among_d6 (gE_ g) N m v0 v1) k n 0 [(0, vr_ v0), (1, vr_ v1)] [] m := by
  intro m v0 v1 k n
  unfold fX12_among_d6
  refine s_aload_n C rfl 1 rfl dX12_among_0 1 rfl ?_
  refine x_ck (fun hb_ hb0_ => ?_)
  refine x_callV (enc := en_j) C 12 0 [] 2 (ctX2_liveOnes C.2.2.2.2.2.2.2.2.1 N m v1) hb_ hb0_ rfl rfl q2775 q2776 q2777 q85 q2778 hdX2_liveOnes (Nat.le_of_ble_eq_true rfl) (Nat.le_of_ble_eq_true rfl) rfl (Nat.le_of_ble_eq_true rfl) dX12_among_1 4 rfl rfl hen_j (kk_j (fun x1 m1 k1 n1 => ?_)) (kx_n he_j)
  refine s_aload_n C rfl 0 rfl dX12_among_4 5 rfl ?_
  refine x_gr C 10 (RX12, TX12, 1) rfl 0 (Nat.le_of_ble_eq_true rfl) q2666 (Or.inl rfl) rfl 11 rfl dX12_among_5 8 rfl (fun x2 => ?_)
  refine s_aload_n C rfl 1 rfl dX12_among_8 9 rfl ?_
  refine x_wj [vj_ x1] 12 (fun kk_ => ?_) (fun x3 m2 k1 n1 => ?_)
  · refine x_csr (kd := 8) (fun hb_ hb0_ => ?_) ?_
    · exact x_callA (enc := en_j) (owner := "MasterTree$Filter") C 19 1 [vr_ v1] 8 (ctX9_among C.2.2.2.2.2.2.2.2.1 N m1 x2 v1) hb_ hb0_ rfl rfl q2779 q2688 q2701 q2702 q139 q2703 q2687 ⟨by decide +kernel, by decide +kernel, by decide +kernel⟩ (Nat.le_of_ble_eq_true rfl) (Nat.le_of_ble_eq_true rfl) rfl (Nat.le_of_ble_eq_true rfl) dX12_among_9 12 rfl rfl hen_j (kk_j kk_) (kx_n he_j)
    refine x_csr (kd := 9) (fun hb_ hb0_ => ?_) ?_
    · exact x_callA (enc := en_j) (owner := "MasterTree$Filter") C 13 1 [vr_ v1] 9 (ctX10_among C.2.2.2.2.2.2.2.2.1 N m1 x2 v1) hb_ hb0_ rfl rfl q2779 q2688 q2689 q2690 q140 q2691 q2687 ⟨by decide +kernel, by decide +kernel, by decide +kernel⟩ (Nat.le_of_ble_eq_true rfl) (Nat.le_of_ble_eq_true rfl) rfl (Nat.le_of_ble_eq_true rfl) dX12_among_9 12 rfl rfl hen_j (kk_j kk_) (kx_n he_j)
    refine x_csr (kd := 10) (fun hb_ hb0_ => ?_) ?_
    · exact x_callA (enc := en_j) (owner := "MasterTree$Filter") C 25 1 [vr_ v1] 10 (ctX11_among_d5 C.2.2.2.2.2.2.2.2.1 N m1 x2 v1) hb_ hb0_ rfl rfl q2779 q2688 q2769 q2770 q141 q2771 q2687 ⟨by decide +kernel, by decide +kernel, by decide +kernel⟩ (Nat.le_of_ble_eq_true rfl) (Nat.le_of_ble_eq_true rfl) rfl (Nat.le_of_ble_eq_true rfl) dX12_among_9 12 rfl rfl hen_j (kk_j kk_) (kx_n he_j)
    refine x_csr (kd := 11) (fun hb_ hb0_ => ?_) ?_
    · exact x_callA (enc := en_j) (owner := "MasterTree$Filter") C 25 1 [vr_ v1] 11 (ctX12_among_d5 C.2.2.2.2.2.2.2.2.1 N m1 x2 v1) hb_ hb0_ rfl rfl q2779 q2688 q2781 q2773 q142 q2774 q2687 ⟨by decide +kernel, by decide +kernel, by decide +kernel⟩ (Nat.le_of_ble_eq_true rfl) (Nat.le_of_ble_eq_true rfl) rfl (Nat.le_of_ble_eq_true rfl) dX12_among_9 12 rfl rfl hen_j (kk_j kk_) (kx_n he_j)
    exact Sm_bn
  refine s_ldc2 C (-1) q2780 dX12_among_12 15 rfl ?_
  refine s_lxor C dX12_among_15 16 rfl ?_
  refine s_land C dX12_among_16 17 rfl ?_
  exact x_lret C hret rfl dX12_among_17
theorem hdX12_among_d6 : ((⟨"MasterTree$Not", "among", "(LMasterTree$Master;)J"⟩ : MethodName)).cls ≠ "java/lang/invoke/MethodHandle" ∧ ((⟨"MasterTree$Not", "among", "(LMasterTree$Master;)J"⟩ : MethodName)).cls ≠ "java/lang/invoke/VarHandle" ∧ (parseMethodDescriptor ((⟨"MasterTree$Not", "among", "(LMasterTree$Master;)J"⟩ : MethodName)).desc).map (fun d => d.parameters.length) = some 1 := ⟨by decide +kernel, by decide +kernel, by decide +kernel⟩
theorem ctX12_among_d6 {l : Launch} {g : GG} (hst : l.stackTraces = false) (N : Nat) (m : Mm) (v0 : Option Nat) (v1 : Option Nat) : ∀ v m' k n, fX12_among_d6 (gE_ g) N m v0 v1 = some (v, m', k, n) → Ct_ l g (⟨"MasterTree$Not", "among", "(LMasterTree$Master;)J"⟩ : MethodName) (ws_ (⟨"MasterTree$Not", "among", "(LMasterTree$Master;)J"⟩ : MethodName) cX12_among 2 (Option.some Jvm.ClassFile.FieldType.long)) 26 [vr_ v0, vr_ v1] m (en_j v) m' k n :=
  Ct_of (by decide +kernel) rfl hst (Nat.le_of_ble_eq_true rfl) rfl (fun E C hret h0 hin => wX12_among_d6 C hret h0 hin N m v0 v1 0 0)
theorem wX11_among_d7_b44 {l : Launch} {g : GG} {E : Me_} (C : Cx_ l g E "MasterTree$Combined" cX11_among 2 27) (hret : (eT_ E).sig.returnType = (Option.some Jvm.ClassFile.FieldType.long)) (h0 : ∀ x ∈ (eC_ E).exceptionTable.toList, False) (hin : (eT_ E).name = "among") (N : Nat) : ∀ (m : Mm) (s0 : Int64) (k n : Nat), Sm_ l g E 2 en_j (fX11_among_d7_b44 (gE_ g) N m s0) k n 44 [] [vj_ s0] m := by
  intro m s0 k n
  unfold fX11_among_d7_b44
  exact x_lret C hret rfl dX11_among_44
theorem wX11_among_d7 {l : Launch} {g : GG} {E : Me_} (C : Cx_ l g E "MasterTree$Combined" cX11_among 2 27) (hret : (eT_ E).sig.returnType = (Option.some Jvm.ClassFile.FieldType.long)) (h0 : ∀ x ∈ (eC_ E).exceptionTable.toList, False) (hin : (eT_ E).name = "among") (N : Nat) : ∀ (m : Mm) (v0 : Option Nat) (v1 : Option Nat) (k n : Nat), Sm_ l g E 2 en_j (fX11_among_d7 (gE_ g) N m v0 v1) k n 0 [(0, vr_ v0), (1, vr_ v1)] [] m := by
  intro m v0 v1 k n
  unfold fX11_among_d7
  refine s_aload_n C rfl 0 rfl dX11_among_0 1 rfl ?_
  refine x_gi C 9 (RX11, TX11, 3) rfl 2 (Nat.le_of_ble_eq_true rfl) q2642 (Or.inl rfl) rfl 10 rfl dX11_among_1 4 rfl (fun x1 => ?_)
  refine s_if_eq C dX11_among_4 27 rfl 7 rfl (fun c_ => ?_) (fun c_ => ?_)
  · refine s_aload_n C rfl 0 rfl dX11_among_27 28 rfl ?_
    refine x_gr C 9 (RX11, TX11, 3) rfl 0 (Nat.le_of_ble_eq_true rfl) q2640 (Or.inl rfl) rfl 10 rfl dX11_among_28 31 rfl (fun x2 => ?_)
    refine s_aload_n C rfl 1 rfl dX11_among_31 32 rfl ?_
    refine x_wj [] 35 (fun kk_ => ?_) (fun x3 m1 k1 n1 => ?_)
    · refine x_csr (kd := 8) (fun hb_ hb0_ => ?_) ?_
      · exact x_callA (enc := en_j) (owner := "MasterTree$Filter") C 19 1 [vr_ v1] 8 (ctX9_among C.2.2.2.2.2.2.2.2.1 N m x2 v1) hb_ hb0_ rfl rfl q2772 q2688 q2701 q2702 q139 q2703 q2687 ⟨by decide +kernel, by decide +kernel, by decide +kernel⟩ (Nat.le_of_ble_eq_true rfl) (Nat.le_of_ble_eq_true rfl) rfl (Nat.le_of_ble_eq_true rfl) dX11_among_32 35 rfl rfl hen_j (kk_j kk_) (kx_n he_j)
      refine x_csr (kd := 9) (fun hb_ hb0_ => ?_) ?_
      · exact x_callA (enc := en_j) (owner := "MasterTree$Filter") C 13 1 [vr_ v1] 9 (ctX10_among C.2.2.2.2.2.2.2.2.1 N m x2 v1) hb_ hb0_ rfl rfl q2772 q2688 q2689 q2690 q140 q2691 q2687 ⟨by decide +kernel, by decide +kernel, by decide +kernel⟩ (Nat.le_of_ble_eq_true rfl) (Nat.le_of_ble_eq_true rfl) rfl (Nat.le_of_ble_eq_true rfl) dX11_among_32 35 rfl rfl hen_j (kk_j kk_) (kx_n he_j)
      refine x_csr (kd := 10) (fun hb_ hb0_ => ?_) ?_
      · exact x_callA (enc := en_j) (owner := "MasterTree$Filter") C 26 1 [vr_ v1] 10 (ctX11_among_d6 C.2.2.2.2.2.2.2.2.1 N m x2 v1) hb_ hb0_ rfl rfl q2772 q2688 q2769 q2770 q141 q2771 q2687 ⟨by decide +kernel, by decide +kernel, by decide +kernel⟩ (Nat.le_of_ble_eq_true rfl) (Nat.le_of_ble_eq_true rfl) rfl (Nat.le_of_ble_eq_true rfl) dX11_among_32 35 rfl rfl hen_j (kk_j kk_) (kx_n he_j)
      refine x_csr (kd := 11) (fun hb_ hb0_ => ?_) ?_
      · exact x_callA (enc := en_j) (owner := "MasterTree$Filter") C 26 1 [vr_ v1] 11 (ctX12_among_d6 C.2.2.2.2.2.2.2.2.1 N m x2 v1) hb_ hb0_ rfl rfl q2772 q2688 q2781 q2773 q142 q2774 q2687 ⟨by decide +kernel, by decide +kernel, by decide +kernel⟩ (Nat.le_of_ble_eq_true rfl) (Nat.le_of_ble_eq_true rfl) rfl (Nat.le_of_ble_eq_true rfl) dX11_among_32 35 rfl rfl hen_j (kk_j kk_) (kx_n he_j)
      exact Sm_bn
    refine s_aload_n C rfl 0 rfl dX11_among_35 36 rfl ?_
    refine x_gr C 9 (RX11, TX11, 3) rfl 1 (Nat.le_of_ble_eq_true rfl) q2641 (Or.inl rfl) rfl 10 rfl dX11_among_36 39 rfl (fun x8 => ?_)
    refine s_aload_n C rfl 1 rfl dX11_among_39 40 rfl ?_
    refine x_wj [vj_ x3] 43 (fun kk_ => ?_) (fun x9 m6 k1 n1 => ?_)
    · refine x_csr (kd := 8) (fun hb_ hb0_ => ?_) ?_
      · exact x_callA (enc := en_j) (owner := "MasterTree$Filter") C 19 1 [vr_ v1] 8 (ctX9_among C.2.2.2.2.2.2.2.2.1 N m1 x8 v1) hb_ hb0_ rfl rfl q2772 q2688 q2701 q2702 q139 q2703 q2687 ⟨by decide +kernel, by decide +kernel, by decide +kernel⟩ (Nat.le_of_ble_eq_true rfl) (Nat.le_of_ble_eq_true rfl) rfl (Nat.le_of_ble_eq_true rfl) dX11_among_40 43 rfl rfl hen_j (kk_j kk_) (kx_n he_j)
      refine x_csr (kd := 9) (fun hb_ hb0_ => ?_) ?_
      · exact x_callA (enc := en_j) (owner := "MasterTree$Filter") C 13 1 [vr_ v1] 9 (ctX10_among C.2.2.2.2.2.2.2.2.1 N m1 x8 v1) hb_ hb0_ rfl rfl q2772 q2688 q2689 q2690 q140 q2691 q2687 ⟨by decide +kernel, by decide +kernel, by decide +kernel⟩ (Nat.le_of_ble_eq_true rfl) (Nat.le_of_ble_eq_true rfl) rfl (Nat.le_of_ble_eq_true rfl) dX11_among_40 43 rfl rfl hen_j (kk_j kk_) (kx_n he_j)
      refine x_csr (kd := 10) (fun hb_ hb0_ => ?_) ?_
      · exact x_callA (enc := en_j) (owner := "MasterTree$Filter") C 26 1 [vr_ v1] 10 (ctX11_among_d6 C.2.2.2.2.2.2.2.2.1 N m1 x8 v1) hb_ hb0_ rfl rfl q2772 q2688 q2769 q2770 q141 q2771 q2687 ⟨by decide +kernel, by decide +kernel, by decide +kernel⟩ (Nat.le_of_ble_eq_true rfl) (Nat.le_of_ble_eq_true rfl) rfl (Nat.le_of_ble_eq_true rfl) dX11_among_40 43 rfl rfl hen_j (kk_j kk_) (kx_n he_j)
      refine x_csr (kd := 11) (fun hb_ hb0_ => ?_) ?_
      · exact x_callA (enc := en_j) (owner := "MasterTree$Filter") C 26 1 [vr_ v1] 11 (ctX12_among_d6 C.2.2.2.2.2.2.2.2.1 N m1 x8 v1) hb_ hb0_ rfl rfl q2772 q2688 q2781 q2773 q142 q2774 q2687 ⟨by decide +kernel, by decide +kernel, by decide +kernel⟩ (Nat.le_of_ble_eq_true rfl) (Nat.le_of_ble_eq_true rfl) rfl (Nat.le_of_ble_eq_true rfl) dX11_among_40 43 rfl rfl hen_j (kk_j kk_) (kx_n he_j)
      exact Sm_bn
    refine s_lor C dX11_among_43 44 rfl ?_
    refine Sm_sub [] rfl ?_
    exact wX11_among_d7_b44 C hret h0 hin N _ _ _ _
  · refine s_aload_n C rfl 0 rfl dX11_among_7 8 rfl ?_
    refine x_gr C 9 (RX11, TX11, 3) rfl 0 (Nat.le_of_ble_eq_true rfl) q2640 (Or.inl rfl) rfl 10 rfl dX11_among_8 11 rfl (fun x14 => ?_)
    refine s_aload_n C rfl 1 rfl dX11_among_11 12 rfl ?_
    refine x_wj [] 15 (fun kk_ => ?_) (fun x15 m11 k1 n1 => ?_)
    · refine x_csr (kd := 8) (fun hb_ hb0_ => ?_) ?_
      · exact x_callA (enc := en_j) (owner := "MasterTree$Filter") C 19 1 [vr_ v1] 8 (ctX9_among C.2.2.2.2.2.2.2.2.1 N m x14 v1) hb_ hb0_ rfl rfl q2772 q2688 q2701 q2702 q139 q2703 q2687 ⟨by decide +kernel, by decide +kernel, by decide +kernel⟩ (Nat.le_of_ble_eq_true rfl) (Nat.le_of_ble_eq_true rfl) rfl (Nat.le_of_ble_eq_true rfl) dX11_among_12 15 rfl rfl hen_j (kk_j kk_) (kx_n he_j)
      refine x_csr (kd := 9) (fun hb_ hb0_ => ?_) ?_
      · exact x_callA (enc := en_j) (owner := "MasterTree$Filter") C 13 1 [vr_ v1] 9 (ctX10_among C.2.2.2.2.2.2.2.2.1 N m x14 v1) hb_ hb0_ rfl rfl q2772 q2688 q2689 q2690 q140 q2691 q2687 ⟨by decide +kernel, by decide +kernel, by decide +kernel⟩ (Nat.le_of_ble_eq_true rfl) (Nat.le_of_ble_eq_true rfl) rfl (Nat.le_of_ble_eq_true rfl) dX11_among_12 15 rfl rfl hen_j (kk_j kk_) (kx_n he_j)
      refine x_csr (kd := 10) (fun hb_ hb0_ => ?_) ?_
      · exact x_callA (enc := en_j) (owner := "MasterTree$Filter") C 26 1 [vr_ v1] 10 (ctX11_among_d6 C.2.2.2.2.2.2.2.2.1 N m x14 v1) hb_ hb0_ rfl rfl q2772 q2688 q2769 q2770 q141 q2771 q2687 ⟨by decide +kernel, by decide +kernel, by decide +kernel⟩ (Nat.le_of_ble_eq_true rfl) (Nat.le_of_ble_eq_true rfl) rfl (Nat.le_of_ble_eq_true rfl) dX11_among_12 15 rfl rfl hen_j (kk_j kk_) (kx_n he_j)
      refine x_csr (kd := 11) (fun hb_ hb0_ => ?_) ?_
      · exact x_callA (enc := en_j) (owner := "MasterTree$Filter") C 26 1 [vr_ v1] 11 (ctX12_among_d6 C.2.2.2.2.2.2.2.2.1 N m x14 v1) hb_ hb0_ rfl rfl q2772 q2688 q2781 q2773 q142 q2774 q2687 ⟨by decide +kernel, by decide +kernel, by decide +kernel⟩ (Nat.le_of_ble_eq_true rfl) (Nat.le_of_ble_eq_true rfl) rfl (Nat.le_of_ble_eq_true rfl) dX11_among_12 15 rfl rfl hen_j (kk_j kk_) (kx_n he_j)
      exact Sm_bn
    refine s_aload_n C rfl 0 rfl dX11_among_15 16 rfl ?_
    refine x_gr C 9 (RX11, TX11, 3) rfl 1 (Nat.le_of_ble_eq_true rfl) q2641 (Or.inl rfl) rfl 10 rfl dX11_among_16 19 rfl (fun x20 => ?_)
    refine s_aload_n C rfl 1 rfl dX11_among_19 20 rfl ?_
    refine x_wj [vj_ x15] 23 (fun kk_ => ?_) (fun x21 m16 k1 n1 => ?_)
    · refine x_csr (kd := 8) (fun hb_ hb0_ => ?_) ?_
      · exact x_callA (enc := en_j) (owner := "MasterTree$Filter") C 19 1 [vr_ v1] 8 (ctX9_among C.2.2.2.2.2.2.2.2.1 N m11 x20 v1) hb_ hb0_ rfl rfl q2772 q2688 q2701 q2702 q139 q2703 q2687 ⟨by decide +kernel, by decide +kernel, by decide +kernel⟩ (Nat.le_of_ble_eq_true rfl) (Nat.le_of_ble_eq_true rfl) rfl (Nat.le_of_ble_eq_true rfl) dX11_among_20 23 rfl rfl hen_j (kk_j kk_) (kx_n he_j)
      refine x_csr (kd := 9) (fun hb_ hb0_ => ?_) ?_
      · exact x_callA (enc := en_j) (owner := "MasterTree$Filter") C 13 1 [vr_ v1] 9 (ctX10_among C.2.2.2.2.2.2.2.2.1 N m11 x20 v1) hb_ hb0_ rfl rfl q2772 q2688 q2689 q2690 q140 q2691 q2687 ⟨by decide +kernel, by decide +kernel, by decide +kernel⟩ (Nat.le_of_ble_eq_true rfl) (Nat.le_of_ble_eq_true rfl) rfl (Nat.le_of_ble_eq_true rfl) dX11_among_20 23 rfl rfl hen_j (kk_j kk_) (kx_n he_j)
      refine x_csr (kd := 10) (fun hb_ hb0_ => ?_) ?_
      · exact x_callA (enc := en_j) (owner := "MasterTree$Filter") C 26 1 [vr_ v1] 10 (ctX11_among_d6 C.2.2.2.2.2.2.2.2.1 N m11 x20 v1) hb_ hb0_ rfl rfl q2772 q2688 q2769 q2770 q141 q2771 q2687 ⟨by decide +kernel, by decide +kernel, by decide +kernel⟩ (Nat.le_of_ble_eq_true rfl) (Nat.le_of_ble_eq_true rfl) rfl (Nat.le_of_ble_eq_true rfl) dX11_among_20 23 rfl rfl hen_j (kk_j kk_) (kx_n he_j)
      refine x_csr (kd := 11) (fun hb_ hb0_ => ?_) ?_
      · exact x_callA (enc := en_j) (owner := "MasterTree$Filter") C 26 1 [vr_ v1] 11 (ctX12_among_d6 C.2.2.2.2.2.2.2.2.1 N m11 x20 v1) hb_ hb0_ rfl rfl q2772 q2688 q2781 q2773 q142 q2774 q2687 ⟨by decide +kernel, by decide +kernel, by decide +kernel⟩ (Nat.le_of_ble_eq_true rfl) (Nat.le_of_ble_eq_true rfl) rfl (Nat.le_of_ble_eq_true rfl) dX11_among_20 23 rfl rfl hen_j (kk_j kk_) (kx_n he_j)
      exact Sm_bn
    refine s_land C dX11_among_23 24 rfl ?_
    refine s_goto C (off := 20) 44 dX11_among_24 rfl ?_
    refine Sm_sub [] rfl ?_
    exact wX11_among_d7_b44 C hret h0 hin N _ _ _ _
theorem hdX11_among_d7 : ((⟨"MasterTree$Combined", "among", "(LMasterTree$Master;)J"⟩ : MethodName)).cls ≠ "java/lang/invoke/MethodHandle" ∧ ((⟨"MasterTree$Combined", "among", "(LMasterTree$Master;)J"⟩ : MethodName)).cls ≠ "java/lang/invoke/VarHandle" ∧ (parseMethodDescriptor ((⟨"MasterTree$Combined", "among", "(LMasterTree$Master;)J"⟩ : MethodName)).desc).map (fun d => d.parameters.length) = some 1 := ⟨by decide +kernel, by decide +kernel, by decide +kernel⟩
theorem ctX11_among_d7 {l : Launch} {g : GG} (hst : l.stackTraces = false) (N : Nat) (m : Mm) (v0 : Option Nat) (v1 : Option Nat) : ∀ v m' k n, fX11_among_d7 (gE_ g) N m v0 v1 = some (v, m', k, n) → Ct_ l g (⟨"MasterTree$Combined", "among", "(LMasterTree$Master;)J"⟩ : MethodName) (ws_ (⟨"MasterTree$Combined", "among", "(LMasterTree$Master;)J"⟩ : MethodName) cX11_among 2 (Option.some Jvm.ClassFile.FieldType.long)) 27 [vr_ v0, vr_ v1] m (en_j v) m' k n :=
  Ct_of (by decide +kernel) rfl hst (Nat.le_of_ble_eq_true rfl) rfl (fun E C hret h0 hin => wX11_among_d7 C hret h0 hin N m v0 v1 0 0)
theorem wX12_among_d7 {l : Launch} {g : GG} {E : Me_} (C : Cx_ l g E "MasterTree$Not" cX12_among 2 27) (hret : (eT_ E).sig.returnType = (Option.some Jvm.ClassFile.FieldType.long)) (h0 : ∀ x ∈ (eC_ E).exceptionTable.toList, False) (hin : (eT_ E).name = "among") (N : Nat) : ∀ (m : Mm) (v0 : Option Nat) (v1 : Option Nat) (k n : Nat), Sm_ l g E 2 en_j (fX12_among_d7 (gE_ g) N m v0 v1) k n 0 [(0, vr_ v0), (1, vr_ v1)] [] m := by
  intro m v0 v1 k n
  unfold fX12_among_d7
  refine s_aload_n C rfl 1 rfl dX12_among_0 1 rfl ?_
  refine x_ck (fun hb_ hb0_ => ?_)
  refine x_callV (enc := en_j) C 12 0 [] 2 (ctX2_liveOnes C.2.2.2.2.2.2.2.2.1 N m v1) hb_ hb0_ rfl rfl q2775 q2776 q2777 q85 q2778 hdX2_liveOnes (Nat.le_of_ble_eq_true rfl) (Nat.le_of_ble_eq_true rfl) rfl (Nat.le_of_ble_eq_true rfl) dX12_among_1 4 rfl rfl hen_j (kk_j (fun x1 m1 k1 n1 => ?_)) (kx_n he_j)
  refine s_aload_n C rfl 0 rfl dX12_among_4 5 rfl ?_
  refine x_gr C 10 (RX12, TX12, 1) rfl 0 (Nat.le_of_ble_eq_true rfl) q2666 (Or.inl rfl) rfl 11 rfl dX12_among_5 8 rfl (fun x2 => ?_)
  refine s_aload_n C rfl 1 rfl dX12_among_8 9 rfl ?_
  refine x_wj [vj_ x1] 12 (fun kk_ => ?_) (fun x3 m2 k1 n1 => ?_)
  · refine x_csr (kd := 8) (fun hb_ hb0_ => ?_) ?_
    · exact x_callA (enc := en_j) (owner := "MasterTree$Filter") C 19 1 [vr_ v1] 8 (ctX9_among C.2.2.2.2.2.2.2.2.1 N m1 x2 v1) hb_ hb0_ rfl rfl q2779 q2688 q2701 q2702 q139 q2703 q2687 ⟨by decide +kernel, by decide +kernel, by decide +kernel⟩ (Nat.le_of_ble_eq_true rfl) (Nat.le_of_ble_eq_true rfl) rfl (Nat.le_of_ble_eq_true rfl) dX12_among_9 12 rfl rfl hen_j (kk_j kk_) (kx_n he_j)
    refine x_csr (kd := 9) (fun hb_ hb0_ => ?_) ?_
    · exact x_callA (enc := en_j) (owner := "MasterTree$Filter") C 13 1 [vr_ v1] 9 (ctX10_among C.2.2.2.2.2.2.2.2.1 N m1 x2 v1) hb_ hb0_ rfl rfl q2779 q2688 q2689 q2690 q140 q2691 q2687 ⟨by decide +kernel, by decide +kernel, by decide +kernel⟩ (Nat.le_of_ble_eq_true rfl) (Nat.le_of_ble_eq_true rfl) rfl (Nat.le_of_ble_eq_true rfl) dX12_among_9 12 rfl rfl hen_j (kk_j kk_) (kx_n he_j)
    refine x_csr (kd := 10) (fun hb_ hb0_ => ?_) ?_
    · exact x_callA (enc := en_j) (owner := "MasterTree$Filter") C 26 1 [vr_ v1] 10 (ctX11_among_d6 C.2.2.2.2.2.2.2.2.1 N m1 x2 v1) hb_ hb0_ rfl rfl q2779 q2688 q2769 q2770 q141 q2771 q2687 ⟨by decide +kernel, by decide +kernel, by decide +kernel⟩ (Nat.le_of_ble_eq_true rfl) (Nat.le_of_ble_eq_true rfl) rfl (Nat.le_of_ble_eq_true rfl) dX12_among_9 12 rfl rfl hen_j (kk_j kk_) (kx_n he_j)
    refine x_csr (kd := 11) (fun hb_ hb0_ => ?_) ?_
    · exact x_callA (enc := en_j) (owner := "MasterTree$Filter") C 26 1 [vr_ v1] 11 (ctX12_among_d6 C.2.2.2.2.2.2.2.2.1 N m1 x2 v1) hb_ hb0_ rfl rfl q2779 q2688 q2781 q2773 q142 q2774 q2687 ⟨by decide +kernel, by decide +kernel, by decide +kernel⟩ (Nat.le_of_ble_eq_true rfl) (Nat.le_of_ble_eq_true rfl) rfl (Nat.le_of_ble_eq_true rfl) dX12_among_9 12 rfl rfl hen_j (kk_j kk_) (kx_n he_j)
    exact Sm_bn
  refine s_ldc2 C (-1) q2780 dX12_among_12 15 rfl ?_
  refine s_lxor C dX12_among_15 16 rfl ?_
  refine s_land C dX12_among_16 17 rfl ?_
  exact x_lret C hret rfl dX12_among_17
theorem hdX12_among_d7 : ((⟨"MasterTree$Not", "among", "(LMasterTree$Master;)J"⟩ : MethodName)).cls ≠ "java/lang/invoke/MethodHandle" ∧ ((⟨"MasterTree$Not", "among", "(LMasterTree$Master;)J"⟩ : MethodName)).cls ≠ "java/lang/invoke/VarHandle" ∧ (parseMethodDescriptor ((⟨"MasterTree$Not", "among", "(LMasterTree$Master;)J"⟩ : MethodName)).desc).map (fun d => d.parameters.length) = some 1 := ⟨by decide +kernel, by decide +kernel, by decide +kernel⟩
theorem ctX12_among_d7 {l : Launch} {g : GG} (hst : l.stackTraces = false) (N : Nat) (m : Mm) (v0 : Option Nat) (v1 : Option Nat) : ∀ v m' k n, fX12_among_d7 (gE_ g) N m v0 v1 = some (v, m', k, n) → Ct_ l g (⟨"MasterTree$Not", "among", "(LMasterTree$Master;)J"⟩ : MethodName) (ws_ (⟨"MasterTree$Not", "among", "(LMasterTree$Master;)J"⟩ : MethodName) cX12_among 2 (Option.some Jvm.ClassFile.FieldType.long)) 27 [vr_ v0, vr_ v1] m (en_j v) m' k n :=
  Ct_of (by decide +kernel) rfl hst (Nat.le_of_ble_eq_true rfl) rfl (fun E C hret h0 hin => wX12_among_d7 C hret h0 hin N m v0 v1 0 0)
theorem wX11_among_d8_b44 {l : Launch} {g : GG} {E : Me_} (C : Cx_ l g E "MasterTree$Combined" cX11_among 2 28) (hret : (eT_ E).sig.returnType = (Option.some Jvm.ClassFile.FieldType.long)) (h0 : ∀ x ∈ (eC_ E).exceptionTable.toList, False) (hin : (eT_ E).name = "among") (N : Nat) : ∀ (m : Mm) (s0 : Int64) (k n : Nat), Sm_ l g E 2 en_j (fX11_among_d8_b44 (gE_ g) N m s0) k n 44 [] [vj_ s0] m := by
  intro m s0 k n
  unfold fX11_among_d8_b44
  exact x_lret C hret rfl dX11_among_44
theorem wX11_among_d8 {l : Launch} {g : GG} {E : Me_} (C : Cx_ l g E "MasterTree$Combined" cX11_among 2 28) (hret : (eT_ E).sig.returnType = (Option.some Jvm.ClassFile.FieldType.long)) (h0 : ∀ x ∈ (eC_ E).exceptionTable.toList, False) (hin : (eT_ E).name = "among") (N : Nat) : ∀ (m : Mm) (v0 : Option Nat) (v1 : Option Nat) (k n : Nat), Sm_ l g E 2 en_j (fX11_among_d8 (gE_ g) N m v0 v1) k n 0 [(0, vr_ v0), (1, vr_ v1)] [] m := by
  intro m v0 v1 k n
  unfold fX11_among_d8
  refine s_aload_n C rfl 0 rfl dX11_among_0 1 rfl ?_
  refine x_gi C 9 (RX11, TX11, 3) rfl 2 (Nat.le_of_ble_eq_true rfl) q2642 (Or.inl rfl) rfl 10 rfl dX11_among_1 4 rfl (fun x1 => ?_)
  refine s_if_eq C dX11_among_4 27 rfl 7 rfl (fun c_ => ?_) (fun c_ => ?_)
  · refine s_aload_n C rfl 0 rfl dX11_among_27 28 rfl ?_
    refine x_gr C 9 (RX11, TX11, 3) rfl 0 (Nat.le_of_ble_eq_true rfl) q2640 (Or.inl rfl) rfl 10 rfl dX11_among_28 31 rfl (fun x2 => ?_)
    refine s_aload_n C rfl 1 rfl dX11_among_31 32 rfl ?_
    refine x_wj [] 35 (fun kk_ => ?_) (fun x3 m1 k1 n1 => ?_)
    · refine x_csr (kd := 8) (fun hb_ hb0_ => ?_) ?_
      · exact x_callA (enc := en_j) (owner := "MasterTree$Filter") C 19 1 [vr_ v1] 8 (ctX9_among C.2.2.2.2.2.2.2.2.1 N m x2 v1) hb_ hb0_ rfl rfl q2772 q2688 q2701 q2702 q139 q2703 q2687 ⟨by decide +kernel, by decide +kernel, by decide +kernel⟩ (Nat.le_of_ble_eq_true rfl) (Nat.le_of_ble_eq_true rfl) rfl (Nat.le_of_ble_eq_true rfl) dX11_among_32 35 rfl rfl hen_j (kk_j kk_) (kx_n he_j)
      refine x_csr (kd := 9) (fun hb_ hb0_ => ?_) ?_
      · exact x_callA (enc := en_j) (owner := "MasterTree$Filter") C 13 1 [vr_ v1] 9 (ctX10_among C.2.2.2.2.2.2.2.2.1 N m x2 v1) hb_ hb0_ rfl rfl q2772 q2688 q2689 q2690 q140 q2691 q2687 ⟨by decide +kernel, by decide +kernel, by decide +kernel⟩ (Nat.le_of_ble_eq_true rfl) (Nat.le_of_ble_eq_true rfl) rfl (Nat.le_of_ble_eq_true rfl) dX11_among_32 35 rfl rfl hen_j (kk_j kk_) (kx_n he_j)
      refine x_csr (kd := 10) (fun hb_ hb0_ => ?_) ?_
      · exact x_callA (enc := en_j) (owner := "MasterTree$Filter") C 27 1 [vr_ v1] 10 (ctX11_among_d7 C.2.2.2.2.2.2.2.2.1 N m x2 v1) hb_ hb0_ rfl rfl q2772 q2688 q2769 q2770 q141 q2771 q2687 ⟨by decide +kernel, by decide +kernel, by decide +kernel⟩ (Nat.le_of_ble_eq_true rfl) (Nat.le_of_ble_eq_true rfl) rfl (Nat.le_of_ble_eq_true rfl) dX11_among_32 35 rfl rfl hen_j (kk_j kk_) (kx_n he_j)
      refine x_csr (kd := 11) (fun hb_ hb0_ => ?_) ?_
      · exact x_callA (enc := en_j) (owner := "MasterTree$Filter") C 27 1 [vr_ v1] 11 (ctX12_among_d7 C.2.2.2.2.2.2.2.2.1 N m x2 v1) hb_ hb0_ rfl rfl q2772 q2688 q2781 q2773 q142 q2774 q2687 ⟨by decide +kernel, by decide +kernel, by decide +kernel⟩ (Nat.le_of_ble_eq_true rfl) (Nat.le_of_ble_eq_true rfl) rfl (Nat.le_of_ble_eq_true rfl) dX11_among_32 35 rfl rfl hen_j (kk_j kk_) (kx_n he_j)
      exact Sm_bn
    refine s_aload_n C rfl 0 rfl dX11_among_35 36 rfl ?_
    refine x_gr C 9 (RX11, TX11, 3) rfl 1 (Nat.le_of_ble_eq_true rfl) q2641 (Or.inl rfl) rfl 10 rfl dX11_among_36 39 rfl (fun x8 => ?_)
    refine s_aload_n C rfl 1 rfl dX11_among_39 40 rfl ?_
    refine x_wj [vj_ x3] 43 (fun kk_ => ?_) (fun x9 m6 k1 n1 => ?_)
    · refine x_csr (kd := 8) (fun hb_ hb0_ => ?_) ?_
      · exact x_callA (enc := en_j) (owner := "MasterTree$Filter") C 19 1 [vr_ v1] 8 (ctX9_among C.2.2.2.2.2.2.2.2.1 N m1 x8 v1) hb_ hb0_ rfl rfl q2772 q2688 q2701 q2702 q139 q2703 q2687 ⟨by decide +kernel, by decide +kernel, by decide +kernel⟩ (Nat.le_of_ble_eq_true rfl) (Nat.le_of_ble_eq_true rfl) rfl (Nat.le_of_ble_eq_true rfl) dX11_among_40 43 rfl rfl hen_j (kk_j kk_) (kx_n he_j)
      refine x_csr (kd := 9) (fun hb_ hb0_ => ?_) ?_
      · exact x_callA (enc := en_j) (owner := "MasterTree$Filter") C 13 1 [vr_ v1] 9 (ctX10_among C.2.2.2.2.2.2.2.2.1 N m1 x8 v1) hb_ hb0_ rfl rfl q2772 q2688 q2689 q2690 q140 q2691 q2687 ⟨by decide +kernel, by decide +kernel, by decide +kernel⟩ (Nat.le_of_ble_eq_true rfl) (Nat.le_of_ble_eq_true rfl) rfl (Nat.le_of_ble_eq_true rfl) dX11_among_40 43 rfl rfl hen_j (kk_j kk_) (kx_n he_j)
      refine x_csr (kd := 10) (fun hb_ hb0_ => ?_) ?_
      · exact x_callA (enc := en_j) (owner := "MasterTree$Filter") C 27 1 [vr_ v1] 10 (ctX11_among_d7 C.2.2.2.2.2.2.2.2.1 N m1 x8 v1) hb_ hb0_ rfl rfl q2772 q2688 q2769 q2770 q141 q2771 q2687 ⟨by decide +kernel, by decide +kernel, by decide +kernel⟩ (Nat.le_of_ble_eq_true rfl) (Nat.le_of_ble_eq_true rfl) rfl (Nat.le_of_ble_eq_true rfl) dX11_among_40 43 rfl rfl hen_j (kk_j kk_) (kx_n he_j)
      refine x_csr (kd := 11) (fun hb_ hb0_ => ?_) ?_
      · exact x_callA (enc := en_j) (owner := "MasterTree$Filter") C 27 1 [vr_ v1] 11 (ctX12_among_d7 C.2.2.2.2.2.2.2.2.1 N m1 x8 v1) hb_ hb0_ rfl rfl q2772 q2688 q2781 q2773 q142 q2774 q2687 ⟨by decide +kernel, by decide +kernel, by decide +kernel⟩ (Nat.le_of_ble_eq_true rfl) (Nat.le_of_ble_eq_true rfl) rfl (Nat.le_of_ble_eq_true rfl) dX11_among_40 43 rfl rfl hen_j (kk_j kk_) (kx_n he_j)
      exact Sm_bn
    refine s_lor C dX11_among_43 44 rfl ?_
    refine Sm_sub [] rfl ?_
    exact wX11_among_d8_b44 C hret h0 hin N _ _ _ _
  · refine s_aload_n C rfl 0 rfl dX11_among_7 8 rfl ?_
    refine x_gr C 9 (RX11, TX11, 3) rfl 0 (Nat.le_of_ble_eq_true rfl) q2640 (Or.inl rfl) rfl 10 rfl dX11_among_8 11 rfl (fun x14 => ?_)
    refine s_aload_n C rfl 1 rfl dX11_among_11 12 rfl ?_
    refine x_wj [] 15 (fun kk_ => ?_) (fun x15 m11 k1 n1 => ?_)
    · refine x_csr (kd := 8) (fun hb_ hb0_ => ?_) ?_
      · exact x_callA (enc := en_j) (owner := "MasterTree$Filter") C 19 1 [vr_ v1] 8 (ctX9_among C.2.2.2.2.2.2.2.2.1 N m x14 v1) hb_ hb0_ rfl rfl q2772 q2688 q2701 q2702 q139 q2703 q2687 ⟨by decide +kernel, by decide +kernel, by decide +kernel⟩ (Nat.le_of_ble_eq_true rfl) (Nat.le_of_ble_eq_true rfl) rfl (Nat.le_of_ble_eq_true rfl) dX11_among_12 15 rfl rfl hen_j (kk_j kk_) (kx_n he_j)
      refine x_csr (kd := 9) (fun hb_ hb0_ => ?_) ?_
      · exact x_callA (enc := en_j) (owner := "MasterTree$Filter") C 13 1 [vr_ v1] 9 (ctX10_among C.2.2.2.2.2.2.2.2.1 N m x14 v1) hb_ hb0_ rfl rfl q2772 q2688 q2689 q2690 q140 q2691 q2687 ⟨by decide +kernel, by decide +kernel, by decide +kernel⟩ (Nat.le_of_ble_eq_true rfl) (Nat.le_of_ble_eq_true rfl) rfl (Nat.le_of_ble_eq_true rfl) dX11_among_12 15 rfl rfl hen_j (kk_j kk_) (kx_n he_j)
      refine x_csr (kd := 10) (fun hb_ hb0_ => ?_) ?_
      · exact x_callA (enc := en_j) (owner := "MasterTree$Filter") C 27 1 [vr_ v1] 10 (ctX11_among_d7 C.2.2.2.2.2.2.2.2.1 N m x14 v1) hb_ hb0_ rfl rfl q2772 q2688 q2769 q2770 q141 q2771 q2687 ⟨by decide +kernel, by decide +kernel, by decide +kernel⟩ (Nat.le_of_ble_eq_true rfl) (Nat.le_of_ble_eq_true rfl) rfl (Nat.le_of_ble_eq_true rfl) dX11_among_12 15 rfl rfl hen_j (kk_j kk_) (kx_n he_j)
      refine x_csr (kd := 11) (fun hb_ hb0_ => ?_) ?_
      · exact x_callA (enc := en_j) (owner := "MasterTree$Filter") C 27 1 [vr_ v1] 11 (ctX12_among_d7 C.2.2.2.2.2.2.2.2.1 N m x14 v1) hb_ hb0_ rfl rfl q2772 q2688 q2781 q2773 q142 q2774 q2687 ⟨by decide +kernel, by decide +kernel, by decide +kernel⟩ (Nat.le_of_ble_eq_true rfl) (Nat.le_of_ble_eq_true rfl) rfl (Nat.le_of_ble_eq_true rfl) dX11_among_12 15 rfl rfl hen_j (kk_j kk_) (kx_n he_j)
      exact Sm_bn
    refine s_aload_n C rfl 0 rfl dX11_among_15 16 rfl ?_
    refine x_gr C 9 (RX11, TX11, 3) rfl 1 (Nat.le_of_ble_eq_true rfl) q2641 (Or.inl rfl) rfl 10 rfl dX11_among_16 19 rfl (fun x20 => ?_)
    refine s_aload_n C rfl 1 rfl dX11_among_19 20 rfl ?_
    refine x_wj [vj_ x15] 23 (fun kk_ => ?_) (fun x21 m16 k1 n1 => ?_)
    · refine x_csr (kd := 8) (fun hb_ hb0_ => ?_) ?_
      · exact x_callA (enc := en_j) (owner := "MasterTree$Filter") C 19 1 [vr_ v1] 8 (ctX9_among C.2.2.2.2.2.2.2.2.1 N m11 x20 v1) hb_ hb0_ rfl rfl q2772 q2688 q2701 q2702 q139 q2703 q2687 ⟨by decide +kernel, by decide +kernel, by decide +kernel⟩ (Nat.le_of_ble_eq_true rfl) (Nat.le_of_ble_eq_true rfl) rfl (Nat.le_of_ble_eq_true rfl) dX11_among_20 23 rfl rfl hen_j (kk_j kk_) (kx_n he_j)
      refine x_csr (kd := 9) (fun hb_ hb0_ => ?_) ?_
      · exact x_callA (enc := en_j) (owner := "MasterTree$Filter") C 13 1 [vr_ v1] 9 (ctX10_among C.2.2.2.2.2.2.2.2.1 N m11 x20 v1) hb_ hb0_ rfl rfl q2772 q2688 q2689 q2690 q140 q2691 q2687 ⟨by decide +kernel, by decide +kernel, by decide +kernel⟩ (Nat.le_of_ble_eq_true rfl) (Nat.le_of_ble_eq_true rfl) rfl (Nat.le_of_ble_eq_true rfl) dX11_among_20 23 rfl rfl hen_j (kk_j kk_) (kx_n he_j)
      refine x_csr (kd := 10) (fun hb_ hb0_ => ?_) ?_
      · exact x_callA (enc := en_j) (owner := "MasterTree$Filter") C 27 1 [vr_ v1] 10 (ctX11_among_d7 C.2.2.2.2.2.2.2.2.1 N m11 x20 v1) hb_ hb0_ rfl rfl q2772 q2688 q2769 q2770 q141 q2771 q2687 ⟨by decide +kernel, by decide +kernel, by decide +kernel⟩ (Nat.le_of_ble_eq_true rfl) (Nat.le_of_ble_eq_true rfl) rfl (Nat.le_of_ble_eq_true rfl) dX11_among_20 23 rfl rfl hen_j (kk_j kk_) (kx_n he_j)
      refine x_csr (kd := 11) (fun hb_ hb0_ => ?_) ?_
      · exact x_callA (enc := en_j) (owner := "MasterTree$Filter") C 27 1 [vr_ v1] 11 (ctX12_among_d7 C.2.2.2.2.2.2.2.2.1 N m11 x20 v1) hb_ hb0_ rfl rfl q2772 q2688 q2781 q2773 q142 q2774 q2687 ⟨by decide +kernel, by decide +kernel, by decide +kernel⟩ (Nat.le_of_ble_eq_true rfl) (Nat.le_of_ble_eq_true rfl) rfl (Nat.le_of_ble_eq_true rfl) dX11_among_20 23 rfl rfl hen_j (kk_j kk_) (kx_n he_j)
      exact Sm_bn
    refine s_land C dX11_among_23 24 rfl ?_
    refine s_goto C (off := 20) 44 dX11_among_24 rfl ?_
    refine Sm_sub [] rfl ?_
    exact wX11_among_d8_b44 C hret h0 hin N _ _ _ _
theorem hdX11_among_d8 : ((⟨"MasterTree$Combined", "among", "(LMasterTree$Master;)J"⟩ : MethodName)).cls ≠ "java/lang/invoke/MethodHandle" ∧ ((⟨"MasterTree$Combined", "among", "(LMasterTree$Master;)J"⟩ : MethodName)).cls ≠ "java/lang/invoke/VarHandle" ∧ (parseMethodDescriptor ((⟨"MasterTree$Combined", "among", "(LMasterTree$Master;)J"⟩ : MethodName)).desc).map (fun d => d.parameters.length) = some 1 := ⟨by decide +kernel, by decide +kernel, by decide +kernel⟩
theorem ctX11_among_d8 {l : Launch} {g : GG} (hst : l.stackTraces = false) (N : Nat) (m : Mm) (v0 : Option Nat) (v1 : Option Nat) : ∀ v m' k n, fX11_among_d8 (gE_ g) N m v0 v1 = some (v, m', k, n) → Ct_ l g (⟨"MasterTree$Combined", "among", "(LMasterTree$Master;)J"⟩ : MethodName) (ws_ (⟨"MasterTree$Combined", "among", "(LMasterTree$Master;)J"⟩ : MethodName) cX11_among 2 (Option.some Jvm.ClassFile.FieldType.long)) 28 [vr_ v0, vr_ v1] m (en_j v) m' k n :=
  Ct_of (by decide +kernel) rfl hst (Nat.le_of_ble_eq_true rfl) rfl (fun E C hret h0 hin => wX11_among_d8 C hret h0 hin N m v0 v1 0 0)
theorem wX12_among_d8 {l : Launch} {g : GG} {E : Me_} (C : Cx_ l g E "MasterTree$Not" cX12_among 2 28) (hret : (eT_ E).sig.returnType = (Option.some Jvm.ClassFile.FieldType.long)) (h0 : ∀ x ∈ (eC_ E).exceptionTable.toList, False) (hin : (eT_ E).name = "among") (N : Nat) : ∀ (m : Mm) (v0 : Option Nat) (v1 : Option Nat) (k n : Nat), Sm_ l g E 2 en_j (fX12_among_d8 (gE_ g) N m v0 v1) k n 0 [(0, vr_ v0), (1, vr_ v1)] [] m := by
  intro m v0 v1 k n
  unfold fX12_among_d8
  refine s_aload_n C rfl 1 rfl dX12_among_0 1 rfl ?_
  refine x_ck (fun hb_ hb0_ => ?_)
  refine x_callV (enc := en_j) C 12 0 [] 2 (ctX2_liveOnes C.2.2.2.2.2.2.2.2.1 N m v1) hb_ hb0_ rfl rfl q2775 q2776 q2777 q85 q2778 hdX2_liveOnes (Nat.le_of_ble_eq_true rfl) (Nat.le_of_ble_eq_true rfl) rfl (Nat.le_of_ble_eq_true rfl) dX12_among_1 4 rfl rfl hen_j (kk_j (fun x1 m1 k1 n1 => ?_)) (kx_n he_j)
  refine s_aload_n C rfl 0 rfl dX12_among_4 5 rfl ?_
  refine x_gr C 10 (RX12, TX12, 1) rfl 0 (Nat.le_of_ble_eq_true rfl) q2666 (Or.inl rfl) rfl 11 rfl dX12_among_5 8 rfl (fun x2 => ?_)
  refine s_aload_n C rfl 1 rfl dX12_among_8 9 rfl ?_
  refine x_wj [vj_ x1] 12 (fun kk_ => ?_) (fun x3 m2 k1 n1 => ?_)
  · refine x_csr (kd := 8) (fun hb_ hb0_ => ?_) ?_
    · exact x_callA (enc := en_j) (owner := "MasterTree$Filter") C 19 1 [vr_ v1] 8 (ctX9_among C.2.2.2.2.2.2.2.2.1 N m1 x2 v1) hb_ hb0_ rfl rfl q2779 q2688 q2701 q2702 q139 q2703 q2687 ⟨by decide +kernel, by decide +kernel, by decide +kernel⟩ (Nat.le_of_ble_eq_true rfl) (Nat.le_of_ble_eq_true rfl) rfl (Nat.le_of_ble_eq_true rfl) dX12_among_9 12 rfl rfl hen_j (kk_j kk_) (kx_n he_j)
    refine x_csr (kd := 9) (fun hb_ hb0_ => ?_) ?_
    · exact x_callA (enc := en_j) (owner := "MasterTree$Filter") C 13 1 [vr_ v1] 9 (ctX10_among C.2.2.2.2.2.2.2.2.1 N m1 x2 v1) hb_ hb0_ rfl rfl q2779 q2688 q2689 q2690 q140 q2691 q2687 ⟨by decide +kernel, by decide +kernel, by decide +kernel⟩ (Nat.le_of_ble_eq_true rfl) (Nat.le_of_ble_eq_true rfl) rfl (Nat.le_of_ble_eq_true rfl) dX12_among_9 12 rfl rfl hen_j (kk_j kk_) (kx_n he_j)
    refine x_csr (kd := 10) (fun hb_ hb0_ => ?_) ?_
    · exact x_callA (enc := en_j) (owner := "MasterTree$Filter") C 27 1 [vr_ v1] 10 (ctX11_among_d7 C.2.2.2.2.2.2.2.2.1 N m1 x2 v1) hb_ hb0_ rfl rfl q2779 q2688 q2769 q2770 q141 q2771 q2687 ⟨by decide +kernel, by decide +kernel, by decide +kernel⟩ (Nat.le_of_ble_eq_true rfl) (Nat.le_of_ble_eq_true rfl) rfl (Nat.le_of_ble_eq_true rfl) dX12_among_9 12 rfl rfl hen_j (kk_j kk_) (kx_n he_j)
    refine x_csr (kd := 11) (fun hb_ hb0_ => ?_) ?_
    · exact x_callA (enc := en_j) (owner := "MasterTree$Filter") C 27 1 [vr_ v1] 11 (ctX12_among_d7 C.2.2.2.2.2.2.2.2.1 N m1 x2 v1) hb_ hb0_ rfl rfl q2779 q2688 q2781 q2773 q142 q2774 q2687 ⟨by decide +kernel, by decide +kernel, by decide +kernel⟩ (Nat.le_of_ble_eq_true rfl) (Nat.le_of_ble_eq_true rfl) rfl (Nat.le_of_ble_eq_true rfl) dX12_among_9 12 rfl rfl hen_j (kk_j kk_) (kx_n he_j)
    exact Sm_bn
  refine s_ldc2 C (-1) q2780 dX12_among_12 15 rfl ?_
  refine s_lxor C dX12_among_15 16 rfl ?_
  refine s_land C dX12_among_16 17 rfl ?_
  exact x_lret C hret rfl dX12_among_17
theorem hdX12_among_d8 : ((⟨"MasterTree$Not", "among", "(LMasterTree$Master;)J"⟩ : MethodName)).cls ≠ "java/lang/invoke/MethodHandle" ∧ ((⟨"MasterTree$Not", "among", "(LMasterTree$Master;)J"⟩ : MethodName)).cls ≠ "java/lang/invoke/VarHandle" ∧ (parseMethodDescriptor ((⟨"MasterTree$Not", "among", "(LMasterTree$Master;)J"⟩ : MethodName)).desc).map (fun d => d.parameters.length) = some 1 := ⟨by decide +kernel, by decide +kernel, by decide +kernel⟩
theorem ctX12_among_d8 {l : Launch} {g : GG} (hst : l.stackTraces = false) (N : Nat) (m : Mm) (v0 : Option Nat) (v1 : Option Nat) : ∀ v m' k n, fX12_among_d8 (gE_ g) N m v0 v1 = some (v, m', k, n) → Ct_ l g (⟨"MasterTree$Not", "among", "(LMasterTree$Master;)J"⟩ : MethodName) (ws_ (⟨"MasterTree$Not", "among", "(LMasterTree$Master;)J"⟩ : MethodName) cX12_among 2 (Option.some Jvm.ClassFile.FieldType.long)) 28 [vr_ v0, vr_ v1] m (en_j v) m' k n :=
  Ct_of (by decide +kernel) rfl hst (Nat.le_of_ble_eq_true rfl) rfl (fun E C hret h0 hin => wX12_among_d8 C hret h0 hin N m v0 v1 0 0)
theorem wX11_among_d9_b44 {l : Launch} {g : GG} {E : Me_} (C : Cx_ l g E "MasterTree$Combined" cX11_among 2 29) (hret : (eT_ E).sig.returnType = (Option.some Jvm.ClassFile.FieldType.long)) (h0 : ∀ x ∈ (eC_ E).exceptionTable.toList, False) (hin : (eT_ E).name = "among") (N : Nat) : ∀ (m : Mm) (s0 : Int64) (k n : Nat), Sm_ l g E 2 en_j (fX11_among_d9_b44 (gE_ g) N m s0) k n 44 [] [vj_ s0] m := by
  intro m s0 k n
  unfold fX11_among_d9_b44
  exact x_lret C hret rfl dX11_among_44
theorem wX11_among_d9 {l : Launch} {g : GG} {E : Me_} (C : Cx_ l g E "MasterTree$Combined" cX11_among 2 29) (hret : (eT_ E).sig.returnType = (Option.some Jvm.ClassFile.FieldType.long)) (h0 : ∀ x ∈ (eC_ E).exceptionTable.toList, False) (hin : (eT_ E).name = "among") (N : Nat) : ∀ (m : Mm) (v0 : Option Nat) (v1 : Option Nat) (k n : Nat), Sm_ l g E 2 en_j (fX11_among_d9 (gE_ g) N m v0 v1) k n 0 [(0, vr_ v0), (1, vr_ v1)] [] m := by
  intro m v0 v1 k n
  unfold fX11_among_d9
  refine s_aload_n C rfl 0 rfl dX11_among_0 1 rfl ?_
  refine x_gi C 9 (RX11, TX11, 3) rfl 2 (Nat.le_of_ble_eq_true rfl) q2642 (Or.inl rfl) rfl 10 rfl dX11_among_1 4 rfl (fun x1 => ?_)
  refine s_if_eq C dX11_among_4 27 rfl 7 rfl (fun c_ => ?_) (fun c_ => ?_)
  · refine s_aload_n C rfl 0 rfl dX11_among_27 28 rfl ?_
    refine x_gr C 9 (RX11, TX11, 3) rfl 0 (Nat.le_of_ble_eq_true rfl) q2640 (Or.inl rfl) rfl 10 rfl dX11_among_28 31 rfl (fun x2 => ?_)
    refine s_aload_n C rfl 1 rfl dX11_among_31 32 rfl ?_
    refine x_wj [] 35 (fun kk_ => ?_) (fun x3 m1 k1 n1 => ?_)
    · refine x_csr (kd := 8) (fun hb_ hb0_ => ?_) ?_
      · exact x_callA (enc := en_j) (owner := "MasterTree$Filter") C 19 1 [vr_ v1] 8 (ctX9_among C.2.2.2.2.2.2.2.2.1 N m x2 v1) hb_ hb0_ rfl rfl q2772 q2688 q2701 q2702 q139 q2703 q2687 ⟨by decide +kernel, by decide +kernel, by decide +kernel⟩ (Nat.le_of_ble_eq_true rfl) (Nat.le_of_ble_eq_true rfl) rfl (Nat.le_of_ble_eq_true rfl) dX11_among_32 35 rfl rfl hen_j (kk_j kk_) (kx_n he_j)
      refine x_csr (kd := 9) (fun hb_ hb0_ => ?_) ?_
      · exact x_callA (enc := en_j) (owner := "MasterTree$Filter") C 13 1 [vr_ v1] 9 (ctX10_among C.2.2.2.2.2.2.2.2.1 N m x2 v1) hb_ hb0_ rfl rfl q2772 q2688 q2689 q2690 q140 q2691 q2687 ⟨by decide +kernel, by decide +kernel, by decide +kernel⟩ (Nat.le_of_ble_eq_true rfl) (Nat.le_of_ble_eq_true rfl) rfl (Nat.le_of_ble_eq_true rfl) dX11_among_32 35 rfl rfl hen_j (kk_j kk_) (kx_n he_j)
      refine x_csr (kd := 10) (fun hb_ hb0_ => ?_) ?_
      · exact x_callA (enc := en_j) (owner := "MasterTree$Filter") C 28 1 [vr_ v1] 10 (ctX11_among_d8 C.2.2.2.2.2.2.2.2.1 N m x2 v1) hb_ hb0_ rfl rfl q2772 q2688 q2769 q2770 q141 q2771 q2687 ⟨by decide +kernel, by decide +kernel, by decide +kernel⟩ (Nat.le_of_ble_eq_true rfl) (Nat.le_of_ble_eq_true rfl) rfl (Nat.le_of_ble_eq_true rfl) dX11_among_32 35 rfl rfl hen_j (kk_j kk_) (kx_n he_j)
      refine x_csr (kd := 11) (fun hb_ hb0_ => ?_) ?_
      · exact x_callA (enc := en_j) (owner := "MasterTree$Filter") C 28 1 [vr_ v1] 11 (ctX12_among_d8 C.2.2.2.2.2.2.2.2.1 N m x2 v1) hb_ hb0_ rfl rfl q2772 q2688 q2781 q2773 q142 q2774 q2687 ⟨by decide +kernel, by decide +kernel, by decide +kernel⟩ (Nat.le_of_ble_eq_true rfl) (Nat.le_of_ble_eq_true rfl) rfl (Nat.le_of_ble_eq_true rfl) dX11_among_32 35 rfl rfl hen_j (kk_j kk_) (kx_n he_j)
      exact Sm_bn
    refine s_aload_n C rfl 0 rfl dX11_among_35 36 rfl ?_
    refine x_gr C 9 (RX11, TX11, 3) rfl 1 (Nat.le_of_ble_eq_true rfl) q2641 (Or.inl rfl) rfl 10 rfl dX11_among_36 39 rfl (fun x8 => ?_)
    refine s_aload_n C rfl 1 rfl dX11_among_39 40 rfl ?_
    refine x_wj [vj_ x3] 43 (fun kk_ => ?_) (fun x9 m6 k1 n1 => ?_)
    · refine x_csr (kd := 8) (fun hb_ hb0_ => ?_) ?_
      · exact x_callA (enc := en_j) (owner := "MasterTree$Filter") C 19 1 [vr_ v1] 8 (ctX9_among C.2.2.2.2.2.2.2.2.1 N m1 x8 v1) hb_ hb0_ rfl rfl q2772 q2688 q2701 q2702 q139 q2703 q2687 ⟨by decide +kernel, by decide +kernel, by decide +kernel⟩ (Nat.le_of_ble_eq_true rfl) (Nat.le_of_ble_eq_true rfl) rfl (Nat.le_of_ble_eq_true rfl) dX11_among_40 43 rfl rfl hen_j (kk_j kk_) (kx_n he_j)
      refine x_csr (kd := 9) (fun hb_ hb0_ => ?_) ?_
      · exact x_callA (enc := en_j) (owner := "MasterTree$Filter") C 13 1 [vr_ v1] 9 (ctX10_among C.2.2.2.2.2.2.2.2.1 N m1 x8 v1) hb_ hb0_ rfl rfl q2772 q2688 q2689 q2690 q140 q2691 q2687 ⟨by decide +kernel, by decide +kernel, by decide +kernel⟩ (Nat.le_of_ble_eq_true rfl) (Nat.le_of_ble_eq_true rfl) rfl (Nat.le_of_ble_eq_true rfl) dX11_among_40 43 rfl rfl hen_j (kk_j kk_) (kx_n he_j)
      refine x_csr (kd := 10) (fun hb_ hb0_ => ?_) ?_
      · exact x_callA (enc := en_j) (owner := "MasterTree$Filter") C 28 1 [vr_ v1] 10 (ctX11_among_d8 C.2.2.2.2.2.2.2.2.1 N m1 x8 v1) hb_ hb0_ rfl rfl q2772 q2688 q2769 q2770 q141 q2771 q2687 ⟨by decide +kernel, by decide +kernel, by decide +kernel⟩ (Nat.le_of_ble_eq_true rfl) (Nat.le_of_ble_eq_true rfl) rfl (Nat.le_of_ble_eq_true rfl) dX11_among_40 43 rfl rfl hen_j (kk_j kk_) (kx_n he_j)
      refine x_csr (kd := 11) (fun hb_ hb0_ => ?_) ?_
      · exact x_callA (enc := en_j) (owner := "MasterTree$Filter") C 28 1 [vr_ v1] 11 (ctX12_among_d8 C.2.2.2.2.2.2.2.2.1 N m1 x8 v1) hb_ hb0_ rfl rfl q2772 q2688 q2781 q2773 q142 q2774 q2687 ⟨by decide +kernel, by decide +kernel, by decide +kernel⟩ (Nat.le_of_ble_eq_true rfl) (Nat.le_of_ble_eq_true rfl) rfl (Nat.le_of_ble_eq_true rfl) dX11_among_40 43 rfl rfl hen_j (kk_j kk_) (kx_n he_j)
      exact Sm_bn
    refine s_lor C dX11_among_43 44 rfl ?_
    refine Sm_sub [] rfl ?_
    exact wX11_among_d9_b44 C hret h0 hin N _ _ _ _
  · refine s_aload_n C rfl 0 rfl dX11_among_7 8 rfl ?_
    refine x_gr C 9 (RX11, TX11, 3) rfl 0 (Nat.le_of_ble_eq_true rfl) q2640 (Or.inl rfl) rfl 10 rfl dX11_among_8 11 rfl (fun x14 => ?_)
    refine s_aload_n C rfl 1 rfl dX11_among_11 12 rfl ?_
    refine x_wj [] 15 (fun kk_ => ?_) (fun x15 m11 k1 n1 => ?_)
    · refine x_csr (kd := 8) (fun hb_ hb0_ => ?_) ?_
      · exact x_callA (enc := en_j) (owner := "MasterTree$Filter") C 19 1 [vr_ v1] 8 (ctX9_among C.2.2.2.2.2.2.2.2.1 N m x14 v1) hb_ hb0_ rfl rfl q2772 q2688 q2701 q2702 q139 q2703 q2687 ⟨by decide +kernel, by decide +kernel, by decide +kernel⟩ (Nat.le_of_ble_eq_true rfl) (Nat.le_of_ble_eq_true rfl) rfl (Nat.le_of_ble_eq_true rfl) dX11_among_12 15 rfl rfl hen_j (kk_j kk_) (kx_n he_j)
      refine x_csr (kd := 9) (fun hb_ hb0_ => ?_) ?_
      · exact x_callA (enc := en_j) (owner := "MasterTree$Filter") C 13 1 [vr_ v1] 9 (ctX10_among C.2.2.2.2.2.2.2.2.1 N m x14 v1) hb_ hb0_ rfl rfl q2772 q2688 q2689 q2690 q140 q2691 q2687 ⟨by decide +kernel, by decide +kernel, by decide +kernel⟩ (Nat.le_of_ble_eq_true rfl) (Nat.le_of_ble_eq_true rfl) rfl (Nat.le_of_ble_eq_true rfl) dX11_among_12 15 rfl rfl hen_j (kk_j kk_) (kx_n he_j)
      refine x_csr (kd := 10) (fun hb_ hb0_ => ?_) ?_
      · exact x_callA (enc := en_j) (owner := "MasterTree$Filter") C 28 1 [vr_ v1] 10 (ctX11_among_d8 C.2.2.2.2.2.2.2.2.1 N m x14 v1) hb_ hb0_ rfl rfl q2772 q2688 q2769 q2770 q141 q2771 q2687 ⟨by decide +kernel, by decide +kernel, by decide +kernel⟩ (Nat.le_of_ble_eq_true rfl) (Nat.le_of_ble_eq_true rfl) rfl (Nat.le_of_ble_eq_true rfl) dX11_among_12 15 rfl rfl hen_j (kk_j kk_) (kx_n he_j)
      refine x_csr (kd := 11) (fun hb_ hb0_ => ?_) ?_
      · exact x_callA (enc := en_j) (owner := "MasterTree$Filter") C 28 1 [vr_ v1] 11 (ctX12_among_d8 C.2.2.2.2.2.2.2.2.1 N m x14 v1) hb_ hb0_ rfl rfl q2772 q2688 q2781 q2773 q142 q2774 q2687 ⟨by decide +kernel, by decide +kernel, by decide +kernel⟩ (Nat.le_of_ble_eq_true rfl) (Nat.le_of_ble_eq_true rfl) rfl (Nat.le_of_ble_eq_true rfl) dX11_among_12 15 rfl rfl hen_j (kk_j kk_) (kx_n he_j)
      exact Sm_bn
    refine s_aload_n C rfl 0 rfl dX11_among_15 16 rfl ?_
    refine x_gr C 9 (RX11, TX11, 3) rfl 1 (Nat.le_of_ble_eq_true rfl) q2641 (Or.inl rfl) rfl 10 rfl dX11_among_16 19 rfl (fun x20 => ?_)
    refine s_aload_n C rfl 1 rfl dX11_among_19 20 rfl ?_
    refine x_wj [vj_ x15] 23 (fun kk_ => ?_) (fun x21 m16 k1 n1 => ?_)
    · refine x_csr (kd := 8) (fun hb_ hb0_ => ?_) ?_
      · exact x_callA (enc := en_j) (owner := "MasterTree$Filter") C 19 1 [vr_ v1] 8 (ctX9_among C.2.2.2.2.2.2.2.2.1 N m11 x20 v1) hb_ hb0_ rfl rfl q2772 q2688 q2701 q2702 q139 q2703 q2687 ⟨by decide +kernel, by decide +kernel, by decide +kernel⟩ (Nat.le_of_ble_eq_true rfl) (Nat.le_of_ble_eq_true rfl) rfl (Nat.le_of_ble_eq_true rfl) dX11_among_20 23 rfl rfl hen_j (kk_j kk_) (kx_n he_j)
      refine x_csr (kd := 9) (fun hb_ hb0_ => ?_) ?_
      · exact x_callA (enc := en_j) (owner := "MasterTree$Filter") C 13 1 [vr_ v1] 9 (ctX10_among C.2.2.2.2.2.2.2.2.1 N m11 x20 v1) hb_ hb0_ rfl rfl q2772 q2688 q2689 q2690 q140 q2691 q2687 ⟨by decide +kernel, by decide +kernel, by decide +kernel⟩ (Nat.le_of_ble_eq_true rfl) (Nat.le_of_ble_eq_true rfl) rfl (Nat.le_of_ble_eq_true rfl) dX11_among_20 23 rfl rfl hen_j (kk_j kk_) (kx_n he_j)
      refine x_csr (kd := 10) (fun hb_ hb0_ => ?_) ?_
      · exact x_callA (enc := en_j) (owner := "MasterTree$Filter") C 28 1 [vr_ v1] 10 (ctX11_among_d8 C.2.2.2.2.2.2.2.2.1 N m11 x20 v1) hb_ hb0_ rfl rfl q2772 q2688 q2769 q2770 q141 q2771 q2687 ⟨by decide +kernel, by decide +kernel, by decide +kernel⟩ (Nat.le_of_ble_eq_true rfl) (Nat.le_of_ble_eq_true rfl) rfl (Nat.le_of_ble_eq_true rfl) dX11_among_20 23 rfl rfl hen_j (kk_j kk_) (kx_n he_j)
      refine x_csr (kd := 11) (fun hb_ hb0_ => ?_) ?_
      · exact x_callA (enc := en_j) (owner := "MasterTree$Filter") C 28 1 [vr_ v1] 11 (ctX12_among_d8 C.2.2.2.2.2.2.2.2.1 N m11 x20 v1) hb_ hb0_ rfl rfl q2772 q2688 q2781 q2773 q142 q2774 q2687 ⟨by decide +kernel, by decide +kernel, by decide +kernel⟩ (Nat.le_of_ble_eq_true rfl) (Nat.le_of_ble_eq_true rfl) rfl (Nat.le_of_ble_eq_true rfl) dX11_among_20 23 rfl rfl hen_j (kk_j kk_) (kx_n he_j)
      exact Sm_bn
    refine s_land C dX11_among_23 24 rfl ?_
    refine s_goto C (off := 20) 44 dX11_among_24 rfl ?_
    refine Sm_sub [] rfl ?_
    exact wX11_among_d9_b44 C hret h0 hin N _ _ _ _
theorem hdX11_among_d9 : ((⟨"MasterTree$Combined", "among", "(LMasterTree$Master;)J"⟩ : MethodName)).cls ≠ "java/lang/invoke/MethodHandle" ∧ ((⟨"MasterTree$Combined", "among", "(LMasterTree$Master;)J"⟩ : MethodName)).cls ≠ "java/lang/invoke/VarHandle" ∧ (parseMethodDescriptor ((⟨"MasterTree$Combined", "among", "(LMasterTree$Master;)J"⟩ : MethodName)).desc).map (fun d => d.parameters.length) = some 1 := ⟨by decide +kernel, by decide +kernel, by decide +kernel⟩
theorem ctX11_among_d9 {l : Launch} {g : GG} (hst : l.stackTraces = false) (N : Nat) (m : Mm) (v0 : Option Nat) (v1 : Option Nat) : ∀ v m' k n, fX11_among_d9 (gE_ g) N m v0 v1 = some (v, m', k, n) → Ct_ l g (⟨"MasterTree$Combined", "among", "(LMasterTree$Master;)J"⟩ : MethodName) (ws_ (⟨"MasterTree$Combined", "among", "(LMasterTree$Master;)J"⟩ : MethodName) cX11_among 2 (Option.some Jvm.ClassFile.FieldType.long)) 29 [vr_ v0, vr_ v1] m (en_j v) m' k n :=
  Ct_of (by decide +kernel) rfl hst (Nat.le_of_ble_eq_true rfl) rfl (fun E C hret h0 hin => wX11_among_d9 C hret h0 hin N m v0 v1 0 0)
theorem wX12_among_d9 {l : Launch} {g : GG} {E : Me_} (C : Cx_ l g E "MasterTree$Not" cX12_among 2 29) (hret : (eT_ E).sig.returnType = (Option.some Jvm.ClassFile.FieldType.long)) (h0 : ∀ x ∈ (eC_ E).exceptionTable.toList, False) (hin : (eT_ E).name = "among") (N : Nat) : ∀ (m : Mm) (v0 : Option Nat) (v1 : Option Nat) (k n : Nat), Sm_ l g E 2 en_j (fX12_among_d9 (gE_ g) N m v0 v1) k n 0 [(0, vr_ v0), (1, vr_ v1)] [] m := by
  intro m v0 v1 k n
  unfold fX12_among_d9
  refine s_aload_n C rfl 1 rfl dX12_among_0 1 rfl ?_
  refine x_ck (fun hb_ hb0_ => ?_)
  refine x_callV (enc := en_j) C 12 0 [] 2 (ctX2_liveOnes C.2.2.2.2.2.2.2.2.1 N m v1) hb_ hb0_ rfl rfl q2775 q2776 q2777 q85 q2778 hdX2_liveOnes (Nat.le_of_ble_eq_true rfl) (Nat.le_of_ble_eq_true rfl) rfl (Nat.le_of_ble_eq_true rfl) dX12_among_1 4 rfl rfl hen_j (kk_j (fun x1 m1 k1 n1 => ?_)) (kx_n he_j)
  refine s_aload_n C rfl 0 rfl dX12_among_4 5 rfl ?_
  refine x_gr C 10 (RX12, TX12, 1) rfl 0 (Nat.le_of_ble_eq_true rfl) q2666 (Or.inl rfl) rfl 11 rfl dX12_among_5 8 rfl (fun x2 => ?_)
  refine s_aload_n C rfl 1 rfl dX12_among_8 9 rfl ?_
  refine x_wj [vj_ x1] 12 (fun kk_ => ?_) (fun x3 m2 k1 n1 => ?_)
  · refine x_csr (kd := 8) (fun hb_ hb0_ => ?_) ?_
    · exact x_callA (enc := en_j) (owner := "MasterTree$Filter") C 19 1 [vr_ v1] 8 (ctX9_among C.2.2.2.2.2.2.2.2.1 N m1 x2 v1) hb_ hb0_ rfl rfl q2779 q2688 q2701 q2702 q139 q2703 q2687 ⟨by decide +kernel, by decide +kernel, by decide +kernel⟩ (Nat.le_of_ble_eq_true rfl) (Nat.le_of_ble_eq_true rfl) rfl (Nat.le_of_ble_eq_true rfl) dX12_among_9 12 rfl rfl hen_j (kk_j kk_) (kx_n he_j)
    refine x_csr (kd := 9) (fun hb_ hb0_ => ?_) ?_
    · exact x_callA (enc := en_j) (owner := "MasterTree$Filter") C 13 1 [vr_ v1] 9 (ctX10_among C.2.2.2.2.2.2.2.2.1 N m1 x2 v1) hb_ hb0_ rfl rfl q2779 q2688 q2689 q2690 q140 q2691 q2687 ⟨by decide +kernel, by decide +kernel, by decide +kernel⟩ (Nat.le_of_ble_eq_true rfl) (Nat.le_of_ble_eq_true rfl) rfl (Nat.le_of_ble_eq_true rfl) dX12_among_9 12 rfl rfl hen_j (kk_j kk_) (kx_n he_j)
    refine x_csr (kd := 10) (fun hb_ hb0_ => ?_) ?_
    · exact x_callA (enc := en_j) (owner := "MasterTree$Filter") C 28 1 [vr_ v1] 10 (ctX11_among_d8 C.2.2.2.2.2.2.2.2.1 N m1 x2 v1) hb_ hb0_ rfl rfl q2779 q2688 q2769 q2770 q141 q2771 q2687 ⟨by decide +kernel, by decide +kernel, by decide +kernel⟩ (Nat.le_of_ble_eq_true rfl) (Nat.le_of_ble_eq_true rfl) rfl (Nat.le_of_ble_eq_true rfl) dX12_among_9 12 rfl rfl hen_j (kk_j kk_) (kx_n he_j)
    refine x_csr (kd := 11) (fun hb_ hb0_ => ?_) ?_
    · exact x_callA (enc := en_j) (owner := "MasterTree$Filter") C 28 1 [vr_ v1] 11 (ctX12_among_d8 C.2.2.2.2.2.2.2.2.1 N m1 x2 v1) hb_ hb0_ rfl rfl q2779 q2688 q2781 q2773 q142 q2774 q2687 ⟨by decide +kernel, by decide +kernel, by decide +kernel⟩ (Nat.le_of_ble_eq_true rfl) (Nat.le_of_ble_eq_true rfl) rfl (Nat.le_of_ble_eq_true rfl) dX12_among_9 12 rfl rfl hen_j (kk_j kk_) (kx_n he_j)
    exact Sm_bn
  refine s_ldc2 C (-1) q2780 dX12_among_12 15 rfl ?_
  refine s_lxor C dX12_among_15 16 rfl ?_
  refine s_land C dX12_among_16 17 rfl ?_
  exact x_lret C hret rfl dX12_among_17
theorem hdX12_among_d9 : ((⟨"MasterTree$Not", "among", "(LMasterTree$Master;)J"⟩ : MethodName)).cls ≠ "java/lang/invoke/MethodHandle" ∧ ((⟨"MasterTree$Not", "among", "(LMasterTree$Master;)J"⟩ : MethodName)).cls ≠ "java/lang/invoke/VarHandle" ∧ (parseMethodDescriptor ((⟨"MasterTree$Not", "among", "(LMasterTree$Master;)J"⟩ : MethodName)).desc).map (fun d => d.parameters.length) = some 1 := ⟨by decide +kernel, by decide +kernel, by decide +kernel⟩
theorem ctX12_among_d9 {l : Launch} {g : GG} (hst : l.stackTraces = false) (N : Nat) (m : Mm) (v0 : Option Nat) (v1 : Option Nat) : ∀ v m' k n, fX12_among_d9 (gE_ g) N m v0 v1 = some (v, m', k, n) → Ct_ l g (⟨"MasterTree$Not", "among", "(LMasterTree$Master;)J"⟩ : MethodName) (ws_ (⟨"MasterTree$Not", "among", "(LMasterTree$Master;)J"⟩ : MethodName) cX12_among 2 (Option.some Jvm.ClassFile.FieldType.long)) 29 [vr_ v0, vr_ v1] m (en_j v) m' k n :=
  Ct_of (by decide +kernel) rfl hst (Nat.le_of_ble_eq_true rfl) rfl (fun E C hret h0 hin => wX12_among_d9 C hret h0 hin N m v0 v1 0 0)
theorem wX11_among_d10_b44 {l : Launch} {g : GG} {E : Me_} (C : Cx_ l g E "MasterTree$Combined" cX11_among 2 30) (hret : (eT_ E).sig.returnType = (Option.some Jvm.ClassFile.FieldType.long)) (h0 : ∀ x ∈ (eC_ E).exceptionTable.toList, False) (hin : (eT_ E).name = "among") (N : Nat) : ∀ (m : Mm) (s0 : Int64) (k n : Nat), Sm_ l g E 2 en_j (fX11_among_d10_b44 (gE_ g) N m s0) k n 44 [] [vj_ s0] m := by
  intro m s0 k n
  unfold fX11_among_d10_b44
  exact x_lret C hret rfl dX11_among_44
theorem wX11_among_d10 {l : Launch} {g : GG} {E : Me_} (C : Cx_ l g E "MasterTree$Combined" cX11_among 2 30) (hret : (eT_ E).sig.returnType = (Option.some Jvm.ClassFile.FieldType.long)) (h0 : ∀ x ∈ (eC_ E).exceptionTable.toList, False) (hin : (eT_ E).name = "among") (N : Nat) : ∀ (m : Mm) (v0 : Option Nat) (v1 : Option Nat) (k n : Nat), Sm_ l g E 2 en_j (fX11_among_d10 (gE_ g) N m v0 v1) k n 0 [(0, vr_ v0), (1, vr_ v1)] [] m := by
  intro m v0 v1 k n
  unfold fX11_among_d10
  refine s_aload_n C rfl 0 rfl dX11_among_0 1 rfl ?_
  refine x_gi C 9 (RX11, TX11, 3) rfl 2 (Nat.le_of_ble_eq_true rfl) q2642 (Or.inl rfl) rfl 10 rfl dX11_among_1 4 rfl (fun x1 => ?_)
  refine s_if_eq C dX11_among_4 27 rfl 7 rfl (fun c_ => ?_) (fun c_ => ?_)
  · refine s_aload_n C rfl 0 rfl dX11_among_27 28 rfl ?_
    refine x_gr C 9 (RX11, TX11, 3) rfl 0 (Nat.le_of_ble_eq_true rfl) q2640 (Or.inl rfl) rfl 10 rfl dX11_among_28 31 rfl (fun x2 => ?_)
    refine s_aload_n C rfl 1 rfl dX11_among_31 32 rfl ?_
    refine x_wj [] 35 (fun kk_ => ?_) (fun x3 m1 k1 n1 => ?_)
    · refine x_csr (kd := 8) (fun hb_ hb0_ => ?_) ?_
      · exact x_callA (enc := en_j) (owner := "MasterTree$Filter") C 19 1 [vr_ v1] 8 (ctX9_among C.2.2.2.2.2.2.2.2.1 N m x2 v1) hb_ hb0_ rfl rfl q2772 q2688 q2701 q2702 q139 q2703 q2687 ⟨by decide +kernel, by decide +kernel, by decide +kernel⟩ (Nat.le_of_ble_eq_true rfl) (Nat.le_of_ble_eq_true rfl) rfl (Nat.le_of_ble_eq_true rfl) dX11_among_32 35 rfl rfl hen_j (kk_j kk_) (kx_n he_j)
      refine x_csr (kd := 9) (fun hb_ hb0_ => ?_) ?_
      · exact x_callA (enc := en_j) (owner := "MasterTree$Filter") C 13 1 [vr_ v1] 9 (ctX10_among C.2.2.2.2.2.2.2.2.1 N m x2 v1) hb_ hb0_ rfl rfl q2772 q2688 q2689 q2690 q140 q2691 q2687 ⟨by decide +kernel, by decide +kernel, by decide +kernel⟩ (Nat.le_of_ble_eq_true rfl) (Nat.le_of_ble_eq_true rfl) rfl (Nat.le_of_ble_eq_true rfl) dX11_among_32 35 rfl rfl hen_j (kk_j kk_) (kx_n he_j)
      refine x_csr (kd := 10) (fun hb_ hb0_ => ?_) ?_
      · exact x_callA (enc := en_j) (owner := "MasterTree$Filter") C 29 1 [vr_ v1] 10 (ctX11_among_d9 C.2.2.2.2.2.2.2.2.1 N m x2 v1) hb_ hb0_ rfl rfl q2772 q2688 q2769 q2770 q141 q2771 q2687 ⟨by decide +kernel, by decide +kernel, by decide +kernel⟩ (Nat.le_of_ble_eq_true rfl) (Nat.le_of_ble_eq_true rfl) rfl (Nat.le_of_ble_eq_true rfl) dX11_among_32 35 rfl rfl hen_j (kk_j kk_) (kx_n he_j)
      refine x_csr (kd := 11) (fun hb_ hb0_ => ?_) ?_
      · exact x_callA (enc := en_j) (owner := "MasterTree$Filter") C 29 1 [vr_ v1] 11 (ctX12_among_d9 C.2.2.2.2.2.2.2.2.1 N m x2 v1) hb_ hb0_ rfl rfl q2772 q2688 q2781 q2773 q142 q2774 q2687 ⟨by decide +kernel, by decide +kernel, by decide +kernel⟩ (Nat.le_of_ble_eq_true rfl) (Nat.le_of_ble_eq_true rfl) rfl (Nat.le_of_ble_eq_true rfl) dX11_among_32 35 rfl rfl hen_j (kk_j kk_) (kx_n he_j)
      exact Sm_bn
    refine s_aload_n C rfl 0 rfl dX11_among_35 36 rfl ?_
    refine x_gr C 9 (RX11, TX11, 3) rfl 1 (Nat.le_of_ble_eq_true rfl) q2641 (Or.inl rfl) rfl 10 rfl dX11_among_36 39 rfl (fun x8 => ?_)
    refine s_aload_n C rfl 1 rfl dX11_among_39 40 rfl ?_
    refine x_wj [vj_ x3] 43 (fun kk_ => ?_) (fun x9 m6 k1 n1 => ?_)
    · refine x_csr (kd := 8) (fun hb_ hb0_ => ?_) ?_
      · exact x_callA (enc := en_j) (owner := "MasterTree$Filter") C 19 1 [vr_ v1] 8 (ctX9_among C.2.2.2.2.2.2.2.2.1 N m1 x8 v1) hb_ hb0_ rfl rfl q2772 q2688 q2701 q2702 q139 q2703 q2687 ⟨by decide +kernel, by decide +kernel, by decide +kernel⟩ (Nat.le_of_ble_eq_true rfl) (Nat.le_of_ble_eq_true rfl) rfl (Nat.le_of_ble_eq_true rfl) dX11_among_40 43 rfl rfl hen_j (kk_j kk_) (kx_n he_j)
      refine x_csr (kd := 9) (fun hb_ hb0_ => ?_) ?_
      · exact x_callA (enc := en_j) (owner := "MasterTree$Filter") C 13 1 [vr_ v1] 9 (ctX10_among C.2.2.2.2.2.2.2.2.1 N m1 x8 v1) hb_ hb0_ rfl rfl q2772 q2688 q2689 q2690 q140 q2691 q2687 ⟨by decide +kernel, by decide +kernel, by decide +kernel⟩ (Nat.le_of_ble_eq_true rfl) (Nat.le_of_ble_eq_true rfl) rfl (Nat.le_of_ble_eq_true rfl) dX11_among_40 43 rfl rfl hen_j (kk_j kk_) (kx_n he_j)
      refine x_csr (kd := 10) (fun hb_ hb0_ => ?_) ?_
      · exact x_callA (enc := en_j) (owner := "MasterTree$Filter") C 29 1 [vr_ v1] 10 (ctX11_among_d9 C.2.2.2.2.2.2.2.2.1 N m1 x8 v1) hb_ hb0_ rfl rfl q2772 q2688 q2769 q2770 q141 q2771 q2687 ⟨by decide +kernel, by decide +kernel, by decide +kernel⟩ (Nat.le_of_ble_eq_true rfl) (Nat.le_of_ble_eq_true rfl) rfl (Nat.le_of_ble_eq_true rfl) dX11_among_40 43 rfl rfl hen_j (kk_j kk_) (kx_n he_j)
      refine x_csr (kd := 11) (fun hb_ hb0_ => ?_) ?_
      · exact x_callA (enc := en_j) (owner := "MasterTree$Filter") C 29 1 [vr_ v1] 11 (ctX12_among_d9 C.2.2.2.2.2.2.2.2.1 N m1 x8 v1) hb_ hb0_ rfl rfl q2772 q2688 q2781 q2773 q142 q2774 q2687 ⟨by decide +kernel, by decide +kernel, by decide +kernel⟩ (Nat.le_of_ble_eq_true rfl) (Nat.le_of_ble_eq_true rfl) rfl (Nat.le_of_ble_eq_true rfl) dX11_among_40 43 rfl rfl hen_j (kk_j kk_) (kx_n he_j)
      exact Sm_bn
    refine s_lor C dX11_among_43 44 rfl ?_
    refine Sm_sub [] rfl ?_
    exact wX11_among_d10_b44 C hret h0 hin N _ _ _ _
  · refine s_aload_n C rfl 0 rfl dX11_among_7 8 rfl ?_
    refine x_gr C 9 (RX11, TX11, 3) rfl 0 (Nat.le_of_ble_eq_true rfl) q2640 (Or.inl rfl) rfl 10 rfl dX11_among_8 11 rfl (fun x14 => ?_)
    refine s_aload_n C rfl 1 rfl dX11_among_11 12 rfl ?_
    refine x_wj [] 15 (fun kk_ => ?_) (fun x15 m11 k1 n1 => ?_)
    · refine x_csr (kd := 8) (fun hb_ hb0_ => ?_) ?_
      · exact x_callA (enc := en_j) (owner := "MasterTree$Filter") C 19 1 [vr_ v1] 8 (ctX9_among C.2.2.2.2.2.2.2.2.1 N m x14 v1) hb_ hb0_ rfl rfl q2772 q2688 q2701 q2702 q139 q2703 q2687 ⟨by decide +kernel, by decide +kernel, by decide +kernel⟩ (Nat.le_of_ble_eq_true rfl) (Nat.le_of_ble_eq_true rfl) rfl (Nat.le_of_ble_eq_true rfl) dX11_among_12 15 rfl rfl hen_j (kk_j kk_) (kx_n he_j)
      refine x_csr (kd := 9) (fun hb_ hb0_ => ?_) ?_
      · exact x_callA (enc := en_j) (owner := "MasterTree$Filter") C 13 1 [vr_ v1] 9 (ctX10_among C.2.2.2.2.2.2.2.2.1 N m x14 v1) hb_ hb0_ rfl rfl q2772 q2688 q2689 q2690 q140 q2691 q2687 ⟨by decide +kernel, by decide +kernel, by decide +kernel⟩ (Nat.le_of_ble_eq_true rfl) (Nat.le_of_ble_eq_true rfl) rfl (Nat.le_of_ble_eq_true rfl) dX11_among_12 15 rfl rfl hen_j (kk_j kk_) (kx_n he_j)
      refine x_csr (kd := 10) (fun hb_ hb0_ => ?_) ?_
      · exact x_callA (enc := en_j) (owner := "MasterTree$Filter") C 29 1 [vr_ v1] 10 (ctX11_among_d9 C.2.2.2.2.2.2.2.2.1 N m x14 v1) hb_ hb0_ rfl rfl q2772 q2688 q2769 q2770 q141 q2771 q2687 ⟨by decide +kernel, by decide +kernel, by decide +kernel⟩ (Nat.le_of_ble_eq_true rfl) (Nat.le_of_ble_eq_true rfl) rfl (Nat.le_of_ble_eq_true rfl) dX11_among_12 15 rfl rfl hen_j (kk_j kk_) (kx_n he_j)
      refine x_csr (kd := 11) (fun hb_ hb0_ => ?_) ?_
      · exact x_callA (enc := en_j) (owner := "MasterTree$Filter") C 29 1 [vr_ v1] 11 (ctX12_among_d9 C.2.2.2.2.2.2.2.2.1 N m x14 v1) hb_ hb0_ rfl rfl q2772 q2688 q2781 q2773 q142 q2774 q2687 ⟨by decide +kernel, by decide +kernel, by decide +kernel⟩ (Nat.le_of_ble_eq_true rfl) (Nat.le_of_ble_eq_true rfl) rfl (Nat.le_of_ble_eq_true rfl) dX11_among_12 15 rfl rfl hen_j (kk_j kk_) (kx_n he_j)
      exact Sm_bn
    refine s_aload_n C rfl 0 rfl dX11_among_15 16 rfl ?_
    refine x_gr C 9 (RX11, TX11, 3) rfl 1 (Nat.le_of_ble_eq_true rfl) q2641 (Or.inl rfl) rfl 10 rfl dX11_among_16 19 rfl (fun x20 => ?_)
    refine s_aload_n C rfl 1 rfl dX11_among_19 20 rfl ?_
    refine x_wj [vj_ x15] 23 (fun kk_ => ?_) (fun x21 m16 k1 n1 => ?_)
    · refine x_csr (kd := 8) (fun hb_ hb0_ => ?_) ?_
      · exact x_callA (enc := en_j) (owner := "MasterTree$Filter") C 19 1 [vr_ v1] 8 (ctX9_among C.2.2.2.2.2.2.2.2.1 N m11 x20 v1) hb_ hb0_ rfl rfl q2772 q2688 q2701 q2702 q139 q2703 q2687 ⟨by decide +kernel, by decide +kernel, by decide +kernel⟩ (Nat.le_of_ble_eq_true rfl) (Nat.le_of_ble_eq_true rfl) rfl (Nat.le_of_ble_eq_true rfl) dX11_among_20 23 rfl rfl hen_j (kk_j kk_) (kx_n he_j)
      refine x_csr (kd := 9) (fun hb_ hb0_ => ?_) ?_
      · exact x_callA (enc := en_j) (owner := "MasterTree$Filter") C 13 1 [vr_ v1] 9 (ctX10_among C.2.2.2.2.2.2.2.2.1 N m11 x20 v1) hb_ hb0_ rfl rfl q2772 q2688 q2689 q2690 q140 q2691 q2687 ⟨by decide +kernel, by decide +kernel, by decide +kernel⟩ (Nat.le_of_ble_eq_true rfl) (Nat.le_of_ble_eq_true rfl) rfl (Nat.le_of_ble_eq_true rfl) dX11_among_20 23 rfl rfl hen_j (kk_j kk_) (kx_n he_j)
      refine x_csr (kd := 10) (fun hb_ hb0_ => ?_) ?_
      · exact x_callA (enc := en_j) (owner := "MasterTree$Filter") C 29 1 [vr_ v1] 10 (ctX11_among_d9 C.2.2.2.2.2.2.2.2.1 N m11 x20 v1) hb_ hb0_ rfl rfl q2772 q2688 q2769 q2770 q141 q2771 q2687 ⟨by decide +kernel, by decide +kernel, by decide +kernel⟩ (Nat.le_of_ble_eq_true rfl) (Nat.le_of_ble_eq_true rfl) rfl (Nat.le_of_ble_eq_true rfl) dX11_among_20 23 rfl rfl hen_j (kk_j kk_) (kx_n he_j)
      refine x_csr (kd := 11) (fun hb_ hb0_ => ?_) ?_
      · exact x_callA (enc := en_j) (owner := "MasterTree$Filter") C 29 1 [vr_ v1] 11 (ctX12_among_d9 C.2.2.2.2.2.2.2.2.1 N m11 x20 v1) hb_ hb0_ rfl rfl q2772 q2688 q2781 q2773 q142 q2774 q2687 ⟨by decide +kernel, by decide +kernel, by decide +kernel⟩ (Nat.le_of_ble_eq_true rfl) (Nat.le_of_ble_eq_true rfl) rfl (Nat.le_of_ble_eq_true rfl) dX11_among_20 23 rfl rfl hen_j (kk_j kk_) (kx_n he_j)
      exact Sm_bn
    refine s_land C dX11_among_23 24 rfl ?_
    refine s_goto C (off := 20) 44 dX11_among_24 rfl ?_
    refine Sm_sub [] rfl ?_
    exact wX11_among_d10_b44 C hret h0 hin N _ _ _ _
theorem hdX11_among_d10 : ((⟨"MasterTree$Combined", "among", "(LMasterTree$Master;)J"⟩ : MethodName)).cls ≠ "java/lang/invoke/MethodHandle" ∧ ((⟨"MasterTree$Combined", "among", "(LMasterTree$Master;)J"⟩ : MethodName)).cls ≠ "java/lang/invoke/VarHandle" ∧ (parseMethodDescriptor ((⟨"MasterTree$Combined", "among", "(LMasterTree$Master;)J"⟩ : MethodName)).desc).map (fun d => d.parameters.length) = some 1 := ⟨by decide +kernel, by decide +kernel, by decide +kernel⟩
theorem ctX11_among_d10 {l : Launch} {g : GG} (hst : l.stackTraces = false) (N : Nat) (m : Mm) (v0 : Option Nat) (v1 : Option Nat) : ∀ v m' k n, fX11_among_d10 (gE_ g) N m v0 v1 = some (v, m', k, n) → Ct_ l g (⟨"MasterTree$Combined", "among", "(LMasterTree$Master;)J"⟩ : MethodName) (ws_ (⟨"MasterTree$Combined", "among", "(LMasterTree$Master;)J"⟩ : MethodName) cX11_among 2 (Option.some Jvm.ClassFile.FieldType.long)) 30 [vr_ v0, vr_ v1] m (en_j v) m' k n :=
  Ct_of (by decide +kernel) rfl hst (Nat.le_of_ble_eq_true rfl) rfl (fun E C hret h0 hin => wX11_among_d10 C hret h0 hin N m v0 v1 0 0)
theorem wX12_among_d10 {l : Launch} {g : GG} {E : Me_} (C : Cx_ l g E "MasterTree$Not" cX12_among 2 30) (hret : (eT_ E).sig.returnType = (Option.some Jvm.ClassFile.FieldType.long)) (h0 : ∀ x ∈ (eC_ E).exceptionTable.toList, False) (hin : (eT_ E).name = "among") (N : Nat) : ∀ (m : Mm) (v0 : Option Nat) (v1 : Option Nat) (k n : Nat), Sm_ l g E 2 en_j (fX12_among_d10 (gE_ g) N m v0 v1) k n 0 [(0, vr_ v0), (1, vr_ v1)] [] m := by
  intro m v0 v1 k n
  unfold fX12_among_d10
  refine s_aload_n C rfl 1 rfl dX12_among_0 1 rfl ?_
  refine x_ck (fun hb_ hb0_ => ?_)
  refine x_callV (enc := en_j) C 12 0 [] 2 (ctX2_liveOnes C.2.2.2.2.2.2.2.2.1 N m v1) hb_ hb0_ rfl rfl q2775 q2776 q2777 q85 q2778 hdX2_liveOnes (Nat.le_of_ble_eq_true rfl) (Nat.le_of_ble_eq_true rfl) rfl (Nat.le_of_ble_eq_true rfl) dX12_among_1 4 rfl rfl hen_j (kk_j (fun x1 m1 k1 n1 => ?_)) (kx_n he_j)
  refine s_aload_n C rfl 0 rfl dX12_among_4 5 rfl ?_
  refine x_gr C 10 (RX12, TX12, 1) rfl 0 (Nat.le_of_ble_eq_true rfl) q2666 (Or.inl rfl) rfl 11 rfl dX12_among_5 8 rfl (fun x2 => ?_)
  refine s_aload_n C rfl 1 rfl dX12_among_8 9 rfl ?_
  refine x_wj [vj_ x1] 12 (fun kk_ => ?_) (fun x3 m2 k1 n1 => ?_)
  · refine x_csr (kd := 8) (fun hb_ hb0_ => ?_) ?_
    · exact x_callA (enc := en_j) (owner := "MasterTree$Filter") C 19 1 [vr_ v1] 8 (ctX9_among C.2.2.2.2.2.2.2.2.1 N m1 x2 v1) hb_ hb0_ rfl rfl q2779 q2688 q2701 q2702 q139 q2703 q2687 ⟨by decide +kernel, by decide +kernel, by decide +kernel⟩ (Nat.le_of_ble_eq_true rfl) (Nat.le_of_ble_eq_true rfl) rfl (Nat.le_of_ble_eq_true rfl) dX12_among_9 12 rfl rfl hen_j (kk_j kk_) (kx_n he_j)
    refine x_csr (kd := 9) (fun hb_ hb0_ => ?_) ?_
    · exact x_callA (enc := en_j) (owner := "MasterTree$Filter") C 13 1 [vr_ v1] 9 (ctX10_among C.2.2.2.2.2.2.2.2.1 N m1 x2 v1) hb_ hb0_ rfl rfl q2779 q2688 q2689 q2690 q140 q2691 q2687 ⟨by decide +kernel, by decide +kernel, by decide +kernel⟩ (Nat.le_of_ble_eq_true rfl) (Nat.le_of_ble_eq_true rfl) rfl (Nat.le_of_ble_eq_true rfl) dX12_among_9 12 rfl rfl hen_j (kk_j kk_) (kx_n he_j)
    refine x_csr (kd := 10) (fun hb_ hb0_ => ?_) ?_
    · exact x_callA (enc := en_j) (owner := "MasterTree$Filter") C 29 1 [vr_ v1] 10 (ctX11_among_d9 C.2.2.2.2.2.2.2.2.1 N m1 x2 v1) hb_ hb0_ rfl rfl q2779 q2688 q2769 q2770 q141 q2771 q2687 ⟨by decide +kernel, by decide +kernel, by decide +kernel⟩ (Nat.le_of_ble_eq_true rfl) (Nat.le_of_ble_eq_true rfl) rfl (Nat.le_of_ble_eq_true rfl) dX12_among_9 12 rfl rfl hen_j (kk_j kk_) (kx_n he_j)
    refine x_csr (kd := 11) (fun hb_ hb0_ => ?_) ?_
    · exact x_callA (enc := en_j) (owner := "MasterTree$Filter") C 29 1 [vr_ v1] 11 (ctX12_among_d9 C.2.2.2.2.2.2.2.2.1 N m1 x2 v1) hb_ hb0_ rfl rfl q2779 q2688 q2781 q2773 q142 q2774 q2687 ⟨by decide +kernel, by decide +kernel, by decide +kernel⟩ (Nat.le_of_ble_eq_true rfl) (Nat.le_of_ble_eq_true rfl) rfl (Nat.le_of_ble_eq_true rfl) dX12_among_9 12 rfl rfl hen_j (kk_j kk_) (kx_n he_j)
    exact Sm_bn
  refine s_ldc2 C (-1) q2780 dX12_among_12 15 rfl ?_
  refine s_lxor C dX12_among_15 16 rfl ?_
  refine s_land C dX12_among_16 17 rfl ?_
  exact x_lret C hret rfl dX12_among_17
theorem hdX12_among_d10 : ((⟨"MasterTree$Not", "among", "(LMasterTree$Master;)J"⟩ : MethodName)).cls ≠ "java/lang/invoke/MethodHandle" ∧ ((⟨"MasterTree$Not", "among", "(LMasterTree$Master;)J"⟩ : MethodName)).cls ≠ "java/lang/invoke/VarHandle" ∧ (parseMethodDescriptor ((⟨"MasterTree$Not", "among", "(LMasterTree$Master;)J"⟩ : MethodName)).desc).map (fun d => d.parameters.length) = some 1 := ⟨by decide +kernel, by decide +kernel, by decide +kernel⟩
theorem ctX12_among_d10 {l : Launch} {g : GG} (hst : l.stackTraces = false) (N : Nat) (m : Mm) (v0 : Option Nat) (v1 : Option Nat) : ∀ v m' k n, fX12_among_d10 (gE_ g) N m v0 v1 = some (v, m', k, n) → Ct_ l g (⟨"MasterTree$Not", "among", "(LMasterTree$Master;)J"⟩ : MethodName) (ws_ (⟨"MasterTree$Not", "among", "(LMasterTree$Master;)J"⟩ : MethodName) cX12_among 2 (Option.some Jvm.ClassFile.FieldType.long)) 30 [vr_ v0, vr_ v1] m (en_j v) m' k n :=
  Ct_of (by decide +kernel) rfl hst (Nat.le_of_ble_eq_true rfl) rfl (fun E C hret h0 hin => wX12_among_d10 C hret h0 hin N m v0 v1 0 0)
theorem wX11_among_d11_b44 {l : Launch} {g : GG} {E : Me_} (C : Cx_ l g E "MasterTree$Combined" cX11_among 2 31) (hret : (eT_ E).sig.returnType = (Option.some Jvm.ClassFile.FieldType.long)) (h0 : ∀ x ∈ (eC_ E).exceptionTable.toList, False) (hin : (eT_ E).name = "among") (N : Nat) : ∀ (m : Mm) (s0 : Int64) (k n : Nat), Sm_ l g E 2 en_j (fX11_among_d11_b44 (gE_ g) N m s0) k n 44 [] [vj_ s0] m := by
  intro m s0 k n
  unfold fX11_among_d11_b44
  exact x_lret C hret rfl dX11_among_44
theorem wX11_among_d11 {l : Launch} {g : GG} {E : Me_} (C : Cx_ l g E "MasterTree$Combined" cX11_among 2 31) (hret : (eT_ E).sig.returnType = (Option.some Jvm.ClassFile.FieldType.long)) (h0 : ∀ x ∈ (eC_ E).exceptionTable.toList, False) (hin : (eT_ E).name = "among") (N : Nat) : ∀ (m : Mm) (v0 : Option Nat) (v1 : Option Nat) (k n : Nat), Sm_ l g E 2 en_j (fX11_among_d11 (gE_ g) N m v0 v1) k n 0 [(0, vr_ v0), (1, vr_ v1)] [] m := by
  intro m v0 v1 k n
  unfold fX11_among_d11
  refine s_aload_n C rfl 0 rfl dX11_among_0 1 rfl ?_
  refine x_gi C 9 (RX11, TX11, 3) rfl 2 (Nat.le_of_ble_eq_true rfl) q2642 (Or.inl rfl) rfl 10 rfl dX11_among_1 4 rfl (fun x1 => ?_)
  refine s_if_eq C dX11_among_4 27 rfl 7 rfl (fun c_ => ?_) (fun c_ => ?_)
  · refine s_aload_n C rfl 0 rfl dX11_among_27 28 rfl ?_
    refine x_gr C 9 (RX11, TX11, 3) rfl 0 (Nat.le_of_ble_eq_true rfl) q2640 (Or.inl rfl) rfl 10 rfl dX11_among_28 31 rfl (fun x2 => ?_)
    refine s_aload_n C rfl 1 rfl dX11_among_31 32 rfl ?_
    refine x_wj [] 35 (fun kk_ => ?_) (fun x3 m1 k1 n1 => ?_)
    · refine x_csr (kd := 8) (fun hb_ hb0_ => ?_) ?_
      · exact x_callA (enc := en_j) (owner := "MasterTree$Filter") C 19 1 [vr_ v1] 8 (ctX9_among C.2.2.2.2.2.2.2.2.1 N m x2 v1) hb_ hb0_ rfl rfl q2772 q2688 q2701 q2702 q139 q2703 q2687 ⟨by decide +kernel, by decide +kernel, by decide +kernel⟩ (Nat.le_of_ble_eq_true rfl) (Nat.le_of_ble_eq_true rfl) rfl (Nat.le_of_ble_eq_true rfl) dX11_among_32 35 rfl rfl hen_j (kk_j kk_) (kx_n he_j)
      refine x_csr (kd := 9) (fun hb_ hb0_ => ?_) ?_
      · exact x_callA (enc := en_j) (owner := "MasterTree$Filter") C 13 1 [vr_ v1] 9 (ctX10_among C.2.2.2.2.2.2.2.2.1 N m x2 v1) hb_ hb0_ rfl rfl q2772 q2688 q2689 q2690 q140 q2691 q2687 ⟨by decide +kernel, by decide +kernel, by decide +kernel⟩ (Nat.le_of_ble_eq_true rfl) (Nat.le_of_ble_eq_true rfl) rfl (Nat.le_of_ble_eq_true rfl) dX11_among_32 35 rfl rfl hen_j (kk_j kk_) (kx_n he_j)
      refine x_csr (kd := 10) (fun hb_ hb0_ => ?_) ?_
      · exact x_callA (enc := en_j) (owner := "MasterTree$Filter") C 30 1 [vr_ v1] 10 (ctX11_among_d10 C.2.2.2.2.2.2.2.2.1 N m x2 v1) hb_ hb0_ rfl rfl q2772 q2688 q2769 q2770 q141 q2771 q2687 ⟨by decide +kernel, by decide +kernel, by decide +kernel⟩ (Nat.le_of_ble_eq_true rfl) (Nat.le_of_ble_eq_true rfl) rfl (Nat.le_of_ble_eq_true rfl) dX11_among_32 35 rfl rfl hen_j (kk_j kk_) (kx_n he_j)
      refine x_csr (kd := 11) (fun hb_ hb0_ => ?_) ?_
      · exact x_callA (enc := en_j) (owner := "MasterTree$Filter") C 30 1 [vr_ v1] 11 (ctX12_among_d10 C.2.2.2.2.2.2.2.2.1 N m x2 v1) hb_ hb0_ rfl rfl q2772 q2688 q2781 q2773 q142 q2774 q2687 ⟨by decide +kernel, by decide +kernel, by decide +kernel⟩ (Nat.le_of_ble_eq_true rfl) (Nat.le_of_ble_eq_true rfl) rfl (Nat.le_of_ble_eq_true rfl) dX11_among_32 35 rfl rfl hen_j (kk_j kk_) (kx_n he_j)
      exact Sm_bn
    refine s_aload_n C rfl 0 rfl dX11_among_35 36 rfl ?_
    refine x_gr C 9 (RX11, TX11, 3) rfl 1 (Nat.le_of_ble_eq_true rfl) q2641 (Or.inl rfl) rfl 10 rfl dX11_among_36 39 rfl (fun x8 => ?_)
    refine s_aload_n C rfl 1 rfl dX11_among_39 40 rfl ?_
    refine x_wj [vj_ x3] 43 (fun kk_ => ?_) (fun x9 m6 k1 n1 => ?_)
    · refine x_csr (kd := 8) (fun hb_ hb0_ => ?_) ?_
      · exact x_callA (enc := en_j) (owner := "MasterTree$Filter") C 19 1 [vr_ v1] 8 (ctX9_among C.2.2.2.2.2.2.2.2.1 N m1 x8 v1) hb_ hb0_ rfl rfl q2772 q2688 q2701 q2702 q139 q2703 q2687 ⟨by decide +kernel, by decide +kernel, by decide +kernel⟩ (Nat.le_of_ble_eq_true rfl) (Nat.le_of_ble_eq_true rfl) rfl (Nat.le_of_ble_eq_true rfl) dX11_among_40 43 rfl rfl hen_j (kk_j kk_) (kx_n he_j)
      refine x_csr (kd := 9) (fun hb_ hb0_ => ?_) ?_
      · exact x_callA (enc := en_j) (owner := "MasterTree$Filter") C 13 1 [vr_ v1] 9 (ctX10_among C.2.2.2.2.2.2.2.2.1 N m1 x8 v1) hb_ hb0_ rfl rfl q2772 q2688 q2689 q2690 q140 q2691 q2687 ⟨by decide +kernel, by decide +kernel, by decide +kernel⟩ (Nat.le_of_ble_eq_true rfl) (Nat.le_of_ble_eq_true rfl) rfl (Nat.le_of_ble_eq_true rfl) dX11_among_40 43 rfl rfl hen_j (kk_j kk_) (kx_n he_j)
      refine x_csr (kd := 10) (fun hb_ hb0_ => ?_) ?_
      · exact x_callA (enc := en_j) (owner := "MasterTree$Filter") C 30 1 [vr_ v1] 10 (ctX11_among_d10 C.2.2.2.2.2.2.2.2.1 N m1 x8 v1) hb_ hb0_ rfl rfl q2772 q2688 q2769 q2770 q141 q2771 q2687 ⟨by decide +kernel, by decide +kernel, by decide +kernel⟩ (Nat.le_of_ble_eq_true rfl) (Nat.le_of_ble_eq_true rfl) rfl (Nat.le_of_ble_eq_true rfl) dX11_among_40 43 rfl rfl hen_j (kk_j kk_) (kx_n he_j)
      refine x_csr (kd := 11) (fun hb_ hb0_ => ?_) ?_
      · exact x_callA (enc := en_j) (owner := "MasterTree$Filter") C 30 1 [vr_ v1] 11 (ctX12_among_d10 C.2.2.2.2.2.2.2.2.1 N m1 x8 v1) hb_ hb0_ rfl rfl q2772 q2688 q2781 q2773 q142 q2774 q2687 ⟨by decide +kernel, by decide +kernel, by decide +kernel⟩ (Nat.le_of_ble_eq_true rfl) (Nat.le_of_ble_eq_true rfl) rfl (Nat.le_of_ble_eq_true rfl) dX11_among_40 43 rfl rfl hen_j (kk_j kk_) (kx_n he_j)
      exact Sm_bn
    refine s_lor C dX11_among_43 44 rfl ?_
    refine Sm_sub [] rfl ?_
    exact wX11_among_d11_b44 C hret h0 hin N _ _ _ _
  · refine s_aload_n C rfl 0 rfl dX11_among_7 8 rfl ?_
    refine x_gr C 9 (RX11, TX11, 3) rfl 0 (Nat.le_of_ble_eq_true rfl) q2640 (Or.inl rfl) rfl 10 rfl dX11_among_8 11 rfl (fun x14 => ?_)
    refine s_aload_n C rfl 1 rfl dX11_among_11 12 rfl ?_
    refine x_wj [] 15 (fun kk_ => ?_) (fun x15 m11 k1 n1 => ?_)
    · refine x_csr (kd := 8) (fun hb_ hb0_ => ?_) ?_
      · exact x_callA (enc := en_j) (owner := "MasterTree$Filter") C 19 1 [vr_ v1] 8 (ctX9_among C.2.2.2.2.2.2.2.2.1 N m x14 v1) hb_ hb0_ rfl rfl q2772 q2688 q2701 q2702 q139 q2703 q2687 ⟨by decide +kernel, by decide +kernel, by decide +kernel⟩ (Nat.le_of_ble_eq_true rfl) (Nat.le_of_ble_eq_true rfl) rfl (Nat.le_of_ble_eq_true rfl) dX11_among_12 15 rfl rfl hen_j (kk_j kk_) (kx_n he_j)
      refine x_csr (kd := 9) (fun hb_ hb0_ => ?_) ?_
      · exact x_callA (enc := en_j) (owner := "MasterTree$Filter") C 13 1 [vr_ v1] 9 (ctX10_among C.2.2.2.2.2.2.2.2.1 N m x14 v1) hb_ hb0_ rfl rfl q2772 q2688 q2689 q2690 q140 q2691 q2687 ⟨by decide +kernel, by decide +kernel, by decide +kernel⟩ (Nat.le_of_ble_eq_true rfl) (Nat.le_of_ble_eq_true rfl) rfl (Nat.le_of_ble_eq_true rfl) dX11_among_12 15 rfl rfl hen_j (kk_j kk_) (kx_n he_j)
      refine x_csr (kd := 10) (fun hb_ hb0_ => ?_) ?_
      · exact x_callA (enc := en_j) (owner := "MasterTree$Filter") C 30 1 [vr_ v1] 10 (ctX11_among_d10 C.2.2.2.2.2.2.2.2.1 N m x14 v1) hb_ hb0_ rfl rfl q2772 q2688 q2769 q2770 q141 q2771 q2687 ⟨by decide +kernel, by decide +kernel, by decide +kernel⟩ (Nat.le_of_ble_eq_true rfl) (Nat.le_of_ble_eq_true rfl) rfl (Nat.le_of_ble_eq_true rfl) dX11_among_12 15 rfl rfl hen_j (kk_j kk_) (kx_n he_j)
      refine x_csr (kd := 11) (fun hb_ hb0_ => ?_) ?_
      · exact x_callA (enc := en_j) (owner := "MasterTree$Filter") C 30 1 [vr_ v1] 11 (ctX12_among_d10 C.2.2.2.2.2.2.2.2.1 N m x14 v1) hb_ hb0_ rfl rfl q2772 q2688 q2781 q2773 q142 q2774 q2687 ⟨by decide +kernel, by decide +kernel, by decide +kernel⟩ (Nat.le_of_ble_eq_true rfl) (Nat.le_of_ble_eq_true rfl) rfl (Nat.le_of_ble_eq_true rfl) dX11_among_12 15 rfl rfl hen_j (kk_j kk_) (kx_n he_j)
      exact Sm_bn
    refine s_aload_n C rfl 0 rfl dX11_among_15 16 rfl ?_
    refine x_gr C 9 (RX11, TX11, 3) rfl 1 (Nat.le_of_ble_eq_true rfl) q2641 (Or.inl rfl) rfl 10 rfl dX11_among_16 19 rfl (fun x20 => ?_)
    refine s_aload_n C rfl 1 rfl dX11_among_19 20 rfl ?_
    refine x_wj [vj_ x15] 23 (fun kk_ => ?_) (fun x21 m16 k1 n1 => ?_)
    · refine x_csr (kd := 8) (fun hb_ hb0_ => ?_) ?_
      · exact x_callA (enc := en_j) (owner := "MasterTree$Filter") C 19 1 [vr_ v1] 8 (ctX9_among C.2.2.2.2.2.2.2.2.1 N m11 x20 v1) hb_ hb0_ rfl rfl q2772 q2688 q2701 q2702 q139 q2703 q2687 ⟨by decide +kernel, by decide +kernel, by decide +kernel⟩ (Nat.le_of_ble_eq_true rfl) (Nat.le_of_ble_eq_true rfl) rfl (Nat.le_of_ble_eq_true rfl) dX11_among_20 23 rfl rfl hen_j (kk_j kk_) (kx_n he_j)
      refine x_csr (kd := 9) (fun hb_ hb0_ => ?_) ?_
      · exact x_callA (enc := en_j) (owner := "MasterTree$Filter") C 13 1 [vr_ v1] 9 (ctX10_among C.2.2.2.2.2.2.2.2.1 N m11 x20 v1) hb_ hb0_ rfl rfl q2772 q2688 q2689 q2690 q140 q2691 q2687 ⟨by decide +kernel, by decide +kernel, by decide +kernel⟩ (Nat.le_of_ble_eq_true rfl) (Nat.le_of_ble_eq_true rfl) rfl (Nat.le_of_ble_eq_true rfl) dX11_among_20 23 rfl rfl hen_j (kk_j kk_) (kx_n he_j)
      refine x_csr (kd := 10) (fun hb_ hb0_ => ?_) ?_
      · exact x_callA (enc := en_j) (owner := "MasterTree$Filter") C 30 1 [vr_ v1] 10 (ctX11_among_d10 C.2.2.2.2.2.2.2.2.1 N m11 x20 v1) hb_ hb0_ rfl rfl q2772 q2688 q2769 q2770 q141 q2771 q2687 ⟨by decide +kernel, by decide +kernel, by decide +kernel⟩ (Nat.le_of_ble_eq_true rfl) (Nat.le_of_ble_eq_true rfl) rfl (Nat.le_of_ble_eq_true rfl) dX11_among_20 23 rfl rfl hen_j (kk_j kk_) (kx_n he_j)
      refine x_csr (kd := 11) (fun hb_ hb0_ => ?_) ?_
      · exact x_callA (enc := en_j) (owner := "MasterTree$Filter") C 30 1 [vr_ v1] 11 (ctX12_among_d10 C.2.2.2.2.2.2.2.2.1 N m11 x20 v1) hb_ hb0_ rfl rfl q2772 q2688 q2781 q2773 q142 q2774 q2687 ⟨by decide +kernel, by decide +kernel, by decide +kernel⟩ (Nat.le_of_ble_eq_true rfl) (Nat.le_of_ble_eq_true rfl) rfl (Nat.le_of_ble_eq_true rfl) dX11_among_20 23 rfl rfl hen_j (kk_j kk_) (kx_n he_j)
      exact Sm_bn
    refine s_land C dX11_among_23 24 rfl ?_
    refine s_goto C (off := 20) 44 dX11_among_24 rfl ?_
    refine Sm_sub [] rfl ?_
    exact wX11_among_d11_b44 C hret h0 hin N _ _ _ _
theorem hdX11_among_d11 : ((⟨"MasterTree$Combined", "among", "(LMasterTree$Master;)J"⟩ : MethodName)).cls ≠ "java/lang/invoke/MethodHandle" ∧ ((⟨"MasterTree$Combined", "among", "(LMasterTree$Master;)J"⟩ : MethodName)).cls ≠ "java/lang/invoke/VarHandle" ∧ (parseMethodDescriptor ((⟨"MasterTree$Combined", "among", "(LMasterTree$Master;)J"⟩ : MethodName)).desc).map (fun d => d.parameters.length) = some 1 := ⟨by decide +kernel, by decide +kernel, by decide +kernel⟩
theorem ctX11_among_d11 {l : Launch} {g : GG} (hst : l.stackTraces = false) (N : Nat) (m : Mm) (v0 : Option Nat) (v1 : Option Nat) : ∀ v m' k n, fX11_among_d11 (gE_ g) N m v0 v1 = some (v, m', k, n) → Ct_ l g (⟨"MasterTree$Combined", "among", "(LMasterTree$Master;)J"⟩ : MethodName) (ws_ (⟨"MasterTree$Combined", "among", "(LMasterTree$Master;)J"⟩ : MethodName) cX11_among 2 (Option.some Jvm.ClassFile.FieldType.long)) 31 [vr_ v0, vr_ v1] m (en_j v) m' k n :=
  Ct_of (by decide +kernel) rfl hst (Nat.le_of_ble_eq_true rfl) rfl (fun E C hret h0 hin => wX11_among_d11 C hret h0 hin N m v0 v1 0 0)
theorem wX12_among_d11 {l : Launch} {g : GG} {E : Me_} (C : Cx_ l g E "MasterTree$Not" cX12_among 2 31) (hret : (eT_ E).sig.returnType = (Option.some Jvm.ClassFile.FieldType.long)) (h0 : ∀ x ∈ (eC_ E).exceptionTable.toList, False) (hin : (eT_ E).name = "among") (N : Nat) : ∀ (m : Mm) (v0 : Option Nat) (v1 : Option Nat) (k n : Nat), Sm_ l g E 2 en_j (fX12_among_d11 (gE_ g) N m v0 v1) k n 0 [(0, vr_ v0), (1, vr_ v1)] [] m := by
  intro m v0 v1 k n
  unfold fX12_among_d11
  refine s_aload_n C rfl 1 rfl dX12_among_0 1 rfl ?_
  refine x_ck (fun hb_ hb0_ => ?_)
  refine x_callV (enc := en_j) C 12 0 [] 2 (ctX2_liveOnes C.2.2.2.2.2.2.2.2.1 N m v1) hb_ hb0_ rfl rfl q2775 q2776 q2777 q85 q2778 hdX2_liveOnes (Nat.le_of_ble_eq_true rfl) (Nat.le_of_ble_eq_true rfl) rfl (Nat.le_of_ble_eq_true rfl) dX12_among_1 4 rfl rfl hen_j (kk_j (fun x1 m1 k1 n1 => ?_)) (kx_n he_j)
  refine s_aload_n C rfl 0 rfl dX12_among_4 5 rfl ?_
  refine x_gr C 10 (RX12, TX12, 1) rfl 0 (Nat.le_of_ble_eq_true rfl) q2666 (Or.inl rfl) rfl 11 rfl dX12_among_5 8 rfl (fun x2 => ?_)
  refine s_aload_n C rfl 1 rfl dX12_among_8 9 rfl ?_
  refine x_wj [vj_ x1] 12 (fun kk_ => ?_) (fun x3 m2 k1 n1 => ?_)
  · refine x_csr (kd := 8) (fun hb_ hb0_ => ?_) ?_
    · exact x_callA (enc := en_j) (owner := "MasterTree$Filter") C 19 1 [vr_ v1] 8 (ctX9_among C.2.2.2.2.2.2.2.2.1 N m1 x2 v1) hb_ hb0_ rfl rfl q2779 q2688 q2701 q2702 q139 q2703 q2687 ⟨by decide +kernel, by decide +kernel, by decide +kernel⟩ (Nat.le_of_ble_eq_true rfl) (Nat.le_of_ble_eq_true rfl) rfl (Nat.le_of_ble_eq_true rfl) dX12_among_9 12 rfl rfl hen_j (kk_j kk_) (kx_n he_j)
    refine x_csr (kd := 9) (fun hb_ hb0_ => ?_) ?_
    · exact x_callA (enc := en_j) (owner := "MasterTree$Filter") C 13 1 [vr_ v1] 9 (ctX10_among C.2.2.2.2.2.2.2.2.1 N m1 x2 v1) hb_ hb0_ rfl rfl q2779 q2688 q2689 q2690 q140 q2691 q2687 ⟨by decide +kernel, by decide +kernel, by decide +kernel⟩ (Nat.le_of_ble_eq_true rfl) (Nat.le_of_ble_eq_true rfl) rfl (Nat.le_of_ble_eq_true rfl) dX12_among_9 12 rfl rfl hen_j (kk_j kk_) (kx_n he_j)
    refine x_csr (kd := 10) (fun hb_ hb0_ => ?_) ?_
    · exact x_callA (enc := en_j) (owner := "MasterTree$Filter") C 30 1 [vr_ v1] 10 (ctX11_among_d10 C.2.2.2.2.2.2.2.2.1 N m1 x2 v1) hb_ hb0_ rfl rfl q2779 q2688 q2769 q2770 q141 q2771 q2687 ⟨by decide +kernel, by decide +kernel, by decide +kernel⟩ (Nat.le_of_ble_eq_true rfl) (Nat.le_of_ble_eq_true rfl) rfl (Nat.le_of_ble_eq_true rfl) dX12_among_9 12 rfl rfl hen_j (kk_j kk_) (kx_n he_j)
    refine x_csr (kd := 11) (fun hb_ hb0_ => ?_) ?_
    · exact x_callA (enc := en_j) (owner := "MasterTree$Filter") C 30 1 [vr_ v1] 11 (ctX12_among_d10 C.2.2.2.2.2.2.2.2.1 N m1 x2 v1) hb_ hb0_ rfl rfl q2779 q2688 q2781 q2773 q142 q2774 q2687 ⟨by decide +kernel, by decide +kernel, by decide +kernel⟩ (Nat.le_of_ble_eq_true rfl) (Nat.le_of_ble_eq_true rfl) rfl (Nat.le_of_ble_eq_true rfl) dX12_among_9 12 rfl rfl hen_j (kk_j kk_) (kx_n he_j)
    exact Sm_bn
  refine s_ldc2 C (-1) q2780 dX12_among_12 15 rfl ?_
  refine s_lxor C dX12_among_15 16 rfl ?_
  refine s_land C dX12_among_16 17 rfl ?_
  exact x_lret C hret rfl dX12_among_17
theorem hdX12_among_d11 : ((⟨"MasterTree$Not", "among", "(LMasterTree$Master;)J"⟩ : MethodName)).cls ≠ "java/lang/invoke/MethodHandle" ∧ ((⟨"MasterTree$Not", "among", "(LMasterTree$Master;)J"⟩ : MethodName)).cls ≠ "java/lang/invoke/VarHandle" ∧ (parseMethodDescriptor ((⟨"MasterTree$Not", "among", "(LMasterTree$Master;)J"⟩ : MethodName)).desc).map (fun d => d.parameters.length) = some 1 := ⟨by decide +kernel, by decide +kernel, by decide +kernel⟩
theorem ctX12_among_d11 {l : Launch} {g : GG} (hst : l.stackTraces = false) (N : Nat) (m : Mm) (v0 : Option Nat) (v1 : Option Nat) : ∀ v m' k n, fX12_among_d11 (gE_ g) N m v0 v1 = some (v, m', k, n) → Ct_ l g (⟨"MasterTree$Not", "among", "(LMasterTree$Master;)J"⟩ : MethodName) (ws_ (⟨"MasterTree$Not", "among", "(LMasterTree$Master;)J"⟩ : MethodName) cX12_among 2 (Option.some Jvm.ClassFile.FieldType.long)) 31 [vr_ v0, vr_ v1] m (en_j v) m' k n :=
  Ct_of (by decide +kernel) rfl hst (Nat.le_of_ble_eq_true rfl) rfl (fun E C hret h0 hin => wX12_among_d11 C hret h0 hin N m v0 v1 0 0)
theorem wX11_among_d12_b44 {l : Launch} {g : GG} {E : Me_} (C : Cx_ l g E "MasterTree$Combined" cX11_among 2 32) (hret : (eT_ E).sig.returnType = (Option.some Jvm.ClassFile.FieldType.long)) (h0 : ∀ x ∈ (eC_ E).exceptionTable.toList, False) (hin : (eT_ E).name = "among") (N : Nat) : ∀ (m : Mm) (s0 : Int64) (k n : Nat), Sm_ l g E 2 en_j (fX11_among_d12_b44 (gE_ g) N m s0) k n 44 [] [vj_ s0] m := by
  intro m s0 k n
  unfold fX11_among_d12_b44
  exact x_lret C hret rfl dX11_among_44
theorem wX11_among_d12 {l : Launch} {g : GG} {E : Me_} (C : Cx_ l g E "MasterTree$Combined" cX11_among 2 32) (hret : (eT_ E).sig.returnType = (Option.some Jvm.ClassFile.FieldType.long)) (h0 : ∀ x ∈ (eC_ E).exceptionTable.toList, False) (hin : (eT_ E).name = "among") (N : Nat) : ∀ (m : Mm) (v0 : Option Nat) (v1 : Option Nat) (k n : Nat), Sm_ l g E 2 en_j (fX11_among_d12 (gE_ g) N m v0 v1) k n 0 [(0, vr_ v0), (1, vr_ v1)] [] m := by
  intro m v0 v1 k n
  unfold fX11_among_d12
  refine s_aload_n C rfl 0 rfl dX11_among_0 1 rfl ?_
  refine x_gi C 9 (RX11, TX11, 3) rfl 2 (Nat.le_of_ble_eq_true rfl) q2642 (Or.inl rfl) rfl 10 rfl dX11_among_1 4 rfl (fun x1 => ?_)
  refine s_if_eq C dX11_among_4 27 rfl 7 rfl (fun c_ => ?_) (fun c_ => ?_)
  · refine s_aload_n C rfl 0 rfl dX11_among_27 28 rfl ?_
    refine x_gr C 9 (RX11, TX11, 3) rfl 0 (Nat.le_of_ble_eq_true rfl) q2640 (Or.inl rfl) rfl 10 rfl dX11_among_28 31 rfl (fun x2 => ?_)
    refine s_aload_n C rfl 1 rfl dX11_among_31 32 rfl ?_
    refine x_wj [] 35 (fun kk_ => ?_) (fun x3 m1 k1 n1 => ?_)
    · refine x_csr (kd := 8) (fun hb_ hb0_ => ?_) ?_
      · exact x_callA (enc := en_j) (owner := "MasterTree$Filter") C 19 1 [vr_ v1] 8 (ctX9_among C.2.2.2.2.2.2.2.2.1 N m x2 v1) hb_ hb0_ rfl rfl q2772 q2688 q2701 q2702 q139 q2703 q2687 ⟨by decide +kernel, by decide +kernel, by decide +kernel⟩ (Nat.le_of_ble_eq_true rfl) (Nat.le_of_ble_eq_true rfl) rfl (Nat.le_of_ble_eq_true rfl) dX11_among_32 35 rfl rfl hen_j (kk_j kk_) (kx_n he_j)
      refine x_csr (kd := 9) (fun hb_ hb0_ => ?_) ?_
      · exact x_callA (enc := en_j) (owner := "MasterTree$Filter") C 13 1 [vr_ v1] 9 (ctX10_among C.2.2.2.2.2.2.2.2.1 N m x2 v1) hb_ hb0_ rfl rfl q2772 q2688 q2689 q2690 q140 q2691 q2687 ⟨by decide +kernel, by decide +kernel, by decide +kernel⟩ (Nat.le_of_ble_eq_true rfl) (Nat.le_of_ble_eq_true rfl) rfl (Nat.le_of_ble_eq_true rfl) dX11_among_32 35 rfl rfl hen_j (kk_j kk_) (kx_n he_j)
      refine x_csr (kd := 10) (fun hb_ hb0_ => ?_) ?_
      · exact x_callA (enc := en_j) (owner := "MasterTree$Filter") C 31 1 [vr_ v1] 10 (ctX11_among_d11 C.2.2.2.2.2.2.2.2.1 N m x2 v1) hb_ hb0_ rfl rfl q2772 q2688 q2769 q2770 q141 q2771 q2687 ⟨by decide +kernel, by decide +kernel, by decide +kernel⟩ (Nat.le_of_ble_eq_true rfl) (Nat.le_of_ble_eq_true rfl) rfl (Nat.le_of_ble_eq_true rfl) dX11_among_32 35 rfl rfl hen_j (kk_j kk_) (kx_n he_j)
      refine x_csr (kd := 11) (fun hb_ hb0_ => ?_) ?_
      · exact x_callA (enc := en_j) (owner := "MasterTree$Filter") C 31 1 [vr_ v1] 11 (ctX12_among_d11 C.2.2.2.2.2.2.2.2.1 N m x2 v1) hb_ hb0_ rfl rfl q2772 q2688 q2781 q2773 q142 q2774 q2687 ⟨by decide +kernel, by decide +kernel, by decide +kernel⟩ (Nat.le_of_ble_eq_true rfl) (Nat.le_of_ble_eq_true rfl) rfl (Nat.le_of_ble_eq_true rfl) dX11_among_32 35 rfl rfl hen_j (kk_j kk_) (kx_n he_j)
      exact Sm_bn
    refine s_aload_n C rfl 0 rfl dX11_among_35 36 rfl ?_
    refine x_gr C 9 (RX11, TX11, 3) rfl 1 (Nat.le_of_ble_eq_true rfl) q2641 (Or.inl rfl) rfl 10 rfl dX11_among_36 39 rfl (fun x8 => ?_)
    refine s_aload_n C rfl 1 rfl dX11_among_39 40 rfl ?_
    refine x_wj [vj_ x3] 43 (fun kk_ => ?_) (fun x9 m6 k1 n1 => ?_)
    · refine x_csr (kd := 8) (fun hb_ hb0_ => ?_) ?_
      · exact x_callA (enc := en_j) (owner := "MasterTree$Filter") C 19 1 [vr_ v1] 8 (ctX9_among C.2.2.2.2.2.2.2.2.1 N m1 x8 v1) hb_ hb0_ rfl rfl q2772 q2688 q2701 q2702 q139 q2703 q2687 ⟨by decide +kernel, by decide +kernel, by decide +kernel⟩ (Nat.le_of_ble_eq_true rfl) (Nat.le_of_ble_eq_true rfl) rfl (Nat.le_of_ble_eq_true rfl) dX11_among_40 43 rfl rfl hen_j (kk_j kk_) (kx_n he_j)
      refine x_csr (kd := 9) (fun hb_ hb0_ => ?_) ?_
      · exact x_callA (enc := en_j) (owner := "MasterTree$Filter") C 13 1 [vr_ v1] 9 (ctX10_among C.2.2.2.2.2.2.2.2.1 N m1 x8 v1) hb_ hb0_ rfl rfl q2772 q2688 q2689 q2690 q140 q2691 q2687 ⟨by decide +kernel, by decide +kernel, by decide +kernel⟩ (Nat.le_of_ble_eq_true rfl) (Nat.le_of_ble_eq_true rfl) rfl (Nat.le_of_ble_eq_true rfl) dX11_among_40 43 rfl rfl hen_j (kk_j kk_) (kx_n he_j)
      refine x_csr (kd := 10) (fun hb_ hb0_ => ?_) ?_
      · exact x_callA (enc := en_j) (owner := "MasterTree$Filter") C 31 1 [vr_ v1] 10 (ctX11_among_d11 C.2.2.2.2.2.2.2.2.1 N m1 x8 v1) hb_ hb0_ rfl rfl q2772 q2688 q2769 q2770 q141 q2771 q2687 ⟨by decide +kernel, by decide +kernel, by decide +kernel⟩ (Nat.le_of_ble_eq_true rfl) (Nat.le_of_ble_eq_true rfl) rfl (Nat.le_of_ble_eq_true rfl) dX11_among_40 43 rfl rfl hen_j (kk_j kk_) (kx_n he_j)
      refine x_csr (kd := 11) (fun hb_ hb0_ => ?_) ?_
      · exact x_callA (enc := en_j) (owner := "MasterTree$Filter") C 31 1 [vr_ v1] 11 (ctX12_among_d11 C.2.2.2.2.2.2.2.2.1 N m1 x8 v1) hb_ hb0_ rfl rfl q2772 q2688 q2781 q2773 q142 q2774 q2687 ⟨by decide +kernel, by decide +kernel, by decide +kernel⟩ (Nat.le_of_ble_eq_true rfl) (Nat.le_of_ble_eq_true rfl) rfl (Nat.le_of_ble_eq_true rfl) dX11_among_40 43 rfl rfl hen_j (kk_j kk_) (kx_n he_j)
      exact Sm_bn
    refine s_lor C dX11_among_43 44 rfl ?_
    refine Sm_sub [] rfl ?_
    exact wX11_among_d12_b44 C hret h0 hin N _ _ _ _
  · refine s_aload_n C rfl 0 rfl dX11_among_7 8 rfl ?_
    refine x_gr C 9 (RX11, TX11, 3) rfl 0 (Nat.le_of_ble_eq_true rfl) q2640 (Or.inl rfl) rfl 10 rfl dX11_among_8 11 rfl (fun x14 => ?_)
    refine s_aload_n C rfl 1 rfl dX11_among_11 12 rfl ?_
    refine x_wj [] 15 (fun kk_ => ?_) (fun x15 m11 k1 n1 => ?_)
    · refine x_csr (kd := 8) (fun hb_ hb0_ => ?_) ?_
      · exact x_callA (enc := en_j) (owner := "MasterTree$Filter") C 19 1 [vr_ v1] 8 (ctX9_among C.2.2.2.2.2.2.2.2.1 N m x14 v1) hb_ hb0_ rfl rfl q2772 q2688 q2701 q2702 q139 q2703 q2687 ⟨by decide +kernel, by decide +kernel, by decide +kernel⟩ (Nat.le_of_ble_eq_true rfl) (Nat.le_of_ble_eq_true rfl) rfl (Nat.le_of_ble_eq_true rfl) dX11_among_12 15 rfl rfl hen_j (kk_j kk_) (kx_n he_j)
      refine x_csr (kd := 9) (fun hb_ hb0_ => ?_) ?_
      · exact x_callA (enc := en_j) (owner := "MasterTree$Filter") C 13 1 [vr_ v1] 9 (ctX10_among C.2.2.2.2.2.2.2.2.1 N m x14 v1) hb_ hb0_ rfl rfl q2772 q2688 q2689 q2690 q140 q2691 q2687 ⟨by decide +kernel, by decide +kernel, by decide +kernel⟩ (Nat.le_of_ble_eq_true rfl) (Nat.le_of_ble_eq_true rfl) rfl (Nat.le_of_ble_eq_true rfl) dX11_among_12 15 rfl rfl hen_j (kk_j kk_) (kx_n he_j)
      refine x_csr (kd := 10) (fun hb_ hb0_ => ?_) ?_
      · exact x_callA (enc := en_j) (owner := "MasterTree$Filter") C 31 1 [vr_ v1] 10 (ctX11_among_d11 C.2.2.2.2.2.2.2.2.1 N m x14 v1) hb_ hb0_ rfl rfl q2772 q2688 q2769 q2770 q141 q2771 q2687 ⟨by decide +kernel, by decide +kernel, by decide +kernel⟩ (Nat.le_of_ble_eq_true rfl) (Nat.le_of_ble_eq_true rfl) rfl (Nat.le_of_ble_eq_true rfl) dX11_among_12 15 rfl rfl hen_j (kk_j kk_) (kx_n he_j)
      refine x_csr (kd := 11) (fun hb_ hb0_ => ?_) ?_
      · exact x_callA (enc := en_j) (owner := "MasterTree$Filter") C 31 1 [vr_ v1] 11 (ctX12_among_d11 C.2.2.2.2.2.2.2.2.1 N m x14 v1) hb_ hb0_ rfl rfl q2772 q2688 q2781 q2773 q142 q2774 q2687 ⟨by decide +kernel, by decide +kernel, by decide +kernel⟩ (Nat.le_of_ble_eq_true rfl) (Nat.le_of_ble_eq_true rfl) rfl (Nat.le_of_ble_eq_true rfl) dX11_among_12 15 rfl rfl hen_j (kk_j kk_) (kx_n he_j)
      exact Sm_bn
    refine s_aload_n C rfl 0 rfl dX11_among_15 16 rfl ?_
    refine x_gr C 9 (RX11, TX11, 3) rfl 1 (Nat.le_of_ble_eq_true rfl) q2641 (Or.inl rfl) rfl 10 rfl dX11_among_16 19 rfl (fun x20 => ?_)
    refine s_aload_n C rfl 1 rfl dX11_among_19 20 rfl ?_
    refine x_wj [vj_ x15] 23 (fun kk_ => ?_) (fun x21 m16 k1 n1 => ?_)
    · refine x_csr (kd := 8) (fun hb_ hb0_ => ?_) ?_
      · exact x_callA (enc := en_j) (owner := "MasterTree$Filter") C 19 1 [vr_ v1] 8 (ctX9_among C.2.2.2.2.2.2.2.2.1 N m11 x20 v1) hb_ hb0_ rfl rfl q2772 q2688 q2701 q2702 q139 q2703 q2687 ⟨by decide +kernel, by decide +kernel, by decide +kernel⟩ (Nat.le_of_ble_eq_true rfl) (Nat.le_of_ble_eq_true rfl) rfl (Nat.le_of_ble_eq_true rfl) dX11_among_20 23 rfl rfl hen_j (kk_j kk_) (kx_n he_j)
      refine x_csr (kd := 9) (fun hb_ hb0_ => ?_) ?_
      · exact x_callA (enc := en_j) (owner := "MasterTree$Filter") C 13 1 [vr_ v1] 9 (ctX10_among C.2.2.2.2.2.2.2.2.1 N m11 x20 v1) hb_ hb0_ rfl rfl q2772 q2688 q2689 q2690 q140 q2691 q2687 ⟨by decide +kernel, by decide +kernel, by decide +kernel⟩ (Nat.le_of_ble_eq_true rfl) (Nat.le_of_ble_eq_true rfl) rfl (Nat.le_of_ble_eq_true rfl) dX11_among_20 23 rfl rfl hen_j (kk_j kk_) (kx_n he_j)
      refine x_csr (kd := 10) (fun hb_ hb0_ => ?_) ?_
      · exact x_callA (enc := en_j) (owner := "MasterTree$Filter") C 31 1 [vr_ v1] 10 (ctX11_among_d11 C.2.2.2.2.2.2.2.2.1 N m11 x20 v1) hb_ hb0_ rfl rfl q2772 q2688 q2769 q2770 q141 q2771 q2687 ⟨by decide +kernel, by decide +kernel, by decide +kernel⟩ (Nat.le_of_ble_eq_true rfl) (Nat.le_of_ble_eq_true rfl) rfl (Nat.le_of_ble_eq_true rfl) dX11_among_20 23 rfl rfl hen_j (kk_j kk_) (kx_n he_j)
      refine x_csr (kd := 11) (fun hb_ hb0_ => ?_) ?_
      · exact x_callA (enc := en_j) (owner := "MasterTree$Filter") C 31 1 [vr_ v1] 11 (ctX12_among_d11 C.2.2.2.2.2.2.2.2.1 N m11 x20 v1) hb_ hb0_ rfl rfl q2772 q2688 q2781 q2773 q142 q2774 q2687 ⟨by decide +kernel, by decide +kernel, by decide +kernel⟩ (Nat.le_of_ble_eq_true rfl) (Nat.le_of_ble_eq_true rfl) rfl (Nat.le_of_ble_eq_true rfl) dX11_among_20 23 rfl rfl hen_j (kk_j kk_) (kx_n he_j)
      exact Sm_bn
    refine s_land C dX11_among_23 24 rfl ?_
    refine s_goto C (off := 20) 44 dX11_among_24 rfl ?_
    refine Sm_sub [] rfl ?_
    exact wX11_among_d12_b44 C hret h0 hin N _ _ _ _
theorem hdX11_among_d12 : ((⟨"MasterTree$Combined", "among", "(LMasterTree$Master;)J"⟩ : MethodName)).cls ≠ "java/lang/invoke/MethodHandle" ∧ ((⟨"MasterTree$Combined", "among", "(LMasterTree$Master;)J"⟩ : MethodName)).cls ≠ "java/lang/invoke/VarHandle" ∧ (parseMethodDescriptor ((⟨"MasterTree$Combined", "among", "(LMasterTree$Master;)J"⟩ : MethodName)).desc).map (fun d => d.parameters.length) = some 1 := ⟨by decide +kernel, by decide +kernel, by decide +kernel⟩
theorem ctX11_among_d12 {l : Launch} {g : GG} (hst : l.stackTraces = false) (N : Nat) (m : Mm) (v0 : Option Nat) (v1 : Option Nat) : ∀ v m' k n, fX11_among_d12 (gE_ g) N m v0 v1 = some (v, m', k, n) → Ct_ l g (⟨"MasterTree$Combined", "among", "(LMasterTree$Master;)J"⟩ : MethodName) (ws_ (⟨"MasterTree$Combined", "among", "(LMasterTree$Master;)J"⟩ : MethodName) cX11_among 2 (Option.some Jvm.ClassFile.FieldType.long)) 32 [vr_ v0, vr_ v1] m (en_j v) m' k n :=
  Ct_of (by decide +kernel) rfl hst (Nat.le_of_ble_eq_true rfl) rfl (fun E C hret h0 hin => wX11_among_d12 C hret h0 hin N m v0 v1 0 0)
theorem wX12_among_d12 {l : Launch} {g : GG} {E : Me_} (C : Cx_ l g E "MasterTree$Not" cX12_among 2 32) (hret : (eT_ E).sig.returnType = (Option.some Jvm.ClassFile.FieldType.long)) (h0 : ∀ x ∈ (eC_ E).exceptionTable.toList, False) (hin : (eT_ E).name = "among") (N : Nat) : ∀ (m : Mm) (v0 : Option Nat) (v1 : Option Nat) (k n : Nat), Sm_ l g E 2 en_j (fX12_among_d12 (gE_ g) N m v0 v1) k n 0 [(0, vr_ v0), (1, vr_ v1)] [] m := by
  intro m v0 v1 k n
  unfold fX12_among_d12
  refine s_aload_n C rfl 1 rfl dX12_among_0 1 rfl ?_
  refine x_ck (fun hb_ hb0_ => ?_)
  refine x_callV (enc := en_j) C 12 0 [] 2 (ctX2_liveOnes C.2.2.2.2.2.2.2.2.1 N m v1) hb_ hb0_ rfl rfl q2775 q2776 q2777 q85 q2778 hdX2_liveOnes (Nat.le_of_ble_eq_true rfl) (Nat.le_of_ble_eq_true rfl) rfl (Nat.le_of_ble_eq_true rfl) dX12_among_1 4 rfl rfl hen_j (kk_j (fun x1 m1 k1 n1 => ?_)) (kx_n he_j)
  refine s_aload_n C rfl 0 rfl dX12_among_4 5 rfl ?_
  refine x_gr C 10 (RX12, TX12, 1) rfl 0 (Nat.le_of_ble_eq_true rfl) q2666 (Or.inl rfl) rfl 11 rfl dX12_among_5 8 rfl (fun x2 => ?_)
  refine s_aload_n C rfl 1 rfl dX12_among_8 9 rfl ?_
  refine x_wj [vj_ x1] 12 (fun kk_ => ?_) (fun x3 m2 k1 n1 => ?_)
  · refine x_csr (kd := 8) (fun hb_ hb0_ => ?_) ?_
    · exact x_callA (enc := en_j) (owner := "MasterTree$Filter") C 19 1 [vr_ v1] 8 (ctX9_among C.2.2.2.2.2.2.2.2.1 N m1 x2 v1) hb_ hb0_ rfl rfl q2779 q2688 q2701 q2702 q139 q2703 q2687 ⟨by decide +kernel, by decide +kernel, by decide +kernel⟩ (Nat.le_of_ble_eq_true rfl) (Nat.le_of_ble_eq_true rfl) rfl (Nat.le_of_ble_eq_true rfl) dX12_among_9 12 rfl rfl hen_j (kk_j kk_) (kx_n he_j)
    refine x_csr (kd := 9) (fun hb_ hb0_ => ?_) ?_
    · exact x_callA (enc := en_j) (owner := "MasterTree$Filter") C 13 1 [vr_ v1] 9 (ctX10_among C.2.2.2.2.2.2.2.2.1 N m1 x2 v1) hb_ hb0_ rfl rfl q2779 q2688 q2689 q2690 q140 q2691 q2687 ⟨by decide +kernel, by decide +kernel, by decide +kernel⟩ (Nat.le_of_ble_eq_true rfl) (Nat.le_of_ble_eq_true rfl) rfl (Nat.le_of_ble_eq_true rfl) dX12_among_9 12 rfl rfl hen_j (kk_j kk_) (kx_n he_j)
    refine x_csr (kd := 10) (fun hb_ hb0_ => ?_) ?_
    · exact x_callA (enc := en_j) (owner := "MasterTree$Filter") C 31 1 [vr_ v1] 10 (ctX11_among_d11 C.2.2.2.2.2.2.2.2.1 N m1 x2 v1) hb_ hb0_ rfl rfl q2779 q2688 q2769 q2770 q141 q2771 q2687 ⟨by decide +kernel, by decide +kernel, by decide +kernel⟩ (Nat.le_of_ble_eq_true rfl) (Nat.le_of_ble_eq_true rfl) rfl (Nat.le_of_ble_eq_true rfl) dX12_among_9 12 rfl rfl hen_j (kk_j kk_) (kx_n he_j)
    refine x_csr (kd := 11) (fun hb_ hb0_ => ?_) ?_
    · exact x_callA (enc := en_j) (owner := "MasterTree$Filter") C 31 1 [vr_ v1] 11 (ctX12_among_d11 C.2.2.2.2.2.2.2.2.1 N m1 x2 v1) hb_ hb0_ rfl rfl q2779 q2688 q2781 q2773 q142 q2774 q2687 ⟨by decide +kernel, by decide +kernel, by decide +kernel⟩ (Nat.le_of_ble_eq_true rfl) (Nat.le_of_ble_eq_true rfl) rfl (Nat.le_of_ble_eq_true rfl) dX12_among_9 12 rfl rfl hen_j (kk_j kk_) (kx_n he_j)
    exact Sm_bn
  refine s_ldc2 C (-1) q2780 dX12_among_12 15 rfl ?_
  refine s_lxor C dX12_among_15 16 rfl ?_
  refine s_land C dX12_among_16 17 rfl ?_
  exact x_lret C hret rfl dX12_among_17
theorem hdX12_among_d12 : ((⟨"MasterTree$Not", "among", "(LMasterTree$Master;)J"⟩ : MethodName)).cls ≠ "java/lang/invoke/MethodHandle" ∧ ((⟨"MasterTree$Not", "among", "(LMasterTree$Master;)J"⟩ : MethodName)).cls ≠ "java/lang/invoke/VarHandle" ∧ (parseMethodDescriptor ((⟨"MasterTree$Not", "among", "(LMasterTree$Master;)J"⟩ : MethodName)).desc).map (fun d => d.parameters.length) = some 1 := ⟨by decide +kernel, by decide +kernel, by decide +kernel⟩
theorem ctX12_among_d12 {l : Launch} {g : GG} (hst : l.stackTraces = false) (N : Nat) (m : Mm) (v0 : Option Nat) (v1 : Option Nat) : ∀ v m' k n, fX12_among_d12 (gE_ g) N m v0 v1 = some (v, m', k, n) → Ct_ l g (⟨"MasterTree$Not", "among", "(LMasterTree$Master;)J"⟩ : MethodName) (ws_ (⟨"MasterTree$Not", "among", "(LMasterTree$Master;)J"⟩ : MethodName) cX12_among 2 (Option.some Jvm.ClassFile.FieldType.long)) 32 [vr_ v0, vr_ v1] m (en_j v) m' k n :=
  Ct_of (by decide +kernel) rfl hst (Nat.le_of_ble_eq_true rfl) rfl (fun E C hret h0 hin => wX12_among_d12 C hret h0 hin N m v0 v1 0 0)
theorem wX11_among_d13_b44 {l : Launch} {g : GG} {E : Me_} (C : Cx_ l g E "MasterTree$Combined" cX11_among 2 33) (hret : (eT_ E).sig.returnType = (Option.some Jvm.ClassFile.FieldType.long)) (h0 : ∀ x ∈ (eC_ E).exceptionTable.toList, False) (hin : (eT_ E).name = "among") (N : Nat) : ∀ (m : Mm) (s0 : Int64) (k n : Nat), Sm_ l g E 2 en_j (fX11_among_d13_b44 (gE_ g) N m s0) k n 44 [] [vj_ s0] m := by
  intro m s0 k n
  unfold fX11_among_d13_b44
  exact x_lret C hret rfl dX11_among_44
theorem wX11_among_d13 {l : Launch} {g : GG} {E : Me_} (C : Cx_ l g E "MasterTree$Combined" cX11_among 2 33) (hret : (eT_ E).sig.returnType = (Option.some Jvm.ClassFile.FieldType.long)) (h0 : ∀ x ∈ (eC_ E).exceptionTable.toList, False) (hin : (eT_ E).name = "among") (N : Nat) : ∀ (m : Mm) (v0 : Option Nat) (v1 : Option Nat) (k n : Nat), Sm_ l g E 2 en_j (fX11_among_d13 (gE_ g) N m v0 v1) k n 0 [(0, vr_ v0), (1, vr_ v1)] [] m := by
  intro m v0 v1 k n
  unfold fX11_among_d13
  refine s_aload_n C rfl 0 rfl dX11_among_0 1 rfl ?_
  refine x_gi C 9 (RX11, TX11, 3) rfl 2 (Nat.le_of_ble_eq_true rfl) q2642 (Or.inl rfl) rfl 10 rfl dX11_among_1 4 rfl (fun x1 => ?_)
  refine s_if_eq C dX11_among_4 27 rfl 7 rfl (fun c_ => ?_) (fun c_ => ?_)
  · refine s_aload_n C rfl 0 rfl dX11_among_27 28 rfl ?_
    refine x_gr C 9 (RX11, TX11, 3) rfl 0 (Nat.le_of_ble_eq_true rfl) q2640 (Or.inl rfl) rfl 10 rfl dX11_among_28 31 rfl (fun x2 => ?_)
    refine s_aload_n C rfl 1 rfl dX11_among_31 32 rfl ?_
    refine x_wj [] 35 (fun kk_ => ?_) (fun x3 m1 k1 n1 => ?_)
    · refine x_csr (kd := 8) (fun hb_ hb0_ => ?_) ?_
      · exact x_callA (enc := en_j) (owner := "MasterTree$Filter") C 19 1 [vr_ v1] 8 (ctX9_among C.2.2.2.2.2.2.2.2.1 N m x2 v1) hb_ hb0_ rfl rfl q2772 q2688 q2701 q2702 q139 q2703 q2687 ⟨by decide +kernel, by decide +kernel, by decide +kernel⟩ (Nat.le_of_ble_eq_true rfl) (Nat.le_of_ble_eq_true rfl) rfl (Nat.le_of_ble_eq_true rfl) dX11_among_32 35 rfl rfl hen_j (kk_j kk_) (kx_n he_j)
      refine x_csr (kd := 9) (fun hb_ hb0_ => ?_) ?_
      · exact x_callA (enc := en_j) (owner := "MasterTree$Filter") C 13 1 [vr_ v1] 9 (ctX10_among C.2.2.2.2.2.2.2.2.1 N m x2 v1) hb_ hb0_ rfl rfl q2772 q2688 q2689 q2690 q140 q2691 q2687 ⟨by decide +kernel, by decide +kernel, by decide +kernel⟩ (Nat.le_of_ble_eq_true rfl) (Nat.le_of_ble_eq_true rfl) rfl (Nat.le_of_ble_eq_true rfl) dX11_among_32 35 rfl rfl hen_j (kk_j kk_) (kx_n he_j)
      refine x_csr (kd := 10) (fun hb_ hb0_ => ?_) ?_
      · exact x_callA (enc := en_j) (owner := "MasterTree$Filter") C 32 1 [vr_ v1] 10 (ctX11_among_d12 C.2.2.2.2.2.2.2.2.1 N m x2 v1) hb_ hb0_ rfl rfl q2772 q2688 q2769 q2770 q141 q2771 q2687 ⟨by decide +kernel, by decide +kernel, by decide +kernel⟩ (Nat.le_of_ble_eq_true rfl) (Nat.le_of_ble_eq_true rfl) rfl (Nat.le_of_ble_eq_true rfl) dX11_among_32 35 rfl rfl hen_j (kk_j kk_) (kx_n he_j)
      refine x_csr (kd := 11) (fun hb_ hb0_ => ?_) ?_
      · exact x_callA (enc := en_j) (owner := "MasterTree$Filter") C 32 1 [vr_ v1] 11 (ctX12_among_d12 C.2.2.2.2.2.2.2.2.1 N m x2 v1) hb_ hb0_ rfl rfl q2772 q2688 q2781 q2773 q142 q2774 q2687 ⟨by decide +kernel, by decide +kernel, by decide +kernel⟩ (Nat.le_of_ble_eq_true rfl) (Nat.le_of_ble_eq_true rfl) rfl (Nat.le_of_ble_eq_true rfl) dX11_among_32 35 rfl rfl hen_j (kk_j kk_) (kx_n he_j)
      exact Sm_bn
    refine s_aload_n C rfl 0 rfl dX11_among_35 36 rfl ?_
    refine x_gr C 9 (RX11, TX11, 3) rfl 1 (Nat.le_of_ble_eq_true rfl) q2641 (Or.inl rfl) rfl 10 rfl dX11_among_36 39 rfl (fun x8 => ?_)
    refine s_aload_n C rfl 1 rfl dX11_among_39 40 rfl ?_
    refine x_wj [vj_ x3] 43 (fun kk_ => ?_) (fun x9 m6 k1 n1 => ?_)
    · refine x_csr (kd := 8) (fun hb_ hb0_ => ?_) ?_
      · exact x_callA (enc := en_j) (owner := "MasterTree$Filter") C 19 1 [vr_ v1] 8 (ctX9_among C.2.2.2.2.2.2.2.2.1 N m1 x8 v1) hb_ hb0_ rfl rfl q2772 q2688 q2701 q2702 q139 q2703 q2687 ⟨by decide +kernel, by decide +kernel, by decide +kernel⟩ (Nat.le_of_ble_eq_true rfl) (Nat.le_of_ble_eq_true rfl) rfl (Nat.le_of_ble_eq_true rfl) dX11_among_40 43 rfl rfl hen_j (kk_j kk_) (kx_n he_j)
      refine x_csr (kd := 9) (fun hb_ hb0_ => ?_) ?_
      · exact x_callA (enc := en_j) (owner := "MasterTree$Filter") C 13 1 [vr_ v1] 9 (ctX10_among C.2.2.2.2.2.2.2.2.1 N m1 x8 v1) hb_ hb0_ rfl rfl q2772 q2688 q2689 q2690 q140 q2691 q2687 ⟨by decide +kernel, by decide +kernel, by decide +kernel⟩ (Nat.le_of_ble_eq_true rfl) (Nat.le_of_ble_eq_true rfl) rfl (Nat.le_of_ble_eq_true rfl) dX11_among_40 43 rfl rfl hen_j (kk_j kk_) (kx_n he_j)
      refine x_csr (kd := 10) (fun hb_ hb0_ => ?_) ?_
      · exact x_callA (enc := en_j) (owner := "MasterTree$Filter") C 32 1 [vr_ v1] 10 (ctX11_among_d12 C.2.2.2.2.2.2.2.2.1 N m1 x8 v1) hb_ hb0_ rfl rfl q2772 q2688 q2769 q2770 q141 q2771 q2687 ⟨by decide +kernel, by decide +kernel, by decide +kernel⟩ (Nat.le_of_ble_eq_true rfl) (Nat.le_of_ble_eq_true rfl) rfl (Nat.le_of_ble_eq_true rfl) dX11_among_40 43 rfl rfl hen_j (kk_j kk_) (kx_n he_j)
      refine x_csr (kd := 11) (fun hb_ hb0_ => ?_) ?_
      · exact x_callA (enc := en_j) (owner := "MasterTree$Filter") C 32 1 [vr_ v1] 11 (ctX12_among_d12 C.2.2.2.2.2.2.2.2.1 N m1 x8 v1) hb_ hb0_ rfl rfl q2772 q2688 q2781 q2773 q142 q2774 q2687 ⟨by decide +kernel, by decide +kernel, by decide +kernel⟩ (Nat.le_of_ble_eq_true rfl) (Nat.le_of_ble_eq_true rfl) rfl (Nat.le_of_ble_eq_true rfl) dX11_among_40 43 rfl rfl hen_j (kk_j kk_) (kx_n he_j)
      exact Sm_bn
    refine s_lor C dX11_among_43 44 rfl ?_
    refine Sm_sub [] rfl ?_
    exact wX11_among_d13_b44 C hret h0 hin N _ _ _ _
  · refine s_aload_n C rfl 0 rfl dX11_among_7 8 rfl ?_
    refine x_gr C 9 (RX11, TX11, 3) rfl 0 (Nat.le_of_ble_eq_true rfl) q2640 (Or.inl rfl) rfl 10 rfl dX11_among_8 11 rfl (fun x14 => ?_)
    refine s_aload_n C rfl 1 rfl dX11_among_11 12 rfl ?_
    refine x_wj [] 15 (fun kk_ => ?_) (fun x15 m11 k1 n1 => ?_)
    · refine x_csr (kd := 8) (fun hb_ hb0_ => ?_) ?_
      · exact x_callA (enc := en_j) (owner := "MasterTree$Filter") C 19 1 [vr_ v1] 8 (ctX9_among C.2.2.2.2.2.2.2.2.1 N m x14 v1) hb_ hb0_ rfl rfl q2772 q2688 q2701 q2702 q139 q2703 q2687 ⟨by decide +kernel, by decide +kernel, by decide +kernel⟩ (Nat.le_of_ble_eq_true rfl) (Nat.le_of_ble_eq_true rfl) rfl (Nat.le_of_ble_eq_true rfl) dX11_among_12 15 rfl rfl hen_j (kk_j kk_) (kx_n he_j)
      refine x_csr (kd := 9) (fun hb_ hb0_ => ?_) ?_
      · exact x_callA (enc := en_j) (owner := "MasterTree$Filter") C 13 1 [vr_ v1] 9 (ctX10_among C.2.2.2.2.2.2.2.2.1 N m x14 v1) hb_ hb0_ rfl rfl q2772 q2688 q2689 q2690 q140 q2691 q2687 ⟨by decide +kernel, by decide +kernel, by decide +kernel⟩ (Nat.le_of_ble_eq_true rfl) (Nat.le_of_ble_eq_true rfl) rfl (Nat.le_of_ble_eq_true rfl) dX11_among_12 15 rfl rfl hen_j (kk_j kk_) (kx_n he_j)
      refine x_csr (kd := 10) (fun hb_ hb0_ => ?_) ?_
      · exact x_callA (enc := en_j) (owner := "MasterTree$Filter") C 32 1 [vr_ v1] 10 (ctX11_among_d12 C.2.2.2.2.2.2.2.2.1 N m x14 v1) hb_ hb0_ rfl rfl q2772 q2688 q2769 q2770 q141 q2771 q2687 ⟨by decide +kernel, by decide +kernel, by decide +kernel⟩ (Nat.le_of_ble_eq_true rfl) (Nat.le_of_ble_eq_true rfl) rfl (Nat.le_of_ble_eq_true rfl) dX11_among_12 15 rfl rfl hen_j (kk_j kk_) (kx_n he_j)
      refine x_csr (kd := 11) (fun hb_ hb0_ => ?_) ?_
      · exact x_callA (enc := en_j) (owner := "MasterTree$Filter") C 32 1 [vr_ v1] 11 (ctX12_among_d12 C.2.2.2.2.2.2.2.2.1 N m x14 v1) hb_ hb0_ rfl rfl q2772 q2688 q2781 q2773 q142 q2774 q2687 ⟨by decide +kernel, by decide +kernel, by decide +kernel⟩ (Nat.le_of_ble_eq_true rfl) (Nat.le_of_ble_eq_true rfl) rfl (Nat.le_of_ble_eq_true rfl) dX11_among_12 15 rfl rfl hen_j (kk_j kk_) (kx_n he_j)
      exact Sm_bn
    refine s_aload_n C rfl 0 rfl dX11_among_15 16 rfl ?_
    refine x_gr C 9 (RX11, TX11, 3) rfl 1 (Nat.le_of_ble_eq_true rfl) q2641 (Or.inl rfl) rfl 10 rfl dX11_among_16 19 rfl (fun x20 => ?_)
    refine s_aload_n C rfl 1 rfl dX11_among_19 20 rfl ?_
    refine x_wj [vj_ x15] 23 (fun kk_ => ?_) (fun x21 m16 k1 n1 => ?_)
    · refine x_csr (kd := 8) (fun hb_ hb0_ => ?_) ?_
      · exact x_callA (enc := en_j) (owner := "MasterTree$Filter") C 19 1 [vr_ v1] 8 (ctX9_among C.2.2.2.2.2.2.2.2.1 N m11 x20 v1) hb_ hb0_ rfl rfl q2772 q2688 q2701 q2702 q139 q2703 q2687 ⟨by decide +kernel, by decide +kernel, by decide +kernel⟩ (Nat.le_of_ble_eq_true rfl) (Nat.le_of_ble_eq_true rfl) rfl (Nat.le_of_ble_eq_true rfl) dX11_among_20 23 rfl rfl hen_j (kk_j kk_) (kx_n he_j)
      refine x_csr (kd := 9) (fun hb_ hb0_ => ?_) ?_
      · exact x_callA (enc := en_j) (owner := "MasterTree$Filter") C 13 1 [vr_ v1] 9 (ctX10_among C.2.2.2.2.2.2.2.2.1 N m11 x20 v1) hb_ hb0_ rfl rfl q2772 q2688 q2689 q2690 q140 q2691 q2687 ⟨by decide +kernel, by decide +kernel, by decide +kernel⟩ (Nat.le_of_ble_eq_true rfl) (Nat.le_of_ble_eq_true rfl) rfl (Nat.le_of_ble_eq_true rfl) dX11_among_20 23 rfl rfl hen_j (kk_j kk_) (kx_n he_j)
      refine x_csr (kd := 10) (fun hb_ hb0_ => ?_) ?_
      · exact x_callA (enc := en_j) (owner := "MasterTree$Filter") C 32 1 [vr_ v1] 10 (ctX11_among_d12 C.2.2.2.2.2.2.2.2.1 N m11 x20 v1) hb_ hb0_ rfl rfl q2772 q2688 q2769 q2770 q141 q2771 q2687 ⟨by decide +kernel, by decide +kernel, by decide +kernel⟩ (Nat.le_of_ble_eq_true rfl) (Nat.le_of_ble_eq_true rfl) rfl (Nat.le_of_ble_eq_true rfl) dX11_among_20 23 rfl rfl hen_j (kk_j kk_) (kx_n he_j)
      refine x_csr (kd := 11) (fun hb_ hb0_ => ?_) ?_
      · exact x_callA (enc := en_j) (owner := "MasterTree$Filter") C 32 1 [vr_ v1] 11 (ctX12_among_d12 C.2.2.2.2.2.2.2.2.1 N m11 x20 v1) hb_ hb0_ rfl rfl q2772 q2688 q2781 q2773 q142 q2774 q2687 ⟨by decide +kernel, by decide +kernel, by decide +kernel⟩ (Nat.le_of_ble_eq_true rfl) (Nat.le_of_ble_eq_true rfl) rfl (Nat.le_of_ble_eq_true rfl) dX11_among_20 23 rfl rfl hen_j (kk_j kk_) (kx_n he_j)
      exact Sm_bn
    refine s_land C dX11_among_23 24 rfl ?_
    refine s_goto C (off := 20) 44 dX11_among_24 rfl ?_
    refine Sm_sub [] rfl ?_
    exact wX11_among_d13_b44 C hret h0 hin N _ _ _ _
theorem hdX11_among_d13 : ((⟨"MasterTree$Combined", "among", "(LMasterTree$Master;)J"⟩ : MethodName)).cls ≠ "java/lang/invoke/MethodHandle" ∧ ((⟨"MasterTree$Combined", "among", "(LMasterTree$Master;)J"⟩ : MethodName)).cls ≠ "java/lang/invoke/VarHandle" ∧ (parseMethodDescriptor ((⟨"MasterTree$Combined", "among", "(LMasterTree$Master;)J"⟩ : MethodName)).desc).map (fun d => d.parameters.length) = some 1 := ⟨by decide +kernel, by decide +kernel, by decide +kernel⟩
theorem ctX11_among_d13 {l : Launch} {g : GG} (hst : l.stackTraces = false) (N : Nat) (m : Mm) (v0 : Option Nat) (v1 : Option Nat) : ∀ v m' k n, fX11_among_d13 (gE_ g) N m v0 v1 = some (v, m', k, n) → Ct_ l g (⟨"MasterTree$Combined", "among", "(LMasterTree$Master;)J"⟩ : MethodName) (ws_ (⟨"MasterTree$Combined", "among", "(LMasterTree$Master;)J"⟩ : MethodName) cX11_among 2 (Option.some Jvm.ClassFile.FieldType.long)) 33 [vr_ v0, vr_ v1] m (en_j v) m' k n :=
  Ct_of (by decide +kernel) rfl hst (Nat.le_of_ble_eq_true rfl) rfl (fun E C hret h0 hin => wX11_among_d13 C hret h0 hin N m v0 v1 0 0)
theorem wX12_among_d13 {l : Launch} {g : GG} {E : Me_} (C : Cx_ l g E "MasterTree$Not" cX12_among 2 33) (hret : (eT_ E).sig.returnType = (Option.some Jvm.ClassFile.FieldType.long)) (h0 : ∀ x ∈ (eC_ E).exceptionTable.toList, False) (hin : (eT_ E).name = "among") (N : Nat) : ∀ (m : Mm) (v0 : Option Nat) (v1 : Option Nat) (k n : Nat), Sm_ l g E 2 en_j (fX12_among_d13 (gE_ g) N m v0 v1) k n 0 [(0, vr_ v0), (1, vr_ v1)] [] m := by
  intro m v0 v1 k n
  unfold fX12_among_d13
  refine s_aload_n C rfl 1 rfl dX12_among_0 1 rfl ?_
  refine x_ck (fun hb_ hb0_ => ?_)
  refine x_callV (enc := en_j) C 12 0 [] 2 (ctX2_liveOnes C.2.2.2.2.2.2.2.2.1 N m v1) hb_ hb0_ rfl rfl q2775 q2776 q2777 q85 q2778 hdX2_liveOnes (Nat.le_of_ble_eq_true rfl) (Nat.le_of_ble_eq_true rfl) rfl (Nat.le_of_ble_eq_true rfl) dX12_among_1 4 rfl rfl hen_j (kk_j (fun x1 m1 k1 n1 => ?_)) (kx_n he_j)
  refine s_aload_n C rfl 0 rfl dX12_among_4 5 rfl ?_
  refine x_gr C 10 (RX12, TX12, 1) rfl 0 (Nat.le_of_ble_eq_true rfl) q2666 (Or.inl rfl) rfl 11 rfl dX12_among_5 8 rfl (fun x2 => ?_)
  refine s_aload_n C rfl 1 rfl dX12_among_8 9 rfl ?_
  refine x_wj [vj_ x1] 12 (fun kk_ => ?_) (fun x3 m2 k1 n1 => ?_)
  · refine x_csr (kd := 8) (fun hb_ hb0_ => ?_) ?_
    · exact x_callA (enc := en_j) (owner := "MasterTree$Filter") C 19 1 [vr_ v1] 8 (ctX9_among C.2.2.2.2.2.2.2.2.1 N m1 x2 v1) hb_ hb0_ rfl rfl q2779 q2688 q2701 q2702 q139 q2703 q2687 ⟨by decide +kernel, by decide +kernel, by decide +kernel⟩ (Nat.le_of_ble_eq_true rfl) (Nat.le_of_ble_eq_true rfl) rfl (Nat.le_of_ble_eq_true rfl) dX12_among_9 12 rfl rfl hen_j (kk_j kk_) (kx_n he_j)
    refine x_csr (kd := 9) (fun hb_ hb0_ => ?_) ?_
    · exact x_callA (enc := en_j) (owner := "MasterTree$Filter") C 13 1 [vr_ v1] 9 (ctX10_among C.2.2.2.2.2.2.2.2.1 N m1 x2 v1) hb_ hb0_ rfl rfl q2779 q2688 q2689 q2690 q140 q2691 q2687 ⟨by decide +kernel, by decide +kernel, by decide +kernel⟩ (Nat.le_of_ble_eq_true rfl) (Nat.le_of_ble_eq_true rfl) rfl (Nat.le_of_ble_eq_true rfl) dX12_among_9 12 rfl rfl hen_j (kk_j kk_) (kx_n he_j)
    refine x_csr (kd := 10) (fun hb_ hb0_ => ?_) ?_
    · exact x_callA (enc := en_j) (owner := "MasterTree$Filter") C 32 1 [vr_ v1] 10 (ctX11_among_d12 C.2.2.2.2.2.2.2.2.1 N m1 x2 v1) hb_ hb0_ rfl rfl q2779 q2688 q2769 q2770 q141 q2771 q2687 ⟨by decide +kernel, by decide +kernel, by decide +kernel⟩ (Nat.le_of_ble_eq_true rfl) (Nat.le_of_ble_eq_true rfl) rfl (Nat.le_of_ble_eq_true rfl) dX12_among_9 12 rfl rfl hen_j (kk_j kk_) (kx_n he_j)
    refine x_csr (kd := 11) (fun hb_ hb0_ => ?_) ?_
    · exact x_callA (enc := en_j) (owner := "MasterTree$Filter") C 32 1 [vr_ v1] 11 (ctX12_among_d12 C.2.2.2.2.2.2.2.2.1 N m1 x2 v1) hb_ hb0_ rfl rfl q2779 q2688 q2781 q2773 q142 q2774 q2687 ⟨by decide +kernel, by decide +kernel, by decide +kernel⟩ (Nat.le_of_ble_eq_true rfl) (Nat.le_of_ble_eq_true rfl) rfl (Nat.le_of_ble_eq_true rfl) dX12_among_9 12 rfl rfl hen_j (kk_j kk_) (kx_n he_j)
    exact Sm_bn
  refine s_ldc2 C (-1) q2780 dX12_among_12 15 rfl ?_
  refine s_lxor C dX12_among_15 16 rfl ?_
  refine s_land C dX12_among_16 17 rfl ?_
  exact x_lret C hret rfl dX12_among_17
theorem hdX12_among_d13 : ((⟨"MasterTree$Not", "among", "(LMasterTree$Master;)J"⟩ : MethodName)).cls ≠ "java/lang/invoke/MethodHandle" ∧ ((⟨"MasterTree$Not", "among", "(LMasterTree$Master;)J"⟩ : MethodName)).cls ≠ "java/lang/invoke/VarHandle" ∧ (parseMethodDescriptor ((⟨"MasterTree$Not", "among", "(LMasterTree$Master;)J"⟩ : MethodName)).desc).map (fun d => d.parameters.length) = some 1 := ⟨by decide +kernel, by decide +kernel, by decide +kernel⟩
theorem ctX12_among_d13 {l : Launch} {g : GG} (hst : l.stackTraces = false) (N : Nat) (m : Mm) (v0 : Option Nat) (v1 : Option Nat) : ∀ v m' k n, fX12_among_d13 (gE_ g) N m v0 v1 = some (v, m', k, n) → Ct_ l g (⟨"MasterTree$Not", "among", "(LMasterTree$Master;)J"⟩ : MethodName) (ws_ (⟨"MasterTree$Not", "among", "(LMasterTree$Master;)J"⟩ : MethodName) cX12_among 2 (Option.some Jvm.ClassFile.FieldType.long)) 33 [vr_ v0, vr_ v1] m (en_j v) m' k n :=
  Ct_of (by decide +kernel) rfl hst (Nat.le_of_ble_eq_true rfl) rfl (fun E C hret h0 hin => wX12_among_d13 C hret h0 hin N m v0 v1 0 0)
theorem wX11_among_d14_b44 {l : Launch} {g : GG} {E : Me_} (C : Cx_ l g E "MasterTree$Combined" cX11_among 2 34) (hret : (eT_ E).sig.returnType = (Option.some Jvm.ClassFile.FieldType.long)) (h0 : ∀ x ∈ (eC_ E).exceptionTable.toList, False) (hin : (eT_ E).name = "among") (N : Nat) : ∀ (m : Mm) (s0 : Int64) (k n : Nat), Sm_ l g E 2 en_j (fX11_among_d14_b44 (gE_ g) N m s0) k n 44 [] [vj_ s0] m := by
  intro m s0 k n
  unfold fX11_among_d14_b44
  exact x_lret C hret rfl dX11_among_44
theorem wX11_among_d14 {l : Launch} {g : GG} {E : Me_} (C : Cx_ l g E "MasterTree$Combined" cX11_among 2 34) (hret : (eT_ E).sig.returnType = (Option.some Jvm.ClassFile.FieldType.long)) (h0 : ∀ x ∈ (eC_ E).exceptionTable.toList, False) (hin : (eT_ E).name = "among") (N : Nat) : ∀ (m : Mm) (v0 : Option Nat) (v1 : Option Nat) (k n : Nat), Sm_ l g E 2 en_j (fX11_among_d14 (gE_ g) N m v0 v1) k n 0 [(0, vr_ v0), (1, vr_ v1)] [] m := by
  intro m v0 v1 k n
  unfold fX11_among_d14
  refine s_aload_n C rfl 0 rfl dX11_among_0 1 rfl ?_
  refine x_gi C 9 (RX11, TX11, 3) rfl 2 (Nat.le_of_ble_eq_true rfl) q2642 (Or.inl rfl) rfl 10 rfl dX11_among_1 4 rfl (fun x1 => ?_)
  refine s_if_eq C dX11_among_4 27 rfl 7 rfl (fun c_ => ?_) (fun c_ => ?_)
  · refine s_aload_n C rfl 0 rfl dX11_among_27 28 rfl ?_
    refine x_gr C 9 (RX11, TX11, 3) rfl 0 (Nat.le_of_ble_eq_true rfl) q2640 (Or.inl rfl) rfl 10 rfl dX11_among_28 31 rfl (fun x2 => ?_)
    refine s_aload_n C rfl 1 rfl dX11_among_31 32 rfl ?_
    refine x_wj [] 35 (fun kk_ => ?_) (fun x3 m1 k1 n1 => ?_)
    · refine x_csr (kd := 8) (fun hb_ hb0_ => ?_) ?_
      · exact x_callA (enc := en_j) (owner := "MasterTree$Filter") C 19 1 [vr_ v1] 8 (ctX9_among C.2.2.2.2.2.2.2.2.1 N m x2 v1) hb_ hb0_ rfl rfl q2772 q2688 q2701 q2702 q139 q2703 q2687 ⟨by decide +kernel, by decide +kernel, by decide +kernel⟩ (Nat.le_of_ble_eq_true rfl) (Nat.le_of_ble_eq_true rfl) rfl (Nat.le_of_ble_eq_true rfl) dX11_among_32 35 rfl rfl hen_j (kk_j kk_) (kx_n he_j)
      refine x_csr (kd := 9) (fun hb_ hb0_ => ?_) ?_
      · exact x_callA (enc := en_j) (owner := "MasterTree$Filter") C 13 1 [vr_ v1] 9 (ctX10_among C.2.2.2.2.2.2.2.2.1 N m x2 v1) hb_ hb0_ rfl rfl q2772 q2688 q2689 q2690 q140 q2691 q2687 ⟨by decide +kernel, by decide +kernel, by decide +kernel⟩ (Nat.le_of_ble_eq_true rfl) (Nat.le_of_ble_eq_true rfl) rfl (Nat.le_of_ble_eq_true rfl) dX11_among_32 35 rfl rfl hen_j (kk_j kk_) (kx_n he_j)
      refine x_csr (kd := 10) (fun hb_ hb0_ => ?_) ?_
      · exact x_callA (enc := en_j) (owner := "MasterTree$Filter") C 33 1 [vr_ v1] 10 (ctX11_among_d13 C.2.2.2.2.2.2.2.2.1 N m x2 v1) hb_ hb0_ rfl rfl q2772 q2688 q2769 q2770 q141 q2771 q2687 ⟨by decide +kernel, by decide +kernel, by decide +kernel⟩ (Nat.le_of_ble_eq_true rfl) (Nat.le_of_ble_eq_true rfl) rfl (Nat.le_of_ble_eq_true rfl) dX11_among_32 35 rfl rfl hen_j (kk_j kk_) (kx_n he_j)
      refine x_csr (kd := 11) (fun hb_ hb0_ => ?_) ?_
      · exact x_callA (enc := en_j) (owner := "MasterTree$Filter") C 33 1 [vr_ v1] 11 (ctX12_among_d13 C.2.2.2.2.2.2.2.2.1 N m x2 v1) hb_ hb0_ rfl rfl q2772 q2688 q2781 q2773 q142 q2774 q2687 ⟨by decide +kernel, by decide +kernel, by decide +kernel⟩ (Nat.le_of_ble_eq_true rfl) (Nat.le_of_ble_eq_true rfl) rfl (Nat.le_of_ble_eq_true rfl) dX11_among_32 35 rfl rfl hen_j (kk_j kk_) (kx_n he_j)
      exact Sm_bn
    refine s_aload_n C rfl 0 rfl dX11_among_35 36 rfl ?_
    refine x_gr C 9 (RX11, TX11, 3) rfl 1 (Nat.le_of_ble_eq_true rfl) q2641 (Or.inl rfl) rfl 10 rfl dX11_among_36 39 rfl (fun x8 => ?_)
    refine s_aload_n C rfl 1 rfl dX11_among_39 40 rfl ?_
    refine x_wj [vj_ x3] 43 (fun kk_ => ?_) (fun x9 m6 k1 n1 => ?_)
    · refine x_csr (kd := 8) (fun hb_ hb0_ => ?_) ?_
      · exact x_callA (enc := en_j) (owner := "MasterTree$Filter") C 19 1 [vr_ v1] 8 (ctX9_among C.2.2.2.2.2.2.2.2.1 N m1 x8 v1) hb_ hb0_ rfl rfl q2772 q2688 q2701 q2702 q139 q2703 q2687 ⟨by decide +kernel, by decide +kernel, by decide +kernel⟩ (Nat.le_of_ble_eq_true rfl) (Nat.le_of_ble_eq_true rfl) rfl (Nat.le_of_ble_eq_true rfl) dX11_among_40 43 rfl rfl hen_j (kk_j kk_) (kx_n he_j)
      refine x_csr (kd := 9) (fun hb_ hb0_ => ?_) ?_
      · exact x_callA (enc := en_j) (owner := "MasterTree$Filter") C 13 1 [vr_ v1] 9 (ctX10_among C.2.2.2.2.2.2.2.2.1 N m1 x8 v1) hb_ hb0_ rfl rfl q2772 q2688 q2689 q2690 q140 q2691 q2687 ⟨by decide +kernel, by decide +kernel, by decide +kernel⟩ (Nat.le_of_ble_eq_true rfl) (Nat.le_of_ble_eq_true rfl) rfl (Nat.le_of_ble_eq_true rfl) dX11_among_40 43 rfl rfl hen_j (kk_j kk_) (kx_n he_j)
      refine x_csr (kd := 10) (fun hb_ hb0_ => ?_) ?_
      · exact x_callA (enc := en_j) (owner := "MasterTree$Filter") C 33 1 [vr_ v1] 10 (ctX11_among_d13 C.2.2.2.2.2.2.2.2.1 N m1 x8 v1) hb_ hb0_ rfl rfl q2772 q2688 q2769 q2770 q141 q2771 q2687 ⟨by decide +kernel, by decide +kernel, by decide +kernel⟩ (Nat.le_of_ble_eq_true rfl) (Nat.le_of_ble_eq_true rfl) rfl (Nat.le_of_ble_eq_true rfl) dX11_among_40 43 rfl rfl hen_j (kk_j kk_) (kx_n he_j)
      refine x_csr (kd := 11) (fun hb_ hb0_ => ?_) ?_
      · exact x_callA (enc := en_j) (owner := "MasterTree$Filter") C 33 1 [vr_ v1] 11 (ctX12_among_d13 C.2.2.2.2.2.2.2.2.1 N m1 x8 v1) hb_ hb0_ rfl rfl q2772 q2688 q2781 q2773 q142 q2774 q2687 ⟨by decide +kernel, by decide +kernel, by decide +kernel⟩ (Nat.le_of_ble_eq_true rfl) (Nat.le_of_ble_eq_true rfl) rfl (Nat.le_of_ble_eq_true rfl) dX11_among_40 43 rfl rfl hen_j (kk_j kk_) (kx_n he_j)
      exact Sm_bn
    refine s_lor C dX11_among_43 44 rfl ?_
    refine Sm_sub [] rfl ?_
    exact wX11_among_d14_b44 C hret h0 hin N _ _ _ _
  · refine s_aload_n C rfl 0 rfl dX11_among_7 8 rfl ?_
    refine x_gr C 9 (RX11, TX11, 3) rfl 0 (Nat.le_of_ble_eq_true rfl) q2640 (Or.inl rfl) rfl 10 rfl dX11_among_8 11 rfl (fun x14 => ?_)
    refine s_aload_n C rfl 1 rfl dX11_among_11 12 rfl ?_
    refine x_wj [] 15 (fun kk_ => ?_) (fun x15 m11 k1 n1 => ?_)
    · refine x_csr (kd := 8) (fun hb_ hb0_ => ?_) ?_
      · exact x_callA (enc := en_j) (owner := "MasterTree$Filter") C 19 1 [vr_ v1] 8 (ctX9_among C.2.2.2.2.2.2.2.2.1 N m x14 v1) hb_ hb0_ rfl rfl q2772 q2688 q2701 q2702 q139 q2703 q2687 ⟨by decide +kernel, by decide +kernel, by decide +kernel⟩ (Nat.le_of_ble_eq_true rfl) (Nat.le_of_ble_eq_true rfl) rfl (Nat.le_of_ble_eq_true rfl) dX11_among_12 15 rfl rfl hen_j (kk_j kk_) (kx_n he_j)
      refine x_csr (kd := 9) (fun hb_ hb0_ => ?_) ?_
      · exact x_callA (enc := en_j) (owner := "MasterTree$Filter") C 13 1 [vr_ v1] 9 (ctX10_among C.2.2.2.2.2.2.2.2.1 N m x14 v1) hb_ hb0_ rfl rfl q2772 q2688 q2689 q2690 q140 q2691 q2687 ⟨by decide +kernel, by decide +kernel, by decide +kernel⟩ (Nat.le_of_ble_eq_true rfl) (Nat.le_of_ble_eq_true rfl) rfl (Nat.le_of_ble_eq_true rfl) dX11_among_12 15 rfl rfl hen_j (kk_j kk_) (kx_n he_j)
      refine x_csr (kd := 10) (fun hb_ hb0_ => ?_) ?_
      · exact x_callA (enc := en_j) (owner := "MasterTree$Filter") C 33 1 [vr_ v1] 10 (ctX11_among_d13 C.2.2.2.2.2.2.2.2.1 N m x14 v1) hb_ hb0_ rfl rfl q2772 q2688 q2769 q2770 q141 q2771 q2687 ⟨by decide +kernel, by decide +kernel, by decide +kernel⟩ (Nat.le_of_ble_eq_true rfl) (Nat.le_of_ble_eq_true rfl) rfl (Nat.le_of_ble_eq_true rfl) dX11_among_12 15 rfl rfl hen_j (kk_j kk_) (kx_n he_j)
      refine x_csr (kd := 11) (fun hb_ hb0_ => ?_) ?_
      · exact x_callA (enc := en_j) (owner := "MasterTree$Filter") C 33 1 [vr_ v1] 11 (ctX12_among_d13 C.2.2.2.2.2.2.2.2.1 N m x14 v1) hb_ hb0_ rfl rfl q2772 q2688 q2781 q2773 q142 q2774 q2687 ⟨by decide +kernel, by decide +kernel, by decide +kernel⟩ (Nat.le_of_ble_eq_true rfl) (Nat.le_of_ble_eq_true rfl) rfl (Nat.le_of_ble_eq_true rfl) dX11_among_12 15 rfl rfl hen_j (kk_j kk_) (kx_n he_j)
      exact Sm_bn
    refine s_aload_n C rfl 0 rfl dX11_among_15 16 rfl ?_
    refine x_gr C 9 (RX11, TX11, 3) rfl 1 (Nat.le_of_ble_eq_true rfl) q2641 (Or.inl rfl) rfl 10 rfl dX11_among_16 19 rfl (fun x20 => ?_)
    refine s_aload_n C rfl 1 rfl dX11_among_19 20 rfl ?_
    refine x_wj [vj_ x15] 23 (fun kk_ => ?_) (fun x21 m16 k1 n1 => ?_)
    · refine x_csr (kd := 8) (fun hb_ hb0_ => ?_) ?_
      · exact x_callA (enc := en_j) (owner := "MasterTree$Filter") C 19 1 [vr_ v1] 8 (ctX9_among C.2.2.2.2.2.2.2.2.1 N m11 x20 v1) hb_ hb0_ rfl rfl q2772 q2688 q2701 q2702 q139 q2703 q2687 ⟨by decide +kernel, by decide +kernel, by decide +kernel⟩ (Nat.le_of_ble_eq_true rfl) (Nat.le_of_ble_eq_true rfl) rfl (Nat.le_of_ble_eq_true rfl) dX11_among_20 23 rfl rfl hen_j (kk_j kk_) (kx_n he_j)
      refine x_csr (kd := 9) (fun hb_ hb0_ => ?_) ?_
      · exact x_callA (enc := en_j) (owner := "MasterTree$Filter") C 13 1 [vr_ v1] 9 (ctX10_among C.2.2.2.2.2.2.2.2.1 N m11 x20 v1) hb_ hb0_ rfl rfl q2772 q2688 q2689 q2690 q140 q2691 q2687 ⟨by decide +kernel, by decide +kernel, by decide +kernel⟩ (Nat.le_of_ble_eq_true rfl) (Nat.le_of_ble_eq_true rfl) rfl (Nat.le_of_ble_eq_true rfl) dX11_among_20 23 rfl rfl hen_j (kk_j kk_) (kx_n he_j)
      refine x_csr (kd := 10) (fun hb_ hb0_ => ?_) ?_
      · exact x_callA (enc := en_j) (owner := "MasterTree$Filter") C 33 1 [vr_ v1] 10 (ctX11_among_d13 C.2.2.2.2.2.2.2.2.1 N m11 x20 v1) hb_ hb0_ rfl rfl q2772 q2688 q2769 q2770 q141 q2771 q2687 ⟨by decide +kernel, by decide +kernel, by decide +kernel⟩ (Nat.le_of_ble_eq_true rfl) (Nat.le_of_ble_eq_true rfl) rfl (Nat.le_of_ble_eq_true rfl) dX11_among_20 23 rfl rfl hen_j (kk_j kk_) (kx_n he_j)
      refine x_csr (kd := 11) (fun hb_ hb0_ => ?_) ?_
      · exact x_callA (enc := en_j) (owner := "MasterTree$Filter") C 33 1 [vr_ v1] 11 (ctX12_among_d13 C.2.2.2.2.2.2.2.2.1 N m11 x20 v1) hb_ hb0_ rfl rfl q2772 q2688 q2781 q2773 q142 q2774 q2687 ⟨by decide +kernel, by decide +kernel, by decide +kernel⟩ (Nat.le_of_ble_eq_true rfl) (Nat.le_of_ble_eq_true rfl) rfl (Nat.le_of_ble_eq_true rfl) dX11_among_20 23 rfl rfl hen_j (kk_j kk_) (kx_n he_j)
      exact Sm_bn
    refine s_land C dX11_among_23 24 rfl ?_
    refine s_goto C (off := 20) 44 dX11_among_24 rfl ?_
    refine Sm_sub [] rfl ?_
    exact wX11_among_d14_b44 C hret h0 hin N _ _ _ _
theorem hdX11_among_d14 : ((⟨"MasterTree$Combined", "among", "(LMasterTree$Master;)J"⟩ : MethodName)).cls ≠ "java/lang/invoke/MethodHandle" ∧ ((⟨"MasterTree$Combined", "among", "(LMasterTree$Master;)J"⟩ : MethodName)).cls ≠ "java/lang/invoke/VarHandle" ∧ (parseMethodDescriptor ((⟨"MasterTree$Combined", "among", "(LMasterTree$Master;)J"⟩ : MethodName)).desc).map (fun d => d.parameters.length) = some 1 := ⟨by decide +kernel, by decide +kernel, by decide +kernel⟩
theorem ctX11_among_d14 {l : Launch} {g : GG} (hst : l.stackTraces = false) (N : Nat) (m : Mm) (v0 : Option Nat) (v1 : Option Nat) : ∀ v m' k n, fX11_among_d14 (gE_ g) N m v0 v1 = some (v, m', k, n) → Ct_ l g (⟨"MasterTree$Combined", "among", "(LMasterTree$Master;)J"⟩ : MethodName) (ws_ (⟨"MasterTree$Combined", "among", "(LMasterTree$Master;)J"⟩ : MethodName) cX11_among 2 (Option.some Jvm.ClassFile.FieldType.long)) 34 [vr_ v0, vr_ v1] m (en_j v) m' k n :=
  Ct_of (by decide +kernel) rfl hst (Nat.le_of_ble_eq_true rfl) rfl (fun E C hret h0 hin => wX11_among_d14 C hret h0 hin N m v0 v1 0 0)
theorem wX12_among_d14 {l : Launch} {g : GG} {E : Me_} (C : Cx_ l g E "MasterTree$Not" cX12_among 2 34) (hret : (eT_ E).sig.returnType = (Option.some Jvm.ClassFile.FieldType.long)) (h0 : ∀ x ∈ (eC_ E).exceptionTable.toList, False) (hin : (eT_ E).name = "among") (N : Nat) : ∀ (m : Mm) (v0 : Option Nat) (v1 : Option Nat) (k n : Nat), Sm_ l g E 2 en_j (fX12_among_d14 (gE_ g) N m v0 v1) k n 0 [(0, vr_ v0), (1, vr_ v1)] [] m := by
  intro m v0 v1 k n
  unfold fX12_among_d14
  refine s_aload_n C rfl 1 rfl dX12_among_0 1 rfl ?_
  refine x_ck (fun hb_ hb0_ => ?_)
  refine x_callV (enc := en_j) C 12 0 [] 2 (ctX2_liveOnes C.2.2.2.2.2.2.2.2.1 N m v1) hb_ hb0_ rfl rfl q2775 q2776 q2777 q85 q2778 hdX2_liveOnes (Nat.le_of_ble_eq_true rfl) (Nat.le_of_ble_eq_true rfl) rfl (Nat.le_of_ble_eq_true rfl) dX12_among_1 4 rfl rfl hen_j (kk_j (fun x1 m1 k1 n1 => ?_)) (kx_n he_j)
  refine s_aload_n C rfl 0 rfl dX12_among_4 5 rfl ?_
  refine x_gr C 10 (RX12, TX12, 1) rfl 0 (Nat.le_of_ble_eq_true rfl) q2666 (Or.inl rfl) rfl 11 rfl dX12_among_5 8 rfl (fun x2 => ?_)
  refine s_aload_n C rfl 1 rfl dX12_among_8 9 rfl ?_
  refine x_wj [vj_ x1] 12 (fun kk_ => ?_) (fun x3 m2 k1 n1 => ?_)
  · refine x_csr (kd := 8) (fun hb_ hb0_ => ?_) ?_
    · exact x_callA (enc := en_j) (owner := "MasterTree$Filter") C 19 1 [vr_ v1] 8 (ctX9_among C.2.2.2.2.2.2.2.2.1 N m1 x2 v1) hb_ hb0_ rfl rfl q2779 q2688 q2701 q2702 q139 q2703 q2687 ⟨by decide +kernel, by decide +kernel, by decide +kernel⟩ (Nat.le_of_ble_eq_true rfl) (Nat.le_of_ble_eq_true rfl) rfl (Nat.le_of_ble_eq_true rfl) dX12_among_9 12 rfl rfl hen_j (kk_j kk_) (kx_n he_j)
    refine x_csr (kd := 9) (fun hb_ hb0_ => ?_) ?_
    · exact x_callA (enc := en_j) (owner := "MasterTree$Filter") C 13 1 [vr_ v1] 9 (ctX10_among C.2.2.2.2.2.2.2.2.1 N m1 x2 v1) hb_ hb0_ rfl rfl q2779 q2688 q2689 q2690 q140 q2691 q2687 ⟨by decide +kernel, by decide +kernel, by decide +kernel⟩ (Nat.le_of_ble_eq_true rfl) (Nat.le_of_ble_eq_true rfl) rfl (Nat.le_of_ble_eq_true rfl) dX12_among_9 12 rfl rfl hen_j (kk_j kk_) (kx_n he_j)
    refine x_csr (kd := 10) (fun hb_ hb0_ => ?_) ?_
    · exact x_callA (enc := en_j) (owner := "MasterTree$Filter") C 33 1 [vr_ v1] 10 (ctX11_among_d13 C.2.2.2.2.2.2.2.2.1 N m1 x2 v1) hb_ hb0_ rfl rfl q2779 q2688 q2769 q2770 q141 q2771 q2687 ⟨by decide +kernel, by decide +kernel, by decide +kernel⟩ (Nat.le_of_ble_eq_true rfl) (Nat.le_of_ble_eq_true rfl) rfl (Nat.le_of_ble_eq_true rfl) dX12_among_9 12 rfl rfl hen_j (kk_j kk_) (kx_n he_j)
    refine x_csr (kd := 11) (fun hb_ hb0_ => ?_) ?_
    · exact x_callA (enc := en_j) (owner := "MasterTree$Filter") C 33 1 [vr_ v1] 11 (ctX12_among_d13 C.2.2.2.2.2.2.2.2.1 N m1 x2 v1) hb_ hb0_ rfl rfl q2779 q2688 q2781 q2773 q142 q2774 q2687 ⟨by decide +kernel, by decide +kernel, by decide +kernel⟩ (Nat.le_of_ble_eq_true rfl) (Nat.le_of_ble_eq_true rfl) rfl (Nat.le_of_ble_eq_true rfl) dX12_among_9 12 rfl rfl hen_j (kk_j kk_) (kx_n he_j)
    exact Sm_bn
  refine s_ldc2 C (-1) q2780 dX12_among_12 15 rfl ?_
  refine s_lxor C dX12_among_15 16 rfl ?_
  refine s_land C dX12_among_16 17 rfl ?_
  exact x_lret C hret rfl dX12_among_17
theorem hdX12_among_d14 : ((⟨"MasterTree$Not", "among", "(LMasterTree$Master;)J"⟩ : MethodName)).cls ≠ "java/lang/invoke/MethodHandle" ∧ ((⟨"MasterTree$Not", "among", "(LMasterTree$Master;)J"⟩ : MethodName)).cls ≠ "java/lang/invoke/VarHandle" ∧ (parseMethodDescriptor ((⟨"MasterTree$Not", "among", "(LMasterTree$Master;)J"⟩ : MethodName)).desc).map (fun d => d.parameters.length) = some 1 := ⟨by decide +kernel, by decide +kernel, by decide +kernel⟩
theorem ctX12_among_d14 {l : Launch} {g : GG} (hst : l.stackTraces = false) (N : Nat) (m : Mm) (v0 : Option Nat) (v1 : Option Nat) : ∀ v m' k n, fX12_among_d14 (gE_ g) N m v0 v1 = some (v, m', k, n) → Ct_ l g (⟨"MasterTree$Not", "among", "(LMasterTree$Master;)J"⟩ : MethodName) (ws_ (⟨"MasterTree$Not", "among", "(LMasterTree$Master;)J"⟩ : MethodName) cX12_among 2 (Option.some Jvm.ClassFile.FieldType.long)) 34 [vr_ v0, vr_ v1] m (en_j v) m' k n :=
  Ct_of (by decide +kernel) rfl hst (Nat.le_of_ble_eq_true rfl) rfl (fun E C hret h0 hin => wX12_among_d14 C hret h0 hin N m v0 v1 0 0)
theorem wX1_search_b99 {l : Launch} {g : GG} {E : Me_} (C : Cx_ l g E "MasterTree" cX1_search 8 35) (hret : (eT_ E).sig.returnType = (Option.some Jvm.ClassFile.FieldType.int)) (h0 : ∀ x ∈ (eC_ E).exceptionTable.toList, False) (hin : (eT_ E).name = "search") (N : Nat) {k32 : Mm → Option Nat → Int32 → Int32 → Int32 → Option Nat → Int64 → Int32 → Rs (Int32 ⊕ Nat)} (hk32 : ∀ (m : Mm) (v0 : Option Nat) (v1 : Int32) (v2 : Int32) (v3 : Int32) (v4 : Option Nat) (v5 : Int64) (v7 : Int32) (k n : Nat), Sm_ l g E 8 (xe_ en_i) (k32 m v0 v1 v2 v3 v4 v5 v7) k n 32 [(0, vr_ v0), (1, vi_ v1), (2, vi_ v2), (3, vi_ v3), (4, vr_ v4), (5, vj_ v5), (7, vi_ v7)] [] m) : ∀ (m : Mm) (v0 : Option Nat) (v1 : Int32) (v2 : Int32) (v3 : Int32) (v4 : Option Nat) (v5 : Int64) (v7 : Int32) (k n : Nat), Sm_ l g E 8 (xe_ en_i) (fX1_search_b99 (gE_ g) N k32 m v0 v1 v2 v3 v4 v5 v7) k n 99 [(0, vr_ v0), (1, vi_ v1), (2, vi_ v2), (3, vi_ v3), (4, vr_ v4), (5, vj_ v5), (7, vi_ v7)] [] m := by
  intro m v0 v1 v2 v3 v4 v5 v7 k n
  unfold fX1_search_b99
  refine s_iinc C 1 rfl 6 rfl (Nat.le_of_ble_eq_true rfl) [0, 1, 2, 3, 4, 5] rfl rfl dX1_search_99 102 rfl ?_
  refine s_goto C (off := -70) 32 dX1_search_102 rfl ?_
  refine Sm_sub [1, 2, 3, 4, 5, 6, 0] rfl ?_
  exact hk32 _ _ _ _ _ _ _ _ _ _
theorem wX1_search_b32 {l : Launch} {g : GG} {E : Me_} (C : Cx_ l g E "MasterTree" cX1_search 8 35) (hret : (eT_ E).sig.returnType = (Option.some Jvm.ClassFile.FieldType.int)) (h0 : ∀ x ∈ (eC_ E).exceptionTable.toList, False) (hin : (eT_ E).name = "search") (N : Nat) : ∀ (F : Nat) (m : Mm) (v0 : Option Nat) (v1 : Int32) (v2 : Int32) (v3 : Int32) (v4 : Option Nat) (v5 : Int64) (v7 : Int32) (k n : Nat), Sm_ l g E 8 (xe_ en_i) (fX1_search_b32 (gE_ g) N F m v0 v1 v2 v3 v4 v5 v7) k n 32 [(0, vr_ v0), (1, vi_ v1), (2, vi_ v2), (3, vi_ v3), (4, vr_ v4), (5, vj_ v5), (7, vi_ v7)] [] m := by
  intro F
  induction F with
  | zero => intros; exact Sm_none
  | succ F ih =>
    intro m v0 v1 v2 v3 v4 v5 v7 k n
    unfold fX1_search_b32
    refine s_iload C 6 rfl dX1_search_32 34 rfl ?_
    refine s_bipush C 48 rfl dX1_search_34 36 rfl ?_
    refine s_icmp_ge C dX1_search_36 105 rfl 39 rfl (fun c_ => ?_) (fun c_ => ?_)
    · refine s_lload C 5 rfl dX1_search_39 41 rfl ?_
      refine s_iload C 6 rfl dX1_search_41 43 rfl ?_
      refine s_lshr C dX1_search_43 44 rfl ?_
      refine s_lconst C 1 rfl dX1_search_44 45 rfl ?_
      refine s_land C dX1_search_45 46 rfl ?_
      refine s_lconst C 1 rfl dX1_search_46 47 rfl ?_
      refine s_lcmp C dX1_search_47 48 rfl ?_
      refine s_if_ne C dX1_search_48 99 rfl 51 rfl (fun c_ => ?_) (fun c_ => ?_)
      · refine s_aload C 4 rfl dX1_search_51 53 rfl ?_
        refine s_iload C 6 rfl dX1_search_53 55 rfl ?_
        refine s_iload_n C rfl 2 rfl dX1_search_55 56 rfl ?_
        refine s_iload_n C rfl 3 rfl dX1_search_56 57 rfl ?_
        refine x_callS (enc := en_i) C 13 4 [vr_ v4, vi_ v7, vi_ v2, vi_ v3] (ctX1_belongs C.2.2.2.2.2.2.2.2.1 N m v4 v7 v2 v3) q2782 q2783 q81 q2784 hdX1_belongs (Nat.le_of_ble_eq_true rfl) (Nat.le_of_ble_eq_true rfl) rfl (Nat.le_of_ble_eq_true rfl) dX1_search_57 60 rfl rfl hen_i (kk_i (fun x1 m1 k1 n1 => ?_)) (kx_n he_i)
        refine s_if_eq C dX1_search_60 99 rfl 63 rfl (fun c_ => ?_) (fun c_ => ?_)
        · exact wX1_search_b99 C hret h0 hin N (fun m v0 v1 v2 v3 v4 v5 v7 k n => ih m v0 v1 v2 v3 v4 v5 v7 k n) _ _ _ _ _ _ _ _ _ _
        · refine s_aload C 4 rfl dX1_search_63 65 rfl ?_
          refine s_aload C 4 rfl dX1_search_65 67 rfl ?_
          refine x_giN C 1 (RX2, TX2, 12) rfl 3 (Nat.le_of_ble_eq_true rfl) q302 rfl rfl 2 rfl dX1_search_67 70 rfl (fun x2 => ?_)
          refine s_iload C 6 rfl dX1_search_70 72 rfl ?_
          refine s_iconst C 0 rfl dX1_search_72 73 rfl ?_
          refine x_ck (fun hb_ hb0_ => ?_)
          refine x_callV (enc := en_i) C 18 3 [vi_ x2, vi_ v7, vi_ 0] 2 (ctX2_may C.2.2.2.2.2.2.2.2.1 N m1 v4 x2 v7 0) hb_ hb0_ rfl rfl q986 q987 q988 q85 q989 hdX2_may (Nat.le_of_ble_eq_true rfl) (Nat.le_of_ble_eq_true rfl) rfl (Nat.le_of_ble_eq_true rfl) dX1_search_73 76 rfl rfl hen_i (kk_i (fun x3 m2 k1 n1 => ?_)) (kx_n he_i)
          refine s_if_eq C dX1_search_76 99 rfl 79 rfl (fun c_ => ?_) (fun c_ => ?_)
          · exact wX1_search_b99 C hret h0 hin N (fun m v0 v1 v2 v3 v4 v5 v7 k n => ih m v0 v1 v2 v3 v4 v5 v7 k n) _ _ _ _ _ _ _ _ _ _
          · refine s_aload_n C rfl 0 rfl dX1_search_79 80 rfl ?_
            refine x_gr C 0 (RX1, TX1, 9) rfl 8 (Nat.le_of_ble_eq_true rfl) q455 (Or.inl rfl) rfl 1 rfl dX1_search_80 83 rfl (fun x4 => ?_)
            refine s_bipush C 100 rfl dX1_search_83 85 rfl ?_
            refine s_iload_n C rfl 1 rfl dX1_search_85 86 rfl ?_
            refine s_imul C dX1_search_86 87 rfl ?_
            refine s_iload C 6 rfl dX1_search_87 89 rfl ?_
            refine s_iadd C dX1_search_89 90 rfl ?_
            refine x_callS (enc := en_r) C 12 1 [vi_ ((100 * v1) + v7)] (ctJ21_valueOf C.2.2.2.2.2.2.2.2.1 N m2 ((100 * v1) + v7)) q2785 q1620 q108 q1621 hdJ21_valueOf (Nat.le_of_ble_eq_true rfl) (Nat.le_of_ble_eq_true rfl) rfl (Nat.le_of_ble_eq_true rfl) dX1_search_90 93 rfl rfl hen_r (kk_r (fun x5 m3 k1 n1 => ?_)) (kx_n he_r)
            refine x_ck (fun hb_ hb0_ => ?_)
            refine x_callF (enc := en_i) C 15 1 [vr_ x5] 13 (ctJ2_add C.2.2.2.2.2.2.2.2.1 N m3 x4 x5) hb_ hb0_ rfl rfl rfl fw_0 q346 q350 q352 q84 q354 hx0 (Nat.le_of_ble_eq_true rfl) (Nat.le_of_ble_eq_true rfl) rfl (Nat.le_of_ble_eq_true rfl) dX1_search_93 98 rfl rfl hen_i (kk_i (fun x6 m4 k1 n1 => ?_)) (kx_n he_i)
            refine s_pop C rfl dX1_search_98 99 rfl ?_
            exact wX1_search_b99 C hret h0 hin N (fun m v0 v1 v2 v3 v4 v5 v7 k n => ih m v0 v1 v2 v3 v4 v5 v7 k n) _ _ _ _ _ _ _ _ _ _
      · exact wX1_search_b99 C hret h0 hin N (fun m v0 v1 v2 v3 v4 v5 v7 k n => ih m v0 v1 v2 v3 v4 v5 v7 k n) _ _ _ _ _ _ _ _ _ _
    · refine s_aload_n C rfl 0 rfl dX1_search_105 106 rfl ?_
      refine x_gr C 0 (RX1, TX1, 9) rfl 8 (Nat.le_of_ble_eq_true rfl) q455 (Or.inl rfl) rfl 1 rfl dX1_search_106 109 rfl (fun x7 => ?_)
      refine x_ck (fun hb_ hb0_ => ?_)
      refine x_callF (enc := en_i) C 10 0 [] 13 (ctJ2_size C.2.2.2.2.2.2.2.2.1 N m x7) hb_ hb0_ rfl rfl rfl fw_1 q480 q483 q485 q84 q487 hx1 (Nat.le_of_ble_eq_true rfl) (Nat.le_of_ble_eq_true rfl) rfl (Nat.le_of_ble_eq_true rfl) dX1_search_109 114 rfl rfl hen_i (kk_i (fun x8 m5 k1 n1 => ?_)) (kx_n he_i)
      exact x_iret C hret rfl dX1_search_114
theorem wX1_search {l : Launch} {g : GG} {E : Me_} (C : Cx_ l g E "MasterTree" cX1_search 8 35) (hret : (eT_ E).sig.returnType = (Option.some Jvm.ClassFile.FieldType.int)) (h0 : ∀ x ∈ (eC_ E).exceptionTable.toList, False) (hin : (eT_ E).name = "search") (N : Nat) : ∀ (m : Mm) (v0 : Option Nat) (v1 : Int32) (v2 : Int32) (v3 : Int32) (k n : Nat), Sm_ l g E 8 (xe_ en_i) (fX1_search (gE_ g) N m v0 v1 v2 v3) k n 0 [(0, vr_ v0), (1, vi_ v1), (2, vi_ v2), (3, vi_ v3)] [] m := by
  intro m v0 v1 v2 v3 k n
  unfold fX1_search
  refine s_aload_n C rfl 0 rfl dX1_search_0 1 rfl ?_
  refine s_iload_n C rfl 1 rfl dX1_search_1 2 rfl ?_
  refine s_iload_n C rfl 2 rfl dX1_search_2 3 rfl ?_
  refine s_iload_n C rfl 3 rfl dX1_search_3 4 rfl ?_
  refine x_ck (fun hb_ hb0_ => ?_)
  refine x_callV (enc := (xe_ en_r)) C 18 3 [vi_ v1, vi_ v2, vi_ v3] 1 (ctX1_searched C.2.2.2.2.2.2.2.2.1 N m v0 v1 v2 v3) hb_ hb0_ rfl rfl q2677 q2679 qs28 q81 q2680 hdX1_searched (Nat.le_of_ble_eq_true rfl) (Nat.le_of_ble_eq_true rfl) rfl (Nat.le_of_ble_eq_true rfl) dX1_search_4 7 rfl rfl (hen_x hen_r) (kk_x (kk_r (fun x1 m1 k1 n1 => ?_))) (kx_x C h0 he_r)
  refine s_astore C (Nat.le_of_ble_eq_true rfl) [0, 1, 2, 3] rfl rfl dX1_search_7 9 rfl ?_
  refine s_aload_n C rfl 1 rfl dX1_search_9 10 rfl ?_
  refine x_ck (fun hb_ hb0_ => ?_)
  refine x_callV (enc := (xe_ en_r)) C 13 0 [] 1 (ctX1_filter C.2.2.2.2.2.2.2.2.1 N m1 v0) hb_ hb0_ rfl rfl q2681 q2683 qs29 q81 q2684 hdX1_filter (Nat.le_of_ble_eq_true rfl) (Nat.le_of_ble_eq_true rfl) rfl (Nat.le_of_ble_eq_true rfl) dX1_search_10 13 rfl rfl (hen_x hen_r) (kk_x (kk_r (fun x2 m2 k1 n1 => ?_))) (kx_x C h0 he_r)
  refine s_aload C 0 rfl dX1_search_13 15 rfl ?_
  refine x_wj [] 18 (fun kk_ => ?_) (fun x3 m3 k1 n1 => ?_)
  · refine x_csr (kd := 8) (fun hb_ hb0_ => ?_) ?_
    · exact x_callA (enc := en_j) (owner := "MasterTree$Filter") C 19 1 [vr_ x1] 8 (ctX9_among C.2.2.2.2.2.2.2.2.1 N m2 x2 x1) hb_ hb0_ rfl rfl q2686 q2688 q2701 q2702 q139 q2703 q2687 ⟨by decide +kernel, by decide +kernel, by decide +kernel⟩ (Nat.le_of_ble_eq_true rfl) (Nat.le_of_ble_eq_true rfl) rfl (Nat.le_of_ble_eq_true rfl) dX1_search_15 18 rfl rfl hen_j (kk_j kk_) (kx_n he_j)
    refine x_csr (kd := 9) (fun hb_ hb0_ => ?_) ?_
    · exact x_callA (enc := en_j) (owner := "MasterTree$Filter") C 13 1 [vr_ x1] 9 (ctX10_among C.2.2.2.2.2.2.2.2.1 N m2 x2 x1) hb_ hb0_ rfl rfl q2686 q2688 q2689 q2690 q140 q2691 q2687 ⟨by decide +kernel, by decide +kernel, by decide +kernel⟩ (Nat.le_of_ble_eq_true rfl) (Nat.le_of_ble_eq_true rfl) rfl (Nat.le_of_ble_eq_true rfl) dX1_search_15 18 rfl rfl hen_j (kk_j kk_) (kx_n he_j)
    refine x_csr (kd := 10) (fun hb_ hb0_ => ?_) ?_
    · exact x_callA (enc := en_j) (owner := "MasterTree$Filter") C 34 1 [vr_ x1] 10 (ctX11_among_d14 C.2.2.2.2.2.2.2.2.1 N m2 x2 x1) hb_ hb0_ rfl rfl q2686 q2688 q2769 q2770 q141 q2771 q2687 ⟨by decide +kernel, by decide +kernel, by decide +kernel⟩ (Nat.le_of_ble_eq_true rfl) (Nat.le_of_ble_eq_true rfl) rfl (Nat.le_of_ble_eq_true rfl) dX1_search_15 18 rfl rfl hen_j (kk_j kk_) (kx_n he_j)
    refine x_csr (kd := 11) (fun hb_ hb0_ => ?_) ?_
    · exact x_callA (enc := en_j) (owner := "MasterTree$Filter") C 34 1 [vr_ x1] 11 (ctX12_among_d14 C.2.2.2.2.2.2.2.2.1 N m2 x2 x1) hb_ hb0_ rfl rfl q2686 q2688 q2781 q2773 q142 q2774 q2687 ⟨by decide +kernel, by decide +kernel, by decide +kernel⟩ (Nat.le_of_ble_eq_true rfl) (Nat.le_of_ble_eq_true rfl) rfl (Nat.le_of_ble_eq_true rfl) dX1_search_15 18 rfl rfl hen_j (kk_j kk_) (kx_n he_j)
    exact Sm_bn
  refine s_lstore C (Nat.le_of_ble_eq_true rfl) [0, 1, 2, 3, 4] rfl rfl dX1_search_18 20 rfl ?_
  refine s_aload_n C rfl 2 rfl dX1_search_20 21 rfl ?_
  refine x_gr C 0 (RX1, TX1, 9) rfl 8 (Nat.le_of_ble_eq_true rfl) q455 (Or.inl rfl) rfl 1 rfl dX1_search_21 24 rfl (fun x8 => ?_)
  refine x_ck (fun hb_ hb0_ => ?_)
  refine x_callF (enc := en_v) C 10 0 [] 13 (ctJ2_clear C.2.2.2.2.2.2.2.2.1 N m3 x8) hb_ hb0_ rfl rfl rfl fw_2 q489 q492 q494 q84 q496 hx4 (Nat.le_of_ble_eq_true rfl) (Nat.le_of_ble_eq_true rfl) rfl (Nat.le_of_ble_eq_true rfl) dX1_search_24 29 rfl rfl hen_v (kk_v (fun m8 k1 n1 => ?_)) (kx_n he_v)
  refine s_iconst C 0 rfl dX1_search_29 30 rfl ?_
  refine s_istore C (Nat.le_of_ble_eq_true rfl) [0, 1, 2, 3, 4, 5] rfl rfl dX1_search_30 32 rfl ?_
  refine Sm_sub [3, 4, 5, 6, 2, 1, 0] rfl ?_
  exact wX1_search_b32 C hret h0 hin N N _ _ _ _ _ _ _ _ _ _
theorem hdX1_search : ((⟨"MasterTree", "search", "(III)I"⟩ : MethodName)).cls ≠ "java/lang/invoke/MethodHandle" ∧ ((⟨"MasterTree", "search", "(III)I"⟩ : MethodName)).cls ≠ "java/lang/invoke/VarHandle" ∧ (parseMethodDescriptor ((⟨"MasterTree", "search", "(III)I"⟩ : MethodName)).desc).map (fun d => d.parameters.length) = some 3 := ⟨by decide +kernel, by decide +kernel, by decide +kernel⟩
theorem ctX1_search {l : Launch} {g : GG} (hst : l.stackTraces = false) (N : Nat) (m : Mm) (v0 : Option Nat) (v1 : Int32) (v2 : Int32) (v3 : Int32) : ∀ v m' k n, fX1_search (gE_ g) N m v0 v1 v2 v3 = some (v, m', k, n) → Ct_ l g (⟨"MasterTree", "search", "(III)I"⟩ : MethodName) (ws_ (⟨"MasterTree", "search", "(III)I"⟩ : MethodName) cX1_search 8 (Option.some Jvm.ClassFile.FieldType.int)) 35 [vr_ v0, vi_ v1, vi_ v2, vi_ v3] m ((xe_ en_i) v) m' k n :=
  Ct_of (by decide +kernel) rfl hst (Nat.le_of_ble_eq_true rfl) rfl (fun E C hret h0 hin => wX1_search C hret h0 hin N m v0 v1 v2 v3 0 0)
theorem wX0_search {l : Launch} {g : GG} {E : Me_} (C : Cx_ l g E "MasterTreeLaw" cX0_search 6 36) (hret : (eT_ E).sig.returnType = (Option.some Jvm.ClassFile.FieldType.int)) (h0 : (eC_ E).exceptionTable.toList = tableOf [(0, 12, 15, 19), (0, 12, 19, 13)]) (hin : (eT_ E).name = "search") (N : Nat) : ∀ (m : Mm) (v0 : Option Nat) (v1 : Int32) (v2 : Int32) (v3 : Int32) (v4 : Option Nat) (k n : Nat), Sm_ l g E 6 en_i (fX0_search (gE_ g) N m v0 v1 v2 v3 v4) k n 0 [(0, vr_ v0), (1, vi_ v1), (2, vi_ v2), (3, vi_ v3), (4, vr_ v4)] [] m := by
  intro m v0 v1 v2 v3 v4 k n
  unfold fX0_search
  refine s_aload C 4 rfl dX0_search_0 2 rfl ?_
  refine s_iconst C 0 rfl dX0_search_2 3 rfl ?_
  refine s_aload_n C rfl 0 rfl dX0_search_3 4 rfl ?_
  refine s_iload_n C rfl 1 rfl dX0_search_4 5 rfl ?_
  refine s_iload_n C rfl 2 rfl dX0_search_5 6 rfl ?_
  refine s_iload_n C rfl 3 rfl dX0_search_6 7 rfl ?_
  refine x_ck (fun hb_ hb0_ => ?_)
  refine x_callV (enc := (xe_ en_i)) C 35 3 [vi_ v1, vi_ v2, vi_ v3] 1 (ctX1_search C.2.2.2.2.2.2.2.2.1 N m v0 v1 v2 v3) hb_ hb0_ rfl rfl q2673 q2674 q2675 q81 q2676 hdX1_search (Nat.le_of_ble_eq_true rfl) (Nat.le_of_ble_eq_true rfl) rfl (Nat.le_of_ble_eq_true rfl) dX0_search_7 10 rfl rfl (hen_x hen_i) (kk_c (kk_i (fun x1 m1 k1 n1 => ?_))) (kx_c he_i (fun i_ m0 k0 n0 => ?_))
  · refine s_i2l C dX0_search_10 11 rfl ?_
    refine x_bj3 C 203 rfl dX0_search_11 12 rfl (fun m2 => ?_)
    refine s_goto C (off := 11) 23 dX0_search_12 rfl ?_
    refine s_iconst C 0 rfl dX0_search_23 24 rfl ?_
    exact x_iret C hret rfl dX0_search_24
  · refine Sx_if ?_ ?_
    · refine Sx_ctch C h0 0 [] ({ startPc := 0, endPc := 12, handlerPc := 15, catchType := 19 } : ExceptionTableEntry) [{ startPc := 0, endPc := 12, handlerPc := 19, catchType := 13 }] rfl (fun z hz => by cases hz) (by decide) (by decide) q600 q638 15 rfl (fun q_ => ?_)
      refine s_astore C (Nat.le_of_ble_eq_true rfl) [] rfl rfl dX0_search_15 17 rfl ?_
      refine s_iconst C 1 rfl dX0_search_17 18 rfl ?_
      exact x_iret C hret rfl dX0_search_18
    refine Sx_if ?_ ?_
    · refine Sx_ctch C h0 2 [{ startPc := 0, endPc := 12, handlerPc := 15, catchType := 19 }] ({ startPc := 0, endPc := 12, handlerPc := 19, catchType := 13 } : ExceptionTableEntry) [] rfl (List.forall_mem_cons.mpr ⟨Or.inr ⟨by decide, "java/lang/IndexOutOfBoundsException", q600, List.mem_of_getElem? (i := 4) rfl⟩, fun z hz => by cases hz⟩) (by decide) (by decide) q504 q515 19 rfl (fun q_ => ?_)
      refine s_astore C (Nat.le_of_ble_eq_true rfl) [] rfl rfl dX0_search_19 21 rfl ?_
      refine s_iconst C 2 rfl dX0_search_21 22 rfl ?_
      exact x_iret C hret rfl dX0_search_22
    exact Sx_none
theorem hdX0_search : ((⟨"MasterTreeLaw", "search", "(LMasterTree;III[J)I"⟩ : MethodName)).cls ≠ "java/lang/invoke/MethodHandle" ∧ ((⟨"MasterTreeLaw", "search", "(LMasterTree;III[J)I"⟩ : MethodName)).cls ≠ "java/lang/invoke/VarHandle" ∧ (parseMethodDescriptor ((⟨"MasterTreeLaw", "search", "(LMasterTree;III[J)I"⟩ : MethodName)).desc).map (fun d => d.parameters.length) = some 5 := ⟨by decide +kernel, by decide +kernel, by decide +kernel⟩
theorem ctX0_search {l : Launch} {g : GG} (hst : l.stackTraces = false) (N : Nat) (m : Mm) (v0 : Option Nat) (v1 : Int32) (v2 : Int32) (v3 : Int32) (v4 : Option Nat) : ∀ v m' k n, fX0_search (gE_ g) N m v0 v1 v2 v3 v4 = some (v, m', k, n) → Ct_ l g (⟨"MasterTreeLaw", "search", "(LMasterTree;III[J)I"⟩ : MethodName) (wsW_ (⟨"MasterTreeLaw", "search", "(LMasterTree;III[J)I"⟩ : MethodName) cX0_search 6 (Option.some Jvm.ClassFile.FieldType.int) [(0, 12, 15, 19), (0, 12, 19, 13)]) 36 [vr_ v0, vi_ v1, vi_ v2, vi_ v3, vr_ v4] m (en_i v) m' k n :=
  Ct_ofW (by decide +kernel) rfl hst (Nat.le_of_ble_eq_true rfl) rfl (fun E C hret h0 hin => wX0_search C hret h0 hin N m v0 v1 v2 v3 v4 0 0)
theorem wJ26_hasNext_t24_b26 {l : Launch} {g : GG} {E : Me_} (C : Cx_ l g E "java/util/TreeMap$NavigableSubMap$SubMapIterator" cJ26_hasNext 1 10) (hret : (eT_ E).sig.returnType = (Option.some Jvm.ClassFile.FieldType.boolean)) (h0 : ∀ x ∈ (eC_ E).exceptionTable.toList, False) (hin : (eT_ E).name = "hasNext") (N : Nat) : ∀ (m : Mm) (s0 : Int32) (k n : Nat), Sm_ l g E 1 en_i (fJ26_hasNext_t24_b26 (gE_ g) N m s0) k n 26 [] [vi_ s0] m := by
  intro m s0 k n
  unfold fJ26_hasNext_t24_b26
  exact x_zret C hret rfl dJ26_hasNext_26
theorem wJ26_hasNext_t24_b25 {l : Launch} {g : GG} {E : Me_} (C : Cx_ l g E "java/util/TreeMap$NavigableSubMap$SubMapIterator" cJ26_hasNext 1 10) (hret : (eT_ E).sig.returnType = (Option.some Jvm.ClassFile.FieldType.boolean)) (h0 : ∀ x ∈ (eC_ E).exceptionTable.toList, False) (hin : (eT_ E).name = "hasNext") (N : Nat) : ∀ (m : Mm) (k n : Nat), Sm_ l g E 1 en_i (fJ26_hasNext_t24_b25 (gE_ g) N m) k n 25 [] [] m := by
  intro m k n
  unfold fJ26_hasNext_t24_b25
  refine s_iconst C 0 rfl dJ26_hasNext_25 26 rfl ?_
  exact wJ26_hasNext_t24_b26 C hret h0 hin N _ _ _ _
theorem wJ26_hasNext_t24 {l : Launch} {g : GG} {E : Me_} (C : Cx_ l g E "java/util/TreeMap$NavigableSubMap$SubMapIterator" cJ26_hasNext 1 10) (hret : (eT_ E).sig.returnType = (Option.some Jvm.ClassFile.FieldType.boolean)) (h0 : ∀ x ∈ (eC_ E).exceptionTable.toList, False) (hin : (eT_ E).name = "hasNext") (N : Nat) : ∀ (m : Mm) (v0 : Option Nat) (k n : Nat), Sm_ l g E 1 en_i (fJ26_hasNext_t24 (gE_ g) N m v0) k n 0 [(0, vr_ v0)] [] m := by
  intro m v0 k n
  unfold fJ26_hasNext_t24
  refine s_aload_n C rfl 0 rfl dJ26_hasNext_0 1 rfl ?_
  refine x_gr C 23 (RJ33, TJ33, 6) rfl 1 (Nat.le_of_ble_eq_true rfl) q1354 (Or.inl rfl) rfl 24 rfl dJ26_hasNext_1 4 rfl (fun x1 => ?_)
  refine s_ifnull C dJ26_hasNext_4 25 rfl 7 rfl (fun c_ => ?_) (fun c_ => ?_)
  · refine Sm_sub [] rfl ?_
    exact wJ26_hasNext_t24_b25 C hret h0 hin N _ _ _
  · refine s_aload_n C rfl 0 rfl dJ26_hasNext_7 8 rfl ?_
    refine x_gr C 23 (RJ33, TJ33, 6) rfl 1 (Nat.le_of_ble_eq_true rfl) q1354 (Or.inl rfl) rfl 24 rfl dJ26_hasNext_8 11 rfl (fun x2 => ?_)
    refine x_gr C 15 (RJ37, TJ37, 6) rfl 0 (Nat.le_of_ble_eq_true rfl) q1892 (Or.inl rfl) rfl 16 rfl dJ26_hasNext_11 14 rfl (fun x3 => ?_)
    refine s_aload_n C rfl 0 rfl dJ26_hasNext_14 15 rfl ?_
    refine x_gr C 23 (RJ33, TJ33, 6) rfl 2 (Nat.le_of_ble_eq_true rfl) q1355 (Or.inl rfl) rfl 24 rfl dJ26_hasNext_15 18 rfl (fun x4 => ?_)
    refine s_acmp_eq C dJ26_hasNext_18 25 rfl 21 rfl (fun c_ => ?_) (fun c_ => ?_)
    · refine Sm_sub [] rfl ?_
      exact wJ26_hasNext_t24_b25 C hret h0 hin N _ _ _
    · refine s_iconst C 1 rfl dJ26_hasNext_21 22 rfl ?_
      refine s_goto C (off := 4) 26 dJ26_hasNext_22 rfl ?_
      refine Sm_sub [] rfl ?_
      exact wJ26_hasNext_t24_b26 C hret h0 hin N _ _ _ _
theorem hdJ26_hasNext_t24 : ((⟨"java/util/TreeMap$NavigableSubMap$SubMapIterator", "hasNext", "()Z"⟩ : MethodName)).cls ≠ "java/lang/invoke/MethodHandle" ∧ ((⟨"java/util/TreeMap$NavigableSubMap$SubMapIterator", "hasNext", "()Z"⟩ : MethodName)).cls ≠ "java/lang/invoke/VarHandle" ∧ (parseMethodDescriptor ((⟨"java/util/TreeMap$NavigableSubMap$SubMapIterator", "hasNext", "()Z"⟩ : MethodName)).desc).map (fun d => d.parameters.length) = some 0 := ⟨by decide +kernel, by decide +kernel, by decide +kernel⟩
theorem ctJ26_hasNext_t24 {l : Launch} {g : GG} (hst : l.stackTraces = false) (N : Nat) (m : Mm) (v0 : Option Nat) : ∀ v m' k n, fJ26_hasNext_t24 (gE_ g) N m v0 = some (v, m', k, n) → Ct_ l g (⟨"java/util/TreeMap$NavigableSubMap$SubMapIterator", "hasNext", "()Z"⟩ : MethodName) (ws_ (⟨"java/util/TreeMap$NavigableSubMap$SubMapIterator", "hasNext", "()Z"⟩ : MethodName) cJ26_hasNext 1 (Option.some Jvm.ClassFile.FieldType.boolean)) 10 [vr_ v0] m (en_i v) m' k n :=
  Ct_of (by decide +kernel) rfl hst (Nat.le_of_ble_eq_true rfl) rfl (fun E C hret h0 hin => wJ26_hasNext_t24 C hret h0 hin N m v0 0 0)
theorem wJ26_nextEntry_t24_b20 {l : Launch} {g : GG} {E : Me_} (C : Cx_ l g E "java/util/TreeMap$NavigableSubMap$SubMapIterator" cJ26_nextEntry 2 11) (hret : (eT_ E).sig.returnType = (Option.some (Jvm.ClassFile.FieldType.object "java/util/TreeMap$Entry"))) (h0 : ∀ x ∈ (eC_ E).exceptionTable.toList, False) (hin : (eT_ E).name = "nextEntry") (N : Nat) : ∀ (m : Mm) (k n : Nat), Sm_ l g E 2 en_r (fJ26_nextEntry_t24_b20 (gE_ g) N m) k n 20 [] [] m := by
  intro m k n
  unfold fJ26_nextEntry_t24_b20
  exact Sm_none
theorem wJ26_nextEntry_t24 {l : Launch} {g : GG} {E : Me_} (C : Cx_ l g E "java/util/TreeMap$NavigableSubMap$SubMapIterator" cJ26_nextEntry 2 11) (hret : (eT_ E).sig.returnType = (Option.some (Jvm.ClassFile.FieldType.object "java/util/TreeMap$Entry"))) (h0 : ∀ x ∈ (eC_ E).exceptionTable.toList, False) (hin : (eT_ E).name = "nextEntry") (N : Nat) : ∀ (m : Mm) (v0 : Option Nat) (k n : Nat), Sm_ l g E 2 en_r (fJ26_nextEntry_t24 (gE_ g) N m v0) k n 0 [(0, vr_ v0)] [] m := by
  intro m v0 k n
  unfold fJ26_nextEntry_t24
  refine s_aload_n C rfl 0 rfl dJ26_nextEntry_0 1 rfl ?_
  refine x_gr C 23 (RJ33, TJ33, 6) rfl 1 (Nat.le_of_ble_eq_true rfl) q1354 (Or.inl rfl) rfl 24 rfl dJ26_nextEntry_1 4 rfl (fun x1 => ?_)
  refine s_astore_n C rfl (Nat.le_of_ble_eq_true rfl) [0] rfl rfl dJ26_nextEntry_4 5 rfl ?_
  refine s_aload_n C rfl 0 rfl dJ26_nextEntry_5 6 rfl ?_
  refine s_ifnull C dJ26_nextEntry_6 20 rfl 9 rfl (fun c_ => ?_) (fun c_ => ?_)
  · refine Sm_sub [] rfl ?_
    exact wJ26_nextEntry_t24_b20 C hret h0 hin N _ _ _
  · refine s_aload_n C rfl 0 rfl dJ26_nextEntry_9 10 rfl ?_
    refine x_gr C 15 (RJ37, TJ37, 6) rfl 0 (Nat.le_of_ble_eq_true rfl) q1892 (Or.inl rfl) rfl 16 rfl dJ26_nextEntry_10 13 rfl (fun x2 => ?_)
    refine s_aload_n C rfl 1 rfl dJ26_nextEntry_13 14 rfl ?_
    refine x_gr C 23 (RJ33, TJ33, 6) rfl 2 (Nat.le_of_ble_eq_true rfl) q1355 (Or.inl rfl) rfl 24 rfl dJ26_nextEntry_14 17 rfl (fun x3 => ?_)
    refine s_acmp_ne C dJ26_nextEntry_17 28 rfl 20 rfl (fun c_ => ?_) (fun c_ => ?_)
    · refine Sm_sub [] rfl ?_
      exact wJ26_nextEntry_t24_b20 C hret h0 hin N _ _ _
    · refine s_aload_n C rfl 1 rfl dJ26_nextEntry_28 29 rfl ?_
      refine x_gr C 23 (RJ33, TJ33, 6) rfl 4 (Nat.le_of_ble_eq_true rfl) q1357 (Or.inl rfl) rfl 24 rfl dJ26_nextEntry_29 32 rfl (fun x4 => ?_)
      refine x_gr C 20 (RJ39, TJ39, 12) rfl 0 (Nat.le_of_ble_eq_true rfl) q2011 (Or.inl rfl) rfl 21 rfl dJ26_nextEntry_32 35 rfl (fun x5 => ?_)
      refine x_giN C 14 (RJ4, TJ4, 9) rfl 5 (Nat.le_of_ble_eq_true rfl) q209 rfl rfl 15 rfl dJ26_nextEntry_35 38 rfl (fun x6 => ?_)
      refine s_aload_n C rfl 1 rfl dJ26_nextEntry_38 39 rfl ?_
      refine x_gi C 23 (RJ33, TJ33, 6) rfl 3 (Nat.le_of_ble_eq_true rfl) q1356 (Or.inl rfl) rfl 24 rfl dJ26_nextEntry_39 42 rfl (fun x7 => ?_)
      refine s_icmp_eq C dJ26_nextEntry_42 53 rfl 45 rfl (fun c_ => ?_) (fun c_ => ?_)
      · refine s_aload_n C rfl 1 rfl dJ26_nextEntry_53 54 rfl ?_
        refine s_aload_n C rfl 0 rfl dJ26_nextEntry_54 55 rfl ?_
        refine x_callS (enc := en_r) C 10 1 [vr_ x1] (ctJ4_successor C.2.2.2.2.2.2.2.2.1 N m x1) q1545 q1520 q87 q1521 hdJ4_successor (Nat.le_of_ble_eq_true rfl) (Nat.le_of_ble_eq_true rfl) rfl (Nat.le_of_ble_eq_true rfl) dJ26_nextEntry_55 58 rfl rfl hen_r (kk_r (fun x8 m1 k1 n1 => ?_)) (kx_n he_r)
        refine x_pr C 23 (RJ33, TJ33, 6) rfl 1 (Nat.le_of_ble_eq_true rfl) rfl q1354 (Or.inl rfl) rfl trivial 24 rfl dJ26_nextEntry_58 61 rfl (fun m2 => ?_)
        refine s_aload_n C rfl 1 rfl dJ26_nextEntry_61 62 rfl ?_
        refine s_aload_n C rfl 0 rfl dJ26_nextEntry_62 63 rfl ?_
        refine x_pr C 23 (RJ33, TJ33, 6) rfl 0 (Nat.le_of_ble_eq_true rfl) rfl q1353 (Or.inl rfl) rfl trivial 24 rfl dJ26_nextEntry_63 66 rfl (fun m3 => ?_)
        refine s_aload_n C rfl 0 rfl dJ26_nextEntry_66 67 rfl ?_
        exact x_aret C hret (Or.inl ⟨_, rfl⟩) rfl dJ26_nextEntry_67
      · exact Sm_none
theorem hdJ26_nextEntry_t24 : ((⟨"java/util/TreeMap$NavigableSubMap$SubMapIterator", "nextEntry", "()Ljava/util/TreeMap$Entry;"⟩ : MethodName)).cls ≠ "java/lang/invoke/MethodHandle" ∧ ((⟨"java/util/TreeMap$NavigableSubMap$SubMapIterator", "nextEntry", "()Ljava/util/TreeMap$Entry;"⟩ : MethodName)).cls ≠ "java/lang/invoke/VarHandle" ∧ (parseMethodDescriptor ((⟨"java/util/TreeMap$NavigableSubMap$SubMapIterator", "nextEntry", "()Ljava/util/TreeMap$Entry;"⟩ : MethodName)).desc).map (fun d => d.parameters.length) = some 0 := ⟨by decide +kernel, by decide +kernel, by decide +kernel⟩
theorem ctJ26_nextEntry_t24 {l : Launch} {g : GG} (hst : l.stackTraces = false) (N : Nat) (m : Mm) (v0 : Option Nat) : ∀ v m' k n, fJ26_nextEntry_t24 (gE_ g) N m v0 = some (v, m', k, n) → Ct_ l g (⟨"java/util/TreeMap$NavigableSubMap$SubMapIterator", "nextEntry", "()Ljava/util/TreeMap$Entry;"⟩ : MethodName) (ws_ (⟨"java/util/TreeMap$NavigableSubMap$SubMapIterator", "nextEntry", "()Ljava/util/TreeMap$Entry;"⟩ : MethodName) cJ26_nextEntry 2 (Option.some (Jvm.ClassFile.FieldType.object "java/util/TreeMap$Entry"))) 11 [vr_ v0] m (en_r v) m' k n :=
  Ct_of (by decide +kernel) rfl hst (Nat.le_of_ble_eq_true rfl) rfl (fun E C hret h0 hin => wJ26_nextEntry_t24 C hret h0 hin N m v0 0 0)
theorem wJ33_next {l : Launch} {g : GG} {E : Me_} (C : Cx_ l g E "java/util/TreeMap$NavigableSubMap$SubMapKeyIterator" cJ33_next 1 12) (hret : (eT_ E).sig.returnType = (Option.some (Jvm.ClassFile.FieldType.object "java/lang/Object"))) (h0 : ∀ x ∈ (eC_ E).exceptionTable.toList, False) (hin : (eT_ E).name = "next") (N : Nat) : ∀ (m : Mm) (v0 : Option Nat) (k n : Nat), Sm_ l g E 1 en_r (fJ33_next (gE_ g) N m v0) k n 0 [(0, vr_ v0)] [] m := by
  intro m v0 k n
  unfold fJ33_next
  refine s_aload_n C rfl 0 rfl dJ33_next_0 1 rfl ?_
  refine x_ck (fun hb_ hb0_ => ?_)
  refine x_callU (enc := en_r) (owner := "java/util/TreeMap$NavigableSubMap$SubMapIterator") C 11 0 [] 24 (ctJ26_nextEntry_t24 C.2.2.2.2.2.2.2.2.1 N m v0) hb_ hb0_ rfl rfl q1551 q1552 q1553 q1543 q114 q1544 rfl ⟨by decide +kernel, by decide +kernel, by decide +kernel⟩ (Nat.le_of_ble_eq_true rfl) (Nat.le_of_ble_eq_true rfl) rfl (Nat.le_of_ble_eq_true rfl) dJ33_next_1 4 rfl rfl hen_r (kk_r (fun x1 m1 k1 n1 => ?_)) (kx_n he_r)
  refine x_gr C 15 (RJ37, TJ37, 6) rfl 0 (Nat.le_of_ble_eq_true rfl) q1894 (Or.inl rfl) rfl 16 rfl dJ33_next_4 7 rfl (fun x2 => ?_)
  exact x_aret C hret (Or.inl ⟨_, rfl⟩) rfl dJ33_next_7
theorem hdJ33_next : ((⟨"java/util/TreeMap$NavigableSubMap$SubMapKeyIterator", "next", "()Ljava/lang/Object;"⟩ : MethodName)).cls ≠ "java/lang/invoke/MethodHandle" ∧ ((⟨"java/util/TreeMap$NavigableSubMap$SubMapKeyIterator", "next", "()Ljava/lang/Object;"⟩ : MethodName)).cls ≠ "java/lang/invoke/VarHandle" ∧ (parseMethodDescriptor ((⟨"java/util/TreeMap$NavigableSubMap$SubMapKeyIterator", "next", "()Ljava/lang/Object;"⟩ : MethodName)).desc).map (fun d => d.parameters.length) = some 0 := ⟨by decide +kernel, by decide +kernel, by decide +kernel⟩
theorem ctJ33_next {l : Launch} {g : GG} (hst : l.stackTraces = false) (N : Nat) (m : Mm) (v0 : Option Nat) : ∀ v m' k n, fJ33_next (gE_ g) N m v0 = some (v, m', k, n) → Ct_ l g (⟨"java/util/TreeMap$NavigableSubMap$SubMapKeyIterator", "next", "()Ljava/lang/Object;"⟩ : MethodName) (ws_ (⟨"java/util/TreeMap$NavigableSubMap$SubMapKeyIterator", "next", "()Ljava/lang/Object;"⟩ : MethodName) cJ33_next 1 (Option.some (Jvm.ClassFile.FieldType.object "java/lang/Object"))) 12 [vr_ v0] m (en_r v) m' k n :=
  Ct_of (by decide +kernel) rfl hst (Nat.le_of_ble_eq_true rfl) rfl (fun E C hret h0 hin => wJ33_next C hret h0 hin N m v0 0 0)
theorem wJ38_navigableKeySet_t21_b26 {l : Launch} {g : GG} {E : Me_} (C : Cx_ l g E "java/util/TreeMap$NavigableSubMap" cJ38_navigableKeySet 2 13) (hret : (eT_ E).sig.returnType = (Option.some (Jvm.ClassFile.FieldType.object "java/util/NavigableSet"))) (h0 : ∀ x ∈ (eC_ E).exceptionTable.toList, False) (hin : (eT_ E).name = "navigableKeySet") (N : Nat) : ∀ (m : Mm) (s0 : Option Nat) (k n : Nat), Sm_ l g E 2 en_r (fJ38_navigableKeySet_t21_b26 (gE_ g) N m s0) k n 26 [] [vr_ s0] m := by
  intro m s0 k n
  unfold fJ38_navigableKeySet_t21_b26
  exact x_aret C hret (Or.inl ⟨_, rfl⟩) rfl dJ38_navigableKeySet_26
theorem wJ38_navigableKeySet_t21 {l : Launch} {g : GG} {E : Me_} (C : Cx_ l g E "java/util/TreeMap$NavigableSubMap" cJ38_navigableKeySet 2 13) (hret : (eT_ E).sig.returnType = (Option.some (Jvm.ClassFile.FieldType.object "java/util/NavigableSet"))) (h0 : ∀ x ∈ (eC_ E).exceptionTable.toList, False) (hin : (eT_ E).name = "navigableKeySet") (N : Nat) : ∀ (m : Mm) (v0 : Option Nat) (k n : Nat), Sm_ l g E 2 en_r (fJ38_navigableKeySet_t21 (gE_ g) N m v0) k n 0 [(0, vr_ v0)] [] m := by
  intro m v0 k n
  unfold fJ38_navigableKeySet_t21
  refine s_aload_n C rfl 0 rfl dJ38_navigableKeySet_0 1 rfl ?_
  refine x_gr C 20 (RJ39, TJ39, 12) rfl 9 (Nat.le_of_ble_eq_true rfl) q2024 (Or.inl rfl) rfl 21 rfl dJ38_navigableKeySet_1 4 rfl (fun x1 => ?_)
  refine s_astore_n C rfl (Nat.le_of_ble_eq_true rfl) [0] rfl rfl dJ38_navigableKeySet_4 5 rfl ?_
  refine s_aload_n C rfl 0 rfl dJ38_navigableKeySet_5 6 rfl ?_
  refine s_ifnull C dJ38_navigableKeySet_6 13 rfl 9 rfl (fun c_ => ?_) (fun c_ => ?_)
  · refine s_aload_n C rfl 1 rfl dJ38_navigableKeySet_13 14 rfl ?_
    refine x_nw C 16 (RJ36, TJ36, 1) rfl q2822 q1837 q128 17 1 rfl rfl dJ38_navigableKeySet_14 17 rfl (fun x2 m1 => ?_)
    refine s_dup C rfl dJ38_navigableKeySet_17 18 rfl ?_
    refine s_aload_n C rfl 1 rfl dJ38_navigableKeySet_18 19 rfl ?_
    refine x_callI (enc := en_v) C 12 1 [vr_ v0] (ctJ36_init C.2.2.2.2.2.2.2.2.1 N m1 (some x2) v0) (fun h => by cases h) rfl q2823 q1839 q128 q1840 rfl hdJ36_init (Nat.le_of_ble_eq_true rfl) (Nat.le_of_ble_eq_true rfl) rfl (Nat.le_of_ble_eq_true rfl) dJ38_navigableKeySet_19 22 rfl rfl hen_v (kk_v (fun m2 k1 n1 => ?_)) (kx_n he_v)
    refine s_dup_x1 C rfl rfl dJ38_navigableKeySet_22 23 rfl ?_
    refine x_pr C 20 (RJ39, TJ39, 12) rfl 9 (Nat.le_of_ble_eq_true rfl) rfl q2024 (Or.inl rfl) rfl trivial 21 rfl dJ38_navigableKeySet_23 26 rfl (fun m3 => ?_)
    refine Sm_sub [] rfl ?_
    exact wJ38_navigableKeySet_t21_b26 C hret h0 hin N _ _ _ _
  · refine s_aload_n C rfl 0 rfl dJ38_navigableKeySet_9 10 rfl ?_
    refine s_goto C (off := 16) 26 dJ38_navigableKeySet_10 rfl ?_
    refine Sm_sub [] rfl ?_
    exact wJ38_navigableKeySet_t21_b26 C hret h0 hin N _ _ _ _
theorem hdJ38_navigableKeySet_t21 : ((⟨"java/util/TreeMap$NavigableSubMap", "navigableKeySet", "()Ljava/util/NavigableSet;"⟩ : MethodName)).cls ≠ "java/lang/invoke/MethodHandle" ∧ ((⟨"java/util/TreeMap$NavigableSubMap", "navigableKeySet", "()Ljava/util/NavigableSet;"⟩ : MethodName)).cls ≠ "java/lang/invoke/VarHandle" ∧ (parseMethodDescriptor ((⟨"java/util/TreeMap$NavigableSubMap", "navigableKeySet", "()Ljava/util/NavigableSet;"⟩ : MethodName)).desc).map (fun d => d.parameters.length) = some 0 := ⟨by decide +kernel, by decide +kernel, by decide +kernel⟩
theorem ctJ38_navigableKeySet_t21 {l : Launch} {g : GG} (hst : l.stackTraces = false) (N : Nat) (m : Mm) (v0 : Option Nat) : ∀ v m' k n, fJ38_navigableKeySet_t21 (gE_ g) N m v0 = some (v, m', k, n) → Ct_ l g (⟨"java/util/TreeMap$NavigableSubMap", "navigableKeySet", "()Ljava/util/NavigableSet;"⟩ : MethodName) (ws_ (⟨"java/util/TreeMap$NavigableSubMap", "navigableKeySet", "()Ljava/util/NavigableSet;"⟩ : MethodName) cJ38_navigableKeySet 2 (Option.some (Jvm.ClassFile.FieldType.object "java/util/NavigableSet"))) 13 [vr_ v0] m (en_r v) m' k n :=
  Ct_of (by decide +kernel) rfl hst (Nat.le_of_ble_eq_true rfl) rfl (fun E C hret h0 hin => wJ38_navigableKeySet_t21 C hret h0 hin N m v0 0 0)
theorem wJ38_keySet_t21 {l : Launch} {g : GG} {E : Me_} (C : Cx_ l g E "java/util/TreeMap$NavigableSubMap" cJ38_keySet 1 14) (hret : (eT_ E).sig.returnType = (Option.some (Jvm.ClassFile.FieldType.object "java/util/Set"))) (h0 : ∀ x ∈ (eC_ E).exceptionTable.toList, False) (hin : (eT_ E).name = "keySet") (N : Nat) : ∀ (m : Mm) (v0 : Option Nat) (k n : Nat), Sm_ l g E 1 en_r (fJ38_keySet_t21 (gE_ g) N m v0) k n 0 [(0, vr_ v0)] [] m := by
  intro m v0 k n
  unfold fJ38_keySet_t21
  refine s_aload_n C rfl 0 rfl dJ38_keySet_0 1 rfl ?_
  refine x_ck (fun hb_ hb0_ => ?_)
  refine x_callU (enc := en_r) (owner := "java/util/TreeMap$NavigableSubMap") C 13 0 [] 21 (ctJ38_navigableKeySet_t21 C.2.2.2.2.2.2.2.2.1 N m v0) hb_ hb0_ rfl rfl q2817 q2819 q2820 q2818 q131 q2821 rfl ⟨by decide +kernel, by decide +kernel, by decide +kernel⟩ (Nat.le_of_ble_eq_true rfl) (Nat.le_of_ble_eq_true rfl) rfl (Nat.le_of_ble_eq_true rfl) dJ38_keySet_1 4 rfl rfl hen_r (kk_r (fun x1 m1 k1 n1 => ?_)) (kx_n he_r)
  exact x_aret C hret (Or.inl ⟨_, rfl⟩) rfl dJ38_keySet_4
theorem hdJ38_keySet_t21 : ((⟨"java/util/TreeMap$NavigableSubMap", "keySet", "()Ljava/util/Set;"⟩ : MethodName)).cls ≠ "java/lang/invoke/MethodHandle" ∧ ((⟨"java/util/TreeMap$NavigableSubMap", "keySet", "()Ljava/util/Set;"⟩ : MethodName)).cls ≠ "java/lang/invoke/VarHandle" ∧ (parseMethodDescriptor ((⟨"java/util/TreeMap$NavigableSubMap", "keySet", "()Ljava/util/Set;"⟩ : MethodName)).desc).map (fun d => d.parameters.length) = some 0 := ⟨by decide +kernel, by decide +kernel, by decide +kernel⟩
theorem ctJ38_keySet_t21 {l : Launch} {g : GG} (hst : l.stackTraces = false) (N : Nat) (m : Mm) (v0 : Option Nat) : ∀ v m' k n, fJ38_keySet_t21 (gE_ g) N m v0 = some (v, m', k, n) → Ct_ l g (⟨"java/util/TreeMap$NavigableSubMap", "keySet", "()Ljava/util/Set;"⟩ : MethodName) (ws_ (⟨"java/util/TreeMap$NavigableSubMap", "keySet", "()Ljava/util/Set;"⟩ : MethodName) cJ38_keySet 1 (Option.some (Jvm.ClassFile.FieldType.object "java/util/Set"))) 14 [vr_ v0] m (en_r v) m' k n :=
  Ct_of (by decide +kernel) rfl hst (Nat.le_of_ble_eq_true rfl) rfl (fun E C hret h0 hin => wJ38_keySet_t21 C hret h0 hin N m v0 0 0)
theorem wX9_applies_b89 {l : Launch} {g : GG} {E : Me_} (C : Cx_ l g E "MasterTree$ByValue" cX9_applies 7 19) (hret : (eT_ E).sig.returnType = (Option.some Jvm.ClassFile.FieldType.boolean)) (h0 : ∀ x ∈ (eC_ E).exceptionTable.toList, False) (hin : (eT_ E).name = "applies") (N : Nat) {k22 : Mm → Option Nat → Int32 → Option Nat → Rs (Int32)} (hk22 : ∀ (m : Mm) (v0 : Option Nat) (v3 : Int32) (v4 : Option Nat) (k n : Nat), Sm_ l g E 7 en_i (k22 m v0 v3 v4) k n 22 [(0, vr_ v0), (3, vi_ v3), (4, vr_ v4)] [] m) : ∀ (m : Mm) (v0 : Option Nat) (v4 : Option Nat) (s0 : Int32) (k n : Nat), Sm_ l g E 7 en_i (fX9_applies_b89 (gE_ g) N k22 m v0 v4 s0) k n 89 [(0, vr_ v0), (4, vr_ v4)] [vi_ s0] m := by
  intro m v0 v4 s0 k n
  unfold fX9_applies_b89
  refine s_istore_n C rfl (Nat.le_of_ble_eq_true rfl) [0, 1] rfl rfl dX9_applies_89 90 rfl ?_
  refine s_goto C (off := -68) 22 dX9_applies_90 rfl ?_
  refine Sm_sub [1, 0, 2] rfl ?_
  exact hk22 _ _ _ _ _ _
theorem wX9_applies_b84 {l : Launch} {g : GG} {E : Me_} (C : Cx_ l g E "MasterTree$ByValue" cX9_applies 7 19) (hret : (eT_ E).sig.returnType = (Option.some Jvm.ClassFile.FieldType.boolean)) (h0 : ∀ x ∈ (eC_ E).exceptionTable.toList, False) (hin : (eT_ E).name = "applies") (N : Nat) {k22 : Mm → Option Nat → Int32 → Option Nat → Rs (Int32)} (hk22 : ∀ (m : Mm) (v0 : Option Nat) (v3 : Int32) (v4 : Option Nat) (k n : Nat), Sm_ l g E 7 en_i (k22 m v0 v3 v4) k n 22 [(0, vr_ v0), (3, vi_ v3), (4, vr_ v4)] [] m) : ∀ (m : Mm) (v0 : Option Nat) (v4 : Option Nat) (k n : Nat), Sm_ l g E 7 en_i (fX9_applies_b84 (gE_ g) N k22 m v0 v4) k n 84 [(0, vr_ v0), (4, vr_ v4)] [] m := by
  intro m v0 v4 k n
  unfold fX9_applies_b84
  refine s_iconst C 1 rfl dX9_applies_84 85 rfl ?_
  refine s_goto C (off := 4) 89 dX9_applies_85 rfl ?_
  exact wX9_applies_b89 C hret h0 hin N hk22 _ _ _ _ _ _
theorem wX9_applies_b88 {l : Launch} {g : GG} {E : Me_} (C : Cx_ l g E "MasterTree$ByValue" cX9_applies 7 19) (hret : (eT_ E).sig.returnType = (Option.some Jvm.ClassFile.FieldType.boolean)) (h0 : ∀ x ∈ (eC_ E).exceptionTable.toList, False) (hin : (eT_ E).name = "applies") (N : Nat) {k22 : Mm → Option Nat → Int32 → Option Nat → Rs (Int32)} (hk22 : ∀ (m : Mm) (v0 : Option Nat) (v3 : Int32) (v4 : Option Nat) (k n : Nat), Sm_ l g E 7 en_i (k22 m v0 v3 v4) k n 22 [(0, vr_ v0), (3, vi_ v3), (4, vr_ v4)] [] m) : ∀ (m : Mm) (v0 : Option Nat) (v4 : Option Nat) (k n : Nat), Sm_ l g E 7 en_i (fX9_applies_b88 (gE_ g) N k22 m v0 v4) k n 88 [(0, vr_ v0), (4, vr_ v4)] [] m := by
  intro m v0 v4 k n
  unfold fX9_applies_b88
  refine s_iconst C 0 rfl dX9_applies_88 89 rfl ?_
  exact wX9_applies_b89 C hret h0 hin N hk22 _ _ _ _ _ _
theorem wX9_applies_b22 {l : Launch} {g : GG} {E : Me_} (C : Cx_ l g E "MasterTree$ByValue" cX9_applies 7 19) (hret : (eT_ E).sig.returnType = (Option.some Jvm.ClassFile.FieldType.boolean)) (h0 : ∀ x ∈ (eC_ E).exceptionTable.toList, False) (hin : (eT_ E).name = "applies") (N : Nat) : ∀ (F : Nat) (m : Mm) (v0 : Option Nat) (v3 : Int32) (v4 : Option Nat) (k n : Nat), Sm_ l g E 7 en_i (fX9_applies_b22 (gE_ g) N F m v0 v3 v4) k n 22 [(0, vr_ v0), (3, vi_ v3), (4, vr_ v4)] [] m := by
  intro F
  induction F with
  | zero => intros; exact Sm_none
  | succ F ih =>
    intro m v0 v3 v4 k n
    unfold fX9_applies_b22
    refine s_aload C 2 rfl dX9_applies_22 24 rfl ?_
    refine x_ck (fun hb_ hb0_ => ?_)
    refine x_callF (enc := en_i) C 10 0 [] 24 (ctJ26_hasNext_t24 C.2.2.2.2.2.2.2.2.1 N m v4) hb_ hb0_ rfl rfl rfl fw_17 q2764 q1479 q1475 q114 q1477 hx3 (Nat.le_of_ble_eq_true rfl) (Nat.le_of_ble_eq_true rfl) rfl (Nat.le_of_ble_eq_true rfl) dX9_applies_24 29 rfl rfl hen_i (kk_i (fun x1 m1 k1 n1 => ?_)) (kx_n he_i)
    refine s_if_eq C dX9_applies_29 93 rfl 32 rfl (fun c_ => ?_) (fun c_ => ?_)
    · refine s_iload_n C rfl 1 rfl dX9_applies_93 94 rfl ?_
      exact x_zret C hret rfl dX9_applies_94
    · refine s_aload C 2 rfl dX9_applies_32 34 rfl ?_
      refine x_ck (fun hb_ hb0_ => ?_)
      refine x_callF (enc := en_r) C 12 0 [] 24 (ctJ33_next C.2.2.2.2.2.2.2.2.1 N m1 v4) hb_ hb0_ rfl rfl rfl fw_23 q2766 q1546 q1548 q122 q1550 hx5 (Nat.le_of_ble_eq_true rfl) (Nat.le_of_ble_eq_true rfl) rfl (Nat.le_of_ble_eq_true rfl) dX9_applies_34 39 rfl rfl hen_r (kk_r (fun x2 m2 k1 n1 => ?_)) (kx_n he_r)
      refine x_cc C "java/lang/Integer" [27] (fun k hk => by rw [List.mem_singleton.mp hk]; exact ⟨rfl, Or.inr rfl⟩) q2826 dX9_applies_39 42 rfl ?_
      refine x_ck (fun hb_ hb0_ => ?_)
      refine x_callV (enc := en_i) C 10 0 [] 27 (ctJ21_intValue C.2.2.2.2.2.2.2.2.1 N m2 x2) hb_ hb0_ rfl rfl q2827 q1585 q1586 q108 q1587 hdJ21_intValue (Nat.le_of_ble_eq_true rfl) (Nat.le_of_ble_eq_true rfl) rfl (Nat.le_of_ble_eq_true rfl) dX9_applies_42 45 rfl rfl hen_i (kk_i (fun x3 m3 k1 n1 => ?_)) (kx_n he_i)
      refine s_istore C (Nat.le_of_ble_eq_true rfl) [0, 1, 2] rfl rfl dX9_applies_45 47 rfl ?_
      refine s_iload C 0 rfl dX9_applies_47 49 rfl ?_
      refine s_sipush C 1000 rfl dX9_applies_49 52 rfl ?_
      refine s_irem C (by decide) dX9_applies_52 53 rfl ?_
      refine s_istore C (Nat.le_of_ble_eq_true rfl) [1, 2, 3] rfl rfl dX9_applies_53 55 rfl ?_
      refine s_iload_n C rfl 2 rfl dX9_applies_55 56 rfl ?_
      refine s_if_ne C dX9_applies_56 84 rfl 59 rfl (fun c_ => ?_) (fun c_ => ?_)
      · refine s_iload C 0 rfl dX9_applies_59 61 rfl ?_
        refine s_aload_n C rfl 1 rfl dX9_applies_61 62 rfl ?_
        refine x_gi C 7 (RX9, TX9, 3) rfl 1 (Nat.le_of_ble_eq_true rfl) q2573 (Or.inl rfl) rfl 8 rfl dX9_applies_62 65 rfl (fun x4 => ?_)
        refine s_icmp_eq C dX9_applies_65 84 rfl 68 rfl (fun c_ => ?_) (fun c_ => ?_)
        · refine Sm_sub [1, 3] rfl ?_
          exact wX9_applies_b84 C hret h0 hin N (fun m v0 v3 v4 k n => ih m v0 v3 v4 k n) _ _ _ _ _
        · refine s_aload_n C rfl 1 rfl dX9_applies_68 69 rfl ?_
          refine x_gi C 7 (RX9, TX9, 3) rfl 2 (Nat.le_of_ble_eq_true rfl) q2574 (Or.inl rfl) rfl 8 rfl dX9_applies_69 72 rfl (fun x5 => ?_)
          refine s_if_eq C dX9_applies_72 88 rfl 75 rfl (fun c_ => ?_) (fun c_ => ?_)
          · refine Sm_sub [1, 3] rfl ?_
            exact wX9_applies_b88 C hret h0 hin N (fun m v0 v3 v4 k n => ih m v0 v3 v4 k n) _ _ _ _ _
          · refine s_iload C 0 rfl dX9_applies_75 77 rfl ?_
            refine s_aload_n C rfl 1 rfl dX9_applies_77 78 rfl ?_
            refine x_gi C 7 (RX9, TX9, 3) rfl 1 (Nat.le_of_ble_eq_true rfl) q2573 (Or.inl rfl) rfl 8 rfl dX9_applies_78 81 rfl (fun x6 => ?_)
            refine s_icmp_le C dX9_applies_81 88 rfl 84 rfl (fun c_ => ?_) (fun c_ => ?_)
            · refine Sm_sub [1, 3] rfl ?_
              exact wX9_applies_b84 C hret h0 hin N (fun m v0 v3 v4 k n => ih m v0 v3 v4 k n) _ _ _ _ _
            · refine Sm_sub [1, 3] rfl ?_
              exact wX9_applies_b88 C hret h0 hin N (fun m v0 v3 v4 k n => ih m v0 v3 v4 k n) _ _ _ _ _
      · refine Sm_sub [1, 3] rfl ?_
        exact wX9_applies_b84 C hret h0 hin N (fun m v0 v3 v4 k n => ih m v0 v3 v4 k n) _ _ _ _ _
theorem wX9_applies {l : Launch} {g : GG} {E : Me_} (C : Cx_ l g E "MasterTree$ByValue" cX9_applies 7 19) (hret : (eT_ E).sig.returnType = (Option.some Jvm.ClassFile.FieldType.boolean)) (h0 : ∀ x ∈ (eC_ E).exceptionTable.toList, False) (hin : (eT_ E).name = "applies") (N : Nat) : ∀ (m : Mm) (v0 : Option Nat) (v1 : Option Nat) (v2 : Option Nat) (k n : Nat), Sm_ l g E 7 en_i (fX9_applies (gE_ g) N m v0 v1 v2) k n 0 [(0, vr_ v0), (1, vr_ v1), (2, vr_ v2)] [] m := by
  intro m v0 v1 v2 k n
  unfold fX9_applies
  refine s_iconst C 0 rfl dX9_applies_0 1 rfl ?_
  refine s_istore_n C rfl (Nat.le_of_ble_eq_true rfl) [0, 2] rfl rfl dX9_applies_1 2 rfl ?_
  refine s_aload_n C rfl 2 rfl dX9_applies_2 3 rfl ?_
  refine s_aload_n C rfl 1 rfl dX9_applies_3 4 rfl ?_
  refine x_gi C 7 (RX9, TX9, 3) rfl 0 (Nat.le_of_ble_eq_true rfl) q2572 (Or.inl rfl) rfl 8 rfl dX9_applies_4 7 rfl (fun x1 => ?_)
  refine x_ck (fun hb_ hb0_ => ?_)
  refine x_callV (enc := en_r) C 18 1 [vi_ x1] 3 (ctX3_valuesOf C.2.2.2.2.2.2.2.2.1 N m v2 x1) hb_ hb0_ rfl rfl q2804 q1988 q1989 q88 q1990 hdX3_valuesOf (Nat.le_of_ble_eq_true rfl) (Nat.le_of_ble_eq_true rfl) rfl (Nat.le_of_ble_eq_true rfl) dX9_applies_7 10 rfl rfl hen_r (kk_r (fun x2 m1 k1 n1 => ?_)) (kx_n he_r)
  refine x_ck (fun hb_ hb0_ => ?_)
  refine x_callF (enc := en_r) C 14 0 [] 21 (ctJ38_keySet_t21 C.2.2.2.2.2.2.2.2.1 N m1 x2) hb_ hb0_ rfl rfl rfl fw_59 q2806 q2812 q2814 q131 q2816 hx23 (Nat.le_of_ble_eq_true rfl) (Nat.le_of_ble_eq_true rfl) rfl (Nat.le_of_ble_eq_true rfl) dX9_applies_10 15 rfl rfl hen_r (kk_r (fun x3 m2 k1 n1 => ?_)) (kx_n he_r)
  refine x_ck (fun hb_ hb0_ => ?_)
  refine x_callF (enc := en_r) C 17 0 [] 17 (ctJ36_iterator C.2.2.2.2.2.2.2.2.1 N m2 x3) hb_ hb0_ rfl rfl rfl fw_11 q2825 q1399 q1401 q128 q1403 hx8 (Nat.le_of_ble_eq_true rfl) (Nat.le_of_ble_eq_true rfl) rfl (Nat.le_of_ble_eq_true rfl) dX9_applies_15 20 rfl rfl hen_r (kk_r (fun x4 m3 k1 n1 => ?_)) (kx_n he_r)
  refine s_astore C (Nat.le_of_ble_eq_true rfl) [0, 1] rfl rfl dX9_applies_20 22 rfl ?_
  refine Sm_sub [2, 1, 0] rfl ?_
  exact wX9_applies_b22 C hret h0 hin N N _ _ _ _ _ _
theorem hdX9_applies : ((⟨"MasterTree$ByValue", "applies", "(LMasterTree$Master;LMasterTree$Entry;)Z"⟩ : MethodName)).cls ≠ "java/lang/invoke/MethodHandle" ∧ ((⟨"MasterTree$ByValue", "applies", "(LMasterTree$Master;LMasterTree$Entry;)Z"⟩ : MethodName)).cls ≠ "java/lang/invoke/VarHandle" ∧ (parseMethodDescriptor ((⟨"MasterTree$ByValue", "applies", "(LMasterTree$Master;LMasterTree$Entry;)Z"⟩ : MethodName)).desc).map (fun d => d.parameters.length) = some 2 := ⟨by decide +kernel, by decide +kernel, by decide +kernel⟩
theorem ctX9_applies {l : Launch} {g : GG} (hst : l.stackTraces = false) (N : Nat) (m : Mm) (v0 : Option Nat) (v1 : Option Nat) (v2 : Option Nat) : ∀ v m' k n, fX9_applies (gE_ g) N m v0 v1 v2 = some (v, m', k, n) → Ct_ l g (⟨"MasterTree$ByValue", "applies", "(LMasterTree$Master;LMasterTree$Entry;)Z"⟩ : MethodName) (ws_ (⟨"MasterTree$ByValue", "applies", "(LMasterTree$Master;LMasterTree$Entry;)Z"⟩ : MethodName) cX9_applies 7 (Option.some Jvm.ClassFile.FieldType.boolean)) 19 [vr_ v0, vr_ v1, vr_ v2] m (en_i v) m' k n :=
  Ct_of (by decide +kernel) rfl hst (Nat.le_of_ble_eq_true rfl) rfl (fun E C hret h0 hin => wX9_applies C hret h0 hin N m v0 v1 v2 0 0)
theorem wX10_applies_b41 {l : Launch} {g : GG} {E : Me_} (C : Cx_ l g E "MasterTree$ByClass" cX10_applies 3 13) (hret : (eT_ E).sig.returnType = (Option.some Jvm.ClassFile.FieldType.boolean)) (h0 : ∀ x ∈ (eC_ E).exceptionTable.toList, False) (hin : (eT_ E).name = "applies") (N : Nat) : ∀ (m : Mm) (s0 : Int32) (k n : Nat), Sm_ l g E 3 en_i (fX10_applies_b41 (gE_ g) N m s0) k n 41 [] [vi_ s0] m := by
  intro m s0 k n
  unfold fX10_applies_b41
  exact x_zret C hret rfl dX10_applies_41
theorem wX10_applies_b40 {l : Launch} {g : GG} {E : Me_} (C : Cx_ l g E "MasterTree$ByClass" cX10_applies 3 13) (hret : (eT_ E).sig.returnType = (Option.some Jvm.ClassFile.FieldType.boolean)) (h0 : ∀ x ∈ (eC_ E).exceptionTable.toList, False) (hin : (eT_ E).name = "applies") (N : Nat) : ∀ (m : Mm) (k n : Nat), Sm_ l g E 3 en_i (fX10_applies_b40 (gE_ g) N m) k n 40 [] [] m := by
  intro m k n
  unfold fX10_applies_b40
  refine s_iconst C 0 rfl dX10_applies_40 41 rfl ?_
  exact wX10_applies_b41 C hret h0 hin N _ _ _ _
theorem wX10_applies {l : Launch} {g : GG} {E : Me_} (C : Cx_ l g E "MasterTree$ByClass" cX10_applies 3 13) (hret : (eT_ E).sig.returnType = (Option.some Jvm.ClassFile.FieldType.boolean)) (h0 : ∀ x ∈ (eC_ E).exceptionTable.toList, False) (hin : (eT_ E).name = "applies") (N : Nat) : ∀ (m : Mm) (v0 : Option Nat) (v1 : Option Nat) (v2 : Option Nat) (k n : Nat), Sm_ l g E 3 en_i (fX10_applies (gE_ g) N m v0 v1 v2) k n 0 [(0, vr_ v0), (1, vr_ v1), (2, vr_ v2)] [] m := by
  intro m v0 v1 v2 k n
  unfold fX10_applies
  refine s_aload_n C rfl 2 rfl dX10_applies_0 1 rfl ?_
  refine x_grN C 2 (RX3, TX3, 9) rfl 3 (Nat.le_of_ble_eq_true rfl) q252 rfl rfl 3 rfl dX10_applies_1 4 rfl (fun x1 => ?_)
  refine s_ifnull C dX10_applies_4 40 rfl 7 rfl (fun c_ => ?_) (fun c_ => ?_)
  · refine Sm_sub [] rfl ?_
    exact wX10_applies_b40 C hret h0 hin N _ _ _
  · refine s_aload_n C rfl 1 rfl dX10_applies_7 8 rfl ?_
    refine x_grN C 1 (RX2, TX2, 12) rfl 2 (Nat.le_of_ble_eq_true rfl) q300 rfl rfl 2 rfl dX10_applies_8 11 rfl (fun x2 => ?_)
    refine s_aload_n C rfl 2 rfl dX10_applies_11 12 rfl ?_
    refine x_grN C 2 (RX3, TX3, 9) rfl 3 (Nat.le_of_ble_eq_true rfl) q252 rfl rfl 3 rfl dX10_applies_12 15 rfl (fun x3 => ?_)
    refine x_giN C 6 (RX7, TX7, 9) rfl 7 (Nat.le_of_ble_eq_true rfl) q1761 rfl rfl 7 rfl dX10_applies_15 18 rfl (fun x4 => ?_)
    refine x_ck (fun hb_ hb0_ => ?_)
    refine x_callF (enc := en_r) C 12 1 [vi_ x4] 13 (ctJ2_get C.2.2.2.2.2.2.2.2.1 N m x2 x4) hb_ hb0_ rfl rfl rfl fw_3 q2695 q891 q893 q84 q895 hx2 (Nat.le_of_ble_eq_true rfl) (Nat.le_of_ble_eq_true rfl) rfl (Nat.le_of_ble_eq_true rfl) dX10_applies_18 23 rfl rfl hen_r (kk_r (fun x5 m1 k1 n1 => ?_)) (kx_n he_r)
    refine x_cc C "MasterTree$Klass" [6] (fun k hk => by rw [List.mem_singleton.mp hk]; exact ⟨rfl, Or.inr rfl⟩) q2696 dX10_applies_23 26 rfl ?_
    refine s_aload_n C rfl 0 rfl dX10_applies_26 27 rfl ?_
    refine x_gr C 8 (RX10, TX10, 1) rfl 0 (Nat.le_of_ble_eq_true rfl) q2614 (Or.inl rfl) rfl 9 rfl dX10_applies_27 30 rfl (fun x6 => ?_)
    refine x_ck (fun hb_ hb0_ => ?_)
    refine x_callV (enc := en_i) C 10 1 [vr_ x6] 6 (ctX6_isBeneath C.2.2.2.2.2.2.2.2.1 N m1 x5 x6) hb_ hb0_ rfl rfl q2697 q2698 q2699 q111 q2700 hdX6_isBeneath (Nat.le_of_ble_eq_true rfl) (Nat.le_of_ble_eq_true rfl) rfl (Nat.le_of_ble_eq_true rfl) dX10_applies_30 33 rfl rfl hen_i (kk_i (fun x7 m2 k1 n1 => ?_)) (kx_n he_i)
    refine s_if_eq C dX10_applies_33 40 rfl 36 rfl (fun c_ => ?_) (fun c_ => ?_)
    · refine Sm_sub [] rfl ?_
      exact wX10_applies_b40 C hret h0 hin N _ _ _
    · refine s_iconst C 1 rfl dX10_applies_36 37 rfl ?_
      refine s_goto C (off := 4) 41 dX10_applies_37 rfl ?_
      refine Sm_sub [] rfl ?_
      exact wX10_applies_b41 C hret h0 hin N _ _ _ _
theorem hdX10_applies : ((⟨"MasterTree$ByClass", "applies", "(LMasterTree$Master;LMasterTree$Entry;)Z"⟩ : MethodName)).cls ≠ "java/lang/invoke/MethodHandle" ∧ ((⟨"MasterTree$ByClass", "applies", "(LMasterTree$Master;LMasterTree$Entry;)Z"⟩ : MethodName)).cls ≠ "java/lang/invoke/VarHandle" ∧ (parseMethodDescriptor ((⟨"MasterTree$ByClass", "applies", "(LMasterTree$Master;LMasterTree$Entry;)Z"⟩ : MethodName)).desc).map (fun d => d.parameters.length) = some 2 := ⟨by decide +kernel, by decide +kernel, by decide +kernel⟩
theorem ctX10_applies {l : Launch} {g : GG} (hst : l.stackTraces = false) (N : Nat) (m : Mm) (v0 : Option Nat) (v1 : Option Nat) (v2 : Option Nat) : ∀ v m' k n, fX10_applies (gE_ g) N m v0 v1 v2 = some (v, m', k, n) → Ct_ l g (⟨"MasterTree$ByClass", "applies", "(LMasterTree$Master;LMasterTree$Entry;)Z"⟩ : MethodName) (ws_ (⟨"MasterTree$ByClass", "applies", "(LMasterTree$Master;LMasterTree$Entry;)Z"⟩ : MethodName) cX10_applies 3 (Option.some Jvm.ClassFile.FieldType.boolean)) 13 [vr_ v0, vr_ v1, vr_ v2] m (en_i v) m' k n :=
  Ct_of (by decide +kernel) rfl hst (Nat.le_of_ble_eq_true rfl) rfl (fun E C hret h0 hin => wX10_applies C hret h0 hin N m v0 v1 v2 0 0)
theorem wX11_applies_d0_b68 {l : Launch} {g : GG} {E : Me_} (C : Cx_ l g E "MasterTree$Combined" cX11_applies 3 20) (hret : (eT_ E).sig.returnType = (Option.some Jvm.ClassFile.FieldType.boolean)) (h0 : ∀ x ∈ (eC_ E).exceptionTable.toList, False) (hin : (eT_ E).name = "applies") (N : Nat) : ∀ (m : Mm) (s0 : Int32) (k n : Nat), Sm_ l g E 3 en_i (fX11_applies_d0_b68 (gE_ g) N m s0) k n 68 [] [vi_ s0] m := by
  intro m s0 k n
  unfold fX11_applies_d0_b68
  exact x_zret C hret rfl dX11_applies_68
theorem wX11_applies_d0_b35 {l : Launch} {g : GG} {E : Me_} (C : Cx_ l g E "MasterTree$Combined" cX11_applies 3 20) (hret : (eT_ E).sig.returnType = (Option.some Jvm.ClassFile.FieldType.boolean)) (h0 : ∀ x ∈ (eC_ E).exceptionTable.toList, False) (hin : (eT_ E).name = "applies") (N : Nat) : ∀ (m : Mm) (k n : Nat), Sm_ l g E 3 en_i (fX11_applies_d0_b35 (gE_ g) N m) k n 35 [] [] m := by
  intro m k n
  unfold fX11_applies_d0_b35
  refine s_iconst C 0 rfl dX11_applies_35 36 rfl ?_
  refine s_goto C (off := 32) 68 dX11_applies_36 rfl ?_
  exact wX11_applies_d0_b68 C hret h0 hin N _ _ _ _
theorem wX11_applies_d0_b63 {l : Launch} {g : GG} {E : Me_} (C : Cx_ l g E "MasterTree$Combined" cX11_applies 3 20) (hret : (eT_ E).sig.returnType = (Option.some Jvm.ClassFile.FieldType.boolean)) (h0 : ∀ x ∈ (eC_ E).exceptionTable.toList, False) (hin : (eT_ E).name = "applies") (N : Nat) : ∀ (m : Mm) (k n : Nat), Sm_ l g E 3 en_i (fX11_applies_d0_b63 (gE_ g) N m) k n 63 [] [] m := by
  intro m k n
  unfold fX11_applies_d0_b63
  refine s_iconst C 1 rfl dX11_applies_63 64 rfl ?_
  refine s_goto C (off := 4) 68 dX11_applies_64 rfl ?_
  exact wX11_applies_d0_b68 C hret h0 hin N _ _ _ _
theorem wX11_applies_d0 {l : Launch} {g : GG} {E : Me_} (C : Cx_ l g E "MasterTree$Combined" cX11_applies 3 20) (hret : (eT_ E).sig.returnType = (Option.some Jvm.ClassFile.FieldType.boolean)) (h0 : ∀ x ∈ (eC_ E).exceptionTable.toList, False) (hin : (eT_ E).name = "applies") (N : Nat) : ∀ (m : Mm) (v0 : Option Nat) (v1 : Option Nat) (v2 : Option Nat) (k n : Nat), Sm_ l g E 3 en_i (fX11_applies_d0 (gE_ g) N m v0 v1 v2) k n 0 [(0, vr_ v0), (1, vr_ v1), (2, vr_ v2)] [] m := by
  intro m v0 v1 v2 k n
  unfold fX11_applies_d0
  refine s_aload_n C rfl 0 rfl dX11_applies_0 1 rfl ?_
  refine x_gi C 9 (RX11, TX11, 3) rfl 2 (Nat.le_of_ble_eq_true rfl) q2642 (Or.inl rfl) rfl 10 rfl dX11_applies_1 4 rfl (fun x1 => ?_)
  refine s_if_eq C dX11_applies_4 39 rfl 7 rfl (fun c_ => ?_) (fun c_ => ?_)
  · refine s_aload_n C rfl 0 rfl dX11_applies_39 40 rfl ?_
    refine x_gr C 9 (RX11, TX11, 3) rfl 0 (Nat.le_of_ble_eq_true rfl) q2640 (Or.inl rfl) rfl 10 rfl dX11_applies_40 43 rfl (fun x2 => ?_)
    refine s_aload_n C rfl 1 rfl dX11_applies_43 44 rfl ?_
    refine s_aload_n C rfl 2 rfl dX11_applies_44 45 rfl ?_
    refine x_wi [] 48 (fun kk_ => ?_) (fun x3 m1 k1 n1 => ?_)
    · refine x_csr (kd := 8) (fun hb_ hb0_ => ?_) ?_
      · exact x_callA (enc := en_i) (owner := "MasterTree$Filter") C 19 2 [vr_ v1, vr_ v2] 8 (ctX9_applies C.2.2.2.2.2.2.2.2.1 N m x2 v1 v2) hb_ hb0_ rfl rfl q2831 q2797 q2801 q2802 q139 q2803 q2796 ⟨by decide +kernel, by decide +kernel, by decide +kernel⟩ (Nat.le_of_ble_eq_true rfl) (Nat.le_of_ble_eq_true rfl) rfl (Nat.le_of_ble_eq_true rfl) dX11_applies_45 48 rfl rfl hen_i (kk_i kk_) (kx_n he_i)
      refine x_csr (kd := 9) (fun hb_ hb0_ => ?_) ?_
      · exact x_callA (enc := en_i) (owner := "MasterTree$Filter") C 13 2 [vr_ v1, vr_ v2] 9 (ctX10_applies C.2.2.2.2.2.2.2.2.1 N m x2 v1 v2) hb_ hb0_ rfl rfl q2831 q2797 q2798 q2799 q140 q2800 q2796 ⟨by decide +kernel, by decide +kernel, by decide +kernel⟩ (Nat.le_of_ble_eq_true rfl) (Nat.le_of_ble_eq_true rfl) rfl (Nat.le_of_ble_eq_true rfl) dX11_applies_45 48 rfl rfl hen_i (kk_i kk_) (kx_n he_i)
      exact Sm_bn
    refine s_if_ne C dX11_applies_48 63 rfl 51 rfl (fun c_ => ?_) (fun c_ => ?_)
    · refine s_aload_n C rfl 0 rfl dX11_applies_51 52 rfl ?_
      refine x_gr C 9 (RX11, TX11, 3) rfl 1 (Nat.le_of_ble_eq_true rfl) q2641 (Or.inl rfl) rfl 10 rfl dX11_applies_52 55 rfl (fun x6 => ?_)
      refine s_aload_n C rfl 1 rfl dX11_applies_55 56 rfl ?_
      refine s_aload_n C rfl 2 rfl dX11_applies_56 57 rfl ?_
      refine x_wi [] 60 (fun kk_ => ?_) (fun x7 m4 k1 n1 => ?_)
      · refine x_csr (kd := 8) (fun hb_ hb0_ => ?_) ?_
        · exact x_callA (enc := en_i) (owner := "MasterTree$Filter") C 19 2 [vr_ v1, vr_ v2] 8 (ctX9_applies C.2.2.2.2.2.2.2.2.1 N m1 x6 v1 v2) hb_ hb0_ rfl rfl q2831 q2797 q2801 q2802 q139 q2803 q2796 ⟨by decide +kernel, by decide +kernel, by decide +kernel⟩ (Nat.le_of_ble_eq_true rfl) (Nat.le_of_ble_eq_true rfl) rfl (Nat.le_of_ble_eq_true rfl) dX11_applies_57 60 rfl rfl hen_i (kk_i kk_) (kx_n he_i)
        refine x_csr (kd := 9) (fun hb_ hb0_ => ?_) ?_
        · exact x_callA (enc := en_i) (owner := "MasterTree$Filter") C 13 2 [vr_ v1, vr_ v2] 9 (ctX10_applies C.2.2.2.2.2.2.2.2.1 N m1 x6 v1 v2) hb_ hb0_ rfl rfl q2831 q2797 q2798 q2799 q140 q2800 q2796 ⟨by decide +kernel, by decide +kernel, by decide +kernel⟩ (Nat.le_of_ble_eq_true rfl) (Nat.le_of_ble_eq_true rfl) rfl (Nat.le_of_ble_eq_true rfl) dX11_applies_57 60 rfl rfl hen_i (kk_i kk_) (kx_n he_i)
        exact Sm_bn
      refine s_if_eq C dX11_applies_60 67 rfl 63 rfl (fun c_ => ?_) (fun c_ => ?_)
      · refine s_iconst C 0 rfl dX11_applies_67 68 rfl ?_
        refine Sm_sub [] rfl ?_
        exact wX11_applies_d0_b68 C hret h0 hin N _ _ _ _
      · refine Sm_sub [] rfl ?_
        exact wX11_applies_d0_b63 C hret h0 hin N _ _ _
    · refine Sm_sub [] rfl ?_
      exact wX11_applies_d0_b63 C hret h0 hin N _ _ _
  · refine s_aload_n C rfl 0 rfl dX11_applies_7 8 rfl ?_
    refine x_gr C 9 (RX11, TX11, 3) rfl 0 (Nat.le_of_ble_eq_true rfl) q2640 (Or.inl rfl) rfl 10 rfl dX11_applies_8 11 rfl (fun x10 => ?_)
    refine s_aload_n C rfl 1 rfl dX11_applies_11 12 rfl ?_
    refine s_aload_n C rfl 2 rfl dX11_applies_12 13 rfl ?_
    refine x_wi [] 16 (fun kk_ => ?_) (fun x11 m7 k1 n1 => ?_)
    · refine x_csr (kd := 8) (fun hb_ hb0_ => ?_) ?_
      · exact x_callA (enc := en_i) (owner := "MasterTree$Filter") C 19 2 [vr_ v1, vr_ v2] 8 (ctX9_applies C.2.2.2.2.2.2.2.2.1 N m x10 v1 v2) hb_ hb0_ rfl rfl q2831 q2797 q2801 q2802 q139 q2803 q2796 ⟨by decide +kernel, by decide +kernel, by decide +kernel⟩ (Nat.le_of_ble_eq_true rfl) (Nat.le_of_ble_eq_true rfl) rfl (Nat.le_of_ble_eq_true rfl) dX11_applies_13 16 rfl rfl hen_i (kk_i kk_) (kx_n he_i)
      refine x_csr (kd := 9) (fun hb_ hb0_ => ?_) ?_
      · exact x_callA (enc := en_i) (owner := "MasterTree$Filter") C 13 2 [vr_ v1, vr_ v2] 9 (ctX10_applies C.2.2.2.2.2.2.2.2.1 N m x10 v1 v2) hb_ hb0_ rfl rfl q2831 q2797 q2798 q2799 q140 q2800 q2796 ⟨by decide +kernel, by decide +kernel, by decide +kernel⟩ (Nat.le_of_ble_eq_true rfl) (Nat.le_of_ble_eq_true rfl) rfl (Nat.le_of_ble_eq_true rfl) dX11_applies_13 16 rfl rfl hen_i (kk_i kk_) (kx_n he_i)
      exact Sm_bn
    refine s_if_eq C dX11_applies_16 35 rfl 19 rfl (fun c_ => ?_) (fun c_ => ?_)
    · refine Sm_sub [] rfl ?_
      exact wX11_applies_d0_b35 C hret h0 hin N _ _ _
    · refine s_aload_n C rfl 0 rfl dX11_applies_19 20 rfl ?_
      refine x_gr C 9 (RX11, TX11, 3) rfl 1 (Nat.le_of_ble_eq_true rfl) q2641 (Or.inl rfl) rfl 10 rfl dX11_applies_20 23 rfl (fun x14 => ?_)
      refine s_aload_n C rfl 1 rfl dX11_applies_23 24 rfl ?_
      refine s_aload_n C rfl 2 rfl dX11_applies_24 25 rfl ?_
      refine x_wi [] 28 (fun kk_ => ?_) (fun x15 m10 k1 n1 => ?_)
      · refine x_csr (kd := 8) (fun hb_ hb0_ => ?_) ?_
        · exact x_callA (enc := en_i) (owner := "MasterTree$Filter") C 19 2 [vr_ v1, vr_ v2] 8 (ctX9_applies C.2.2.2.2.2.2.2.2.1 N m7 x14 v1 v2) hb_ hb0_ rfl rfl q2831 q2797 q2801 q2802 q139 q2803 q2796 ⟨by decide +kernel, by decide +kernel, by decide +kernel⟩ (Nat.le_of_ble_eq_true rfl) (Nat.le_of_ble_eq_true rfl) rfl (Nat.le_of_ble_eq_true rfl) dX11_applies_25 28 rfl rfl hen_i (kk_i kk_) (kx_n he_i)
        refine x_csr (kd := 9) (fun hb_ hb0_ => ?_) ?_
        · exact x_callA (enc := en_i) (owner := "MasterTree$Filter") C 13 2 [vr_ v1, vr_ v2] 9 (ctX10_applies C.2.2.2.2.2.2.2.2.1 N m7 x14 v1 v2) hb_ hb0_ rfl rfl q2831 q2797 q2798 q2799 q140 q2800 q2796 ⟨by decide +kernel, by decide +kernel, by decide +kernel⟩ (Nat.le_of_ble_eq_true rfl) (Nat.le_of_ble_eq_true rfl) rfl (Nat.le_of_ble_eq_true rfl) dX11_applies_25 28 rfl rfl hen_i (kk_i kk_) (kx_n he_i)
        exact Sm_bn
      refine s_if_eq C dX11_applies_28 35 rfl 31 rfl (fun c_ => ?_) (fun c_ => ?_)
      · refine Sm_sub [] rfl ?_
        exact wX11_applies_d0_b35 C hret h0 hin N _ _ _
      · refine s_iconst C 1 rfl dX11_applies_31 32 rfl ?_
        refine s_goto C (off := 36) 68 dX11_applies_32 rfl ?_
        refine Sm_sub [] rfl ?_
        exact wX11_applies_d0_b68 C hret h0 hin N _ _ _ _
theorem hdX11_applies_d0 : ((⟨"MasterTree$Combined", "applies", "(LMasterTree$Master;LMasterTree$Entry;)Z"⟩ : MethodName)).cls ≠ "java/lang/invoke/MethodHandle" ∧ ((⟨"MasterTree$Combined", "applies", "(LMasterTree$Master;LMasterTree$Entry;)Z"⟩ : MethodName)).cls ≠ "java/lang/invoke/VarHandle" ∧ (parseMethodDescriptor ((⟨"MasterTree$Combined", "applies", "(LMasterTree$Master;LMasterTree$Entry;)Z"⟩ : MethodName)).desc).map (fun d => d.parameters.length) = some 2 := ⟨by decide +kernel, by decide +kernel, by decide +kernel⟩
theorem ctX11_applies_d0 {l : Launch} {g : GG} (hst : l.stackTraces = false) (N : Nat) (m : Mm) (v0 : Option Nat) (v1 : Option Nat) (v2 : Option Nat) : ∀ v m' k n, fX11_applies_d0 (gE_ g) N m v0 v1 v2 = some (v, m', k, n) → Ct_ l g (⟨"MasterTree$Combined", "applies", "(LMasterTree$Master;LMasterTree$Entry;)Z"⟩ : MethodName) (ws_ (⟨"MasterTree$Combined", "applies", "(LMasterTree$Master;LMasterTree$Entry;)Z"⟩ : MethodName) cX11_applies 3 (Option.some Jvm.ClassFile.FieldType.boolean)) 20 [vr_ v0, vr_ v1, vr_ v2] m (en_i v) m' k n :=
  Ct_of (by decide +kernel) rfl hst (Nat.le_of_ble_eq_true rfl) rfl (fun E C hret h0 hin => wX11_applies_d0 C hret h0 hin N m v0 v1 v2 0 0)
theorem wX12_applies_d0_b17 {l : Launch} {g : GG} {E : Me_} (C : Cx_ l g E "MasterTree$Not" cX12_applies 3 20) (hret : (eT_ E).sig.returnType = (Option.some Jvm.ClassFile.FieldType.boolean)) (h0 : ∀ x ∈ (eC_ E).exceptionTable.toList, False) (hin : (eT_ E).name = "applies") (N : Nat) : ∀ (m : Mm) (s0 : Int32) (k n : Nat), Sm_ l g E 3 en_i (fX12_applies_d0_b17 (gE_ g) N m s0) k n 17 [] [vi_ s0] m := by
  intro m s0 k n
  unfold fX12_applies_d0_b17
  exact x_zret C hret rfl dX12_applies_17
theorem wX12_applies_d0 {l : Launch} {g : GG} {E : Me_} (C : Cx_ l g E "MasterTree$Not" cX12_applies 3 20) (hret : (eT_ E).sig.returnType = (Option.some Jvm.ClassFile.FieldType.boolean)) (h0 : ∀ x ∈ (eC_ E).exceptionTable.toList, False) (hin : (eT_ E).name = "applies") (N : Nat) : ∀ (m : Mm) (v0 : Option Nat) (v1 : Option Nat) (v2 : Option Nat) (k n : Nat), Sm_ l g E 3 en_i (fX12_applies_d0 (gE_ g) N m v0 v1 v2) k n 0 [(0, vr_ v0), (1, vr_ v1), (2, vr_ v2)] [] m := by
  intro m v0 v1 v2 k n
  unfold fX12_applies_d0
  refine s_aload_n C rfl 0 rfl dX12_applies_0 1 rfl ?_
  refine x_gr C 10 (RX12, TX12, 1) rfl 0 (Nat.le_of_ble_eq_true rfl) q2666 (Or.inl rfl) rfl 11 rfl dX12_applies_1 4 rfl (fun x1 => ?_)
  refine s_aload_n C rfl 1 rfl dX12_applies_4 5 rfl ?_
  refine s_aload_n C rfl 2 rfl dX12_applies_5 6 rfl ?_
  refine x_wi [] 9 (fun kk_ => ?_) (fun x2 m1 k1 n1 => ?_)
  · refine x_csr (kd := 8) (fun hb_ hb0_ => ?_) ?_
    · exact x_callA (enc := en_i) (owner := "MasterTree$Filter") C 19 2 [vr_ v1, vr_ v2] 8 (ctX9_applies C.2.2.2.2.2.2.2.2.1 N m x1 v1 v2) hb_ hb0_ rfl rfl q2834 q2797 q2801 q2802 q139 q2803 q2796 ⟨by decide +kernel, by decide +kernel, by decide +kernel⟩ (Nat.le_of_ble_eq_true rfl) (Nat.le_of_ble_eq_true rfl) rfl (Nat.le_of_ble_eq_true rfl) dX12_applies_6 9 rfl rfl hen_i (kk_i kk_) (kx_n he_i)
    refine x_csr (kd := 9) (fun hb_ hb0_ => ?_) ?_
    · exact x_callA (enc := en_i) (owner := "MasterTree$Filter") C 13 2 [vr_ v1, vr_ v2] 9 (ctX10_applies C.2.2.2.2.2.2.2.2.1 N m x1 v1 v2) hb_ hb0_ rfl rfl q2834 q2797 q2798 q2799 q140 q2800 q2796 ⟨by decide +kernel, by decide +kernel, by decide +kernel⟩ (Nat.le_of_ble_eq_true rfl) (Nat.le_of_ble_eq_true rfl) rfl (Nat.le_of_ble_eq_true rfl) dX12_applies_6 9 rfl rfl hen_i (kk_i kk_) (kx_n he_i)
    exact Sm_bn
  refine s_if_ne C dX12_applies_9 16 rfl 12 rfl (fun c_ => ?_) (fun c_ => ?_)
  · refine s_iconst C 1 rfl dX12_applies_12 13 rfl ?_
    refine s_goto C (off := 4) 17 dX12_applies_13 rfl ?_
    refine Sm_sub [] rfl ?_
    exact wX12_applies_d0_b17 C hret h0 hin N _ _ _ _
  · refine s_iconst C 0 rfl dX12_applies_16 17 rfl ?_
    refine Sm_sub [] rfl ?_
    exact wX12_applies_d0_b17 C hret h0 hin N _ _ _ _
theorem hdX12_applies_d0 : ((⟨"MasterTree$Not", "applies", "(LMasterTree$Master;LMasterTree$Entry;)Z"⟩ : MethodName)).cls ≠ "java/lang/invoke/MethodHandle" ∧ ((⟨"MasterTree$Not", "applies", "(LMasterTree$Master;LMasterTree$Entry;)Z"⟩ : MethodName)).cls ≠ "java/lang/invoke/VarHandle" ∧ (parseMethodDescriptor ((⟨"MasterTree$Not", "applies", "(LMasterTree$Master;LMasterTree$Entry;)Z"⟩ : MethodName)).desc).map (fun d => d.parameters.length) = some 2 := ⟨by decide +kernel, by decide +kernel, by decide +kernel⟩
theorem ctX12_applies_d0 {l : Launch} {g : GG} (hst : l.stackTraces = false) (N : Nat) (m : Mm) (v0 : Option Nat) (v1 : Option Nat) (v2 : Option Nat) : ∀ v m' k n, fX12_applies_d0 (gE_ g) N m v0 v1 v2 = some (v, m', k, n) → Ct_ l g (⟨"MasterTree$Not", "applies", "(LMasterTree$Master;LMasterTree$Entry;)Z"⟩ : MethodName) (ws_ (⟨"MasterTree$Not", "applies", "(LMasterTree$Master;LMasterTree$Entry;)Z"⟩ : MethodName) cX12_applies 3 (Option.some Jvm.ClassFile.FieldType.boolean)) 20 [vr_ v0, vr_ v1, vr_ v2] m (en_i v) m' k n :=
  Ct_of (by decide +kernel) rfl hst (Nat.le_of_ble_eq_true rfl) rfl (fun E C hret h0 hin => wX12_applies_d0 C hret h0 hin N m v0 v1 v2 0 0)
theorem wX11_applies_d1_b68 {l : Launch} {g : GG} {E : Me_} (C : Cx_ l g E "MasterTree$Combined" cX11_applies 3 21) (hret : (eT_ E).sig.returnType = (Option.some Jvm.ClassFile.FieldType.boolean)) (h0 : ∀ x ∈ (eC_ E).exceptionTable.toList, False) (hin : (eT_ E).name = "applies") (N : Nat) : ∀ (m : Mm) (s0 : Int32) (k n : Nat), Sm_ l g E 3 en_i (fX11_applies_d1_b68 (gE_ g) N m s0) k n 68 [] [vi_ s0] m := by
  intro m s0 k n
  unfold fX11_applies_d1_b68
  exact x_zret C hret rfl dX11_applies_68
theorem wX11_applies_d1_b35 {l : Launch} {g : GG} {E : Me_} (C : Cx_ l g E "MasterTree$Combined" cX11_applies 3 21) (hret : (eT_ E).sig.returnType = (Option.some Jvm.ClassFile.FieldType.boolean)) (h0 : ∀ x ∈ (eC_ E).exceptionTable.toList, False) (hin : (eT_ E).name = "applies") (N : Nat) : ∀ (m : Mm) (k n : Nat), Sm_ l g E 3 en_i (fX11_applies_d1_b35 (gE_ g) N m) k n 35 [] [] m := by
  intro m k n
  unfold fX11_applies_d1_b35
  refine s_iconst C 0 rfl dX11_applies_35 36 rfl ?_
  refine s_goto C (off := 32) 68 dX11_applies_36 rfl ?_
  exact wX11_applies_d1_b68 C hret h0 hin N _ _ _ _
theorem wX11_applies_d1_b63 {l : Launch} {g : GG} {E : Me_} (C : Cx_ l g E "MasterTree$Combined" cX11_applies 3 21) (hret : (eT_ E).sig.returnType = (Option.some Jvm.ClassFile.FieldType.boolean)) (h0 : ∀ x ∈ (eC_ E).exceptionTable.toList, False) (hin : (eT_ E).name = "applies") (N : Nat) : ∀ (m : Mm) (k n : Nat), Sm_ l g E 3 en_i (fX11_applies_d1_b63 (gE_ g) N m) k n 63 [] [] m := by
  intro m k n
  unfold fX11_applies_d1_b63
  refine s_iconst C 1 rfl dX11_applies_63 64 rfl ?_
  refine s_goto C (off := 4) 68 dX11_applies_64 rfl ?_
  exact wX11_applies_d1_b68 C hret h0 hin N _ _ _ _
theorem wX11_applies_d1 {l : Launch} {g : GG} {E : Me_} (C : Cx_ l g E "MasterTree$Combined" cX11_applies 3 21) (hret : (eT_ E).sig.returnType = (Option.some Jvm.ClassFile.FieldType.boolean)) (h0 : ∀ x ∈ (eC_ E).exceptionTable.toList, False) (hin : (eT_ E).name = "applies") (N : Nat) : ∀ (m : Mm) (v0 : Option Nat) (v1 : Option Nat) (v2 : Option Nat) (k n : Nat), Sm_ l g E 3 en_i (fX11_applies_d1 (gE_ g) N m v0 v1 v2) k n 0 [(0, vr_ v0), (1, vr_ v1), (2, vr_ v2)] [] m := by
  intro m v0 v1 v2 k n
  unfold fX11_applies_d1
  refine s_aload_n C rfl 0 rfl dX11_applies_0 1 rfl ?_
  refine x_gi C 9 (RX11, TX11, 3) rfl 2 (Nat.le_of_ble_eq_true rfl) q2642 (Or.inl rfl) rfl 10 rfl dX11_applies_1 4 rfl (fun x1 => ?_)
  refine s_if_eq C dX11_applies_4 39 rfl 7 rfl (fun c_ => ?_) (fun c_ => ?_)
  · refine s_aload_n C rfl 0 rfl dX11_applies_39 40 rfl ?_
    refine x_gr C 9 (RX11, TX11, 3) rfl 0 (Nat.le_of_ble_eq_true rfl) q2640 (Or.inl rfl) rfl 10 rfl dX11_applies_40 43 rfl (fun x2 => ?_)
    refine s_aload_n C rfl 1 rfl dX11_applies_43 44 rfl ?_
    refine s_aload_n C rfl 2 rfl dX11_applies_44 45 rfl ?_
    refine x_wi [] 48 (fun kk_ => ?_) (fun x3 m1 k1 n1 => ?_)
    · refine x_csr (kd := 8) (fun hb_ hb0_ => ?_) ?_
      · exact x_callA (enc := en_i) (owner := "MasterTree$Filter") C 19 2 [vr_ v1, vr_ v2] 8 (ctX9_applies C.2.2.2.2.2.2.2.2.1 N m x2 v1 v2) hb_ hb0_ rfl rfl q2831 q2797 q2801 q2802 q139 q2803 q2796 ⟨by decide +kernel, by decide +kernel, by decide +kernel⟩ (Nat.le_of_ble_eq_true rfl) (Nat.le_of_ble_eq_true rfl) rfl (Nat.le_of_ble_eq_true rfl) dX11_applies_45 48 rfl rfl hen_i (kk_i kk_) (kx_n he_i)
      refine x_csr (kd := 9) (fun hb_ hb0_ => ?_) ?_
      · exact x_callA (enc := en_i) (owner := "MasterTree$Filter") C 13 2 [vr_ v1, vr_ v2] 9 (ctX10_applies C.2.2.2.2.2.2.2.2.1 N m x2 v1 v2) hb_ hb0_ rfl rfl q2831 q2797 q2798 q2799 q140 q2800 q2796 ⟨by decide +kernel, by decide +kernel, by decide +kernel⟩ (Nat.le_of_ble_eq_true rfl) (Nat.le_of_ble_eq_true rfl) rfl (Nat.le_of_ble_eq_true rfl) dX11_applies_45 48 rfl rfl hen_i (kk_i kk_) (kx_n he_i)
      refine x_csr (kd := 10) (fun hb_ hb0_ => ?_) ?_
      · exact x_callA (enc := en_i) (owner := "MasterTree$Filter") C 20 2 [vr_ v1, vr_ v2] 10 (ctX11_applies_d0 C.2.2.2.2.2.2.2.2.1 N m x2 v1 v2) hb_ hb0_ rfl rfl q2831 q2797 q2828 q2829 q141 q2830 q2796 ⟨by decide +kernel, by decide +kernel, by decide +kernel⟩ (Nat.le_of_ble_eq_true rfl) (Nat.le_of_ble_eq_true rfl) rfl (Nat.le_of_ble_eq_true rfl) dX11_applies_45 48 rfl rfl hen_i (kk_i kk_) (kx_n he_i)
      refine x_csr (kd := 11) (fun hb_ hb0_ => ?_) ?_
      · exact x_callA (enc := en_i) (owner := "MasterTree$Filter") C 20 2 [vr_ v1, vr_ v2] 11 (ctX12_applies_d0 C.2.2.2.2.2.2.2.2.1 N m x2 v1 v2) hb_ hb0_ rfl rfl q2831 q2797 q2835 q2832 q142 q2833 q2796 ⟨by decide +kernel, by decide +kernel, by decide +kernel⟩ (Nat.le_of_ble_eq_true rfl) (Nat.le_of_ble_eq_true rfl) rfl (Nat.le_of_ble_eq_true rfl) dX11_applies_45 48 rfl rfl hen_i (kk_i kk_) (kx_n he_i)
      exact Sm_bn
    refine s_if_ne C dX11_applies_48 63 rfl 51 rfl (fun c_ => ?_) (fun c_ => ?_)
    · refine s_aload_n C rfl 0 rfl dX11_applies_51 52 rfl ?_
      refine x_gr C 9 (RX11, TX11, 3) rfl 1 (Nat.le_of_ble_eq_true rfl) q2641 (Or.inl rfl) rfl 10 rfl dX11_applies_52 55 rfl (fun x8 => ?_)
      refine s_aload_n C rfl 1 rfl dX11_applies_55 56 rfl ?_
      refine s_aload_n C rfl 2 rfl dX11_applies_56 57 rfl ?_
      refine x_wi [] 60 (fun kk_ => ?_) (fun x9 m6 k1 n1 => ?_)
      · refine x_csr (kd := 8) (fun hb_ hb0_ => ?_) ?_
        · exact x_callA (enc := en_i) (owner := "MasterTree$Filter") C 19 2 [vr_ v1, vr_ v2] 8 (ctX9_applies C.2.2.2.2.2.2.2.2.1 N m1 x8 v1 v2) hb_ hb0_ rfl rfl q2831 q2797 q2801 q2802 q139 q2803 q2796 ⟨by decide +kernel, by decide +kernel, by decide +kernel⟩ (Nat.le_of_ble_eq_true rfl) (Nat.le_of_ble_eq_true rfl) rfl (Nat.le_of_ble_eq_true rfl) dX11_applies_57 60 rfl rfl hen_i (kk_i kk_) (kx_n he_i)
        refine x_csr (kd := 9) (fun hb_ hb0_ => ?_) ?_
        · exact x_callA (enc := en_i) (owner := "MasterTree$Filter") C 13 2 [vr_ v1, vr_ v2] 9 (ctX10_applies C.2.2.2.2.2.2.2.2.1 N m1 x8 v1 v2) hb_ hb0_ rfl rfl q2831 q2797 q2798 q2799 q140 q2800 q2796 ⟨by decide +kernel, by decide +kernel, by decide +kernel⟩ (Nat.le_of_ble_eq_true rfl) (Nat.le_of_ble_eq_true rfl) rfl (Nat.le_of_ble_eq_true rfl) dX11_applies_57 60 rfl rfl hen_i (kk_i kk_) (kx_n he_i)
        refine x_csr (kd := 10) (fun hb_ hb0_ => ?_) ?_
        · exact x_callA (enc := en_i) (owner := "MasterTree$Filter") C 20 2 [vr_ v1, vr_ v2] 10 (ctX11_applies_d0 C.2.2.2.2.2.2.2.2.1 N m1 x8 v1 v2) hb_ hb0_ rfl rfl q2831 q2797 q2828 q2829 q141 q2830 q2796 ⟨by decide +kernel, by decide +kernel, by decide +kernel⟩ (Nat.le_of_ble_eq_true rfl) (Nat.le_of_ble_eq_true rfl) rfl (Nat.le_of_ble_eq_true rfl) dX11_applies_57 60 rfl rfl hen_i (kk_i kk_) (kx_n he_i)
        refine x_csr (kd := 11) (fun hb_ hb0_ => ?_) ?_
        · exact x_callA (enc := en_i) (owner := "MasterTree$Filter") C 20 2 [vr_ v1, vr_ v2] 11 (ctX12_applies_d0 C.2.2.2.2.2.2.2.2.1 N m1 x8 v1 v2) hb_ hb0_ rfl rfl q2831 q2797 q2835 q2832 q142 q2833 q2796 ⟨by decide +kernel, by decide +kernel, by decide +kernel⟩ (Nat.le_of_ble_eq_true rfl) (Nat.le_of_ble_eq_true rfl) rfl (Nat.le_of_ble_eq_true rfl) dX11_applies_57 60 rfl rfl hen_i (kk_i kk_) (kx_n he_i)
        exact Sm_bn
      refine s_if_eq C dX11_applies_60 67 rfl 63 rfl (fun c_ => ?_) (fun c_ => ?_)
      · refine s_iconst C 0 rfl dX11_applies_67 68 rfl ?_
        refine Sm_sub [] rfl ?_
        exact wX11_applies_d1_b68 C hret h0 hin N _ _ _ _
      · refine Sm_sub [] rfl ?_
        exact wX11_applies_d1_b63 C hret h0 hin N _ _ _
    · refine Sm_sub [] rfl ?_
      exact wX11_applies_d1_b63 C hret h0 hin N _ _ _
  · refine s_aload_n C rfl 0 rfl dX11_applies_7 8 rfl ?_
    refine x_gr C 9 (RX11, TX11, 3) rfl 0 (Nat.le_of_ble_eq_true rfl) q2640 (Or.inl rfl) rfl 10 rfl dX11_applies_8 11 rfl (fun x14 => ?_)
    refine s_aload_n C rfl 1 rfl dX11_applies_11 12 rfl ?_
    refine s_aload_n C rfl 2 rfl dX11_applies_12 13 rfl ?_
    refine x_wi [] 16 (fun kk_ => ?_) (fun x15 m11 k1 n1 => ?_)
    · refine x_csr (kd := 8) (fun hb_ hb0_ => ?_) ?_
      · exact x_callA (enc := en_i) (owner := "MasterTree$Filter") C 19 2 [vr_ v1, vr_ v2] 8 (ctX9_applies C.2.2.2.2.2.2.2.2.1 N m x14 v1 v2) hb_ hb0_ rfl rfl q2831 q2797 q2801 q2802 q139 q2803 q2796 ⟨by decide +kernel, by decide +kernel, by decide +kernel⟩ (Nat.le_of_ble_eq_true rfl) (Nat.le_of_ble_eq_true rfl) rfl (Nat.le_of_ble_eq_true rfl) dX11_applies_13 16 rfl rfl hen_i (kk_i kk_) (kx_n he_i)
      refine x_csr (kd := 9) (fun hb_ hb0_ => ?_) ?_
      · exact x_callA (enc := en_i) (owner := "MasterTree$Filter") C 13 2 [vr_ v1, vr_ v2] 9 (ctX10_applies C.2.2.2.2.2.2.2.2.1 N m x14 v1 v2) hb_ hb0_ rfl rfl q2831 q2797 q2798 q2799 q140 q2800 q2796 ⟨by decide +kernel, by decide +kernel, by decide +kernel⟩ (Nat.le_of_ble_eq_true rfl) (Nat.le_of_ble_eq_true rfl) rfl (Nat.le_of_ble_eq_true rfl) dX11_applies_13 16 rfl rfl hen_i (kk_i kk_) (kx_n he_i)
      refine x_csr (kd := 10) (fun hb_ hb0_ => ?_) ?_
      · exact x_callA (enc := en_i) (owner := "MasterTree$Filter") C 20 2 [vr_ v1, vr_ v2] 10 (ctX11_applies_d0 C.2.2.2.2.2.2.2.2.1 N m x14 v1 v2) hb_ hb0_ rfl rfl q2831 q2797 q2828 q2829 q141 q2830 q2796 ⟨by decide +kernel, by decide +kernel, by decide +kernel⟩ (Nat.le_of_ble_eq_true rfl) (Nat.le_of_ble_eq_true rfl) rfl (Nat.le_of_ble_eq_true rfl) dX11_applies_13 16 rfl rfl hen_i (kk_i kk_) (kx_n he_i)
      refine x_csr (kd := 11) (fun hb_ hb0_ => ?_) ?_
      · exact x_callA (enc := en_i) (owner := "MasterTree$Filter") C 20 2 [vr_ v1, vr_ v2] 11 (ctX12_applies_d0 C.2.2.2.2.2.2.2.2.1 N m x14 v1 v2) hb_ hb0_ rfl rfl q2831 q2797 q2835 q2832 q142 q2833 q2796 ⟨by decide +kernel, by decide +kernel, by decide +kernel⟩ (Nat.le_of_ble_eq_true rfl) (Nat.le_of_ble_eq_true rfl) rfl (Nat.le_of_ble_eq_true rfl) dX11_applies_13 16 rfl rfl hen_i (kk_i kk_) (kx_n he_i)
      exact Sm_bn
    refine s_if_eq C dX11_applies_16 35 rfl 19 rfl (fun c_ => ?_) (fun c_ => ?_)
    · refine Sm_sub [] rfl ?_
      exact wX11_applies_d1_b35 C hret h0 hin N _ _ _
    · refine s_aload_n C rfl 0 rfl dX11_applies_19 20 rfl ?_
      refine x_gr C 9 (RX11, TX11, 3) rfl 1 (Nat.le_of_ble_eq_true rfl) q2641 (Or.inl rfl) rfl 10 rfl dX11_applies_20 23 rfl (fun x20 => ?_)
      refine s_aload_n C rfl 1 rfl dX11_applies_23 24 rfl ?_
      refine s_aload_n C rfl 2 rfl dX11_applies_24 25 rfl ?_
      refine x_wi [] 28 (fun kk_ => ?_) (fun x21 m16 k1 n1 => ?_)
      · refine x_csr (kd := 8) (fun hb_ hb0_ => ?_) ?_
        · exact x_callA (enc := en_i) (owner := "MasterTree$Filter") C 19 2 [vr_ v1, vr_ v2] 8 (ctX9_applies C.2.2.2.2.2.2.2.2.1 N m11 x20 v1 v2) hb_ hb0_ rfl rfl q2831 q2797 q2801 q2802 q139 q2803 q2796 ⟨by decide +kernel, by decide +kernel, by decide +kernel⟩ (Nat.le_of_ble_eq_true rfl) (Nat.le_of_ble_eq_true rfl) rfl (Nat.le_of_ble_eq_true rfl) dX11_applies_25 28 rfl rfl hen_i (kk_i kk_) (kx_n he_i)
        refine x_csr (kd := 9) (fun hb_ hb0_ => ?_) ?_
        · exact x_callA (enc := en_i) (owner := "MasterTree$Filter") C 13 2 [vr_ v1, vr_ v2] 9 (ctX10_applies C.2.2.2.2.2.2.2.2.1 N m11 x20 v1 v2) hb_ hb0_ rfl rfl q2831 q2797 q2798 q2799 q140 q2800 q2796 ⟨by decide +kernel, by decide +kernel, by decide +kernel⟩ (Nat.le_of_ble_eq_true rfl) (Nat.le_of_ble_eq_true rfl) rfl (Nat.le_of_ble_eq_true rfl) dX11_applies_25 28 rfl rfl hen_i (kk_i kk_) (kx_n he_i)
        refine x_csr (kd := 10) (fun hb_ hb0_ => ?_) ?_
        · exact x_callA (enc := en_i) (owner := "MasterTree$Filter") C 20 2 [vr_ v1, vr_ v2] 10 (ctX11_applies_d0 C.2.2.2.2.2.2.2.2.1 N m11 x20 v1 v2) hb_ hb0_ rfl rfl q2831 q2797 q2828 q2829 q141 q2830 q2796 ⟨by decide +kernel, by decide +kernel, by decide +kernel⟩ (Nat.le_of_ble_eq_true rfl) (Nat.le_of_ble_eq_true rfl) rfl (Nat.le_of_ble_eq_true rfl) dX11_applies_25 28 rfl rfl hen_i (kk_i kk_) (kx_n he_i)
        refine x_csr (kd := 11) (fun hb_ hb0_ => ?_) ?_
        · exact x_callA (enc := en_i) (owner := "MasterTree$Filter") C 20 2 [vr_ v1, vr_ v2] 11 (ctX12_applies_d0 C.2.2.2.2.2.2.2.2.1 N m11 x20 v1 v2) hb_ hb0_ rfl rfl q2831 q2797 q2835 q2832 q142 q2833 q2796 ⟨by decide +kernel, by decide +kernel, by decide +kernel⟩ (Nat.le_of_ble_eq_true rfl) (Nat.le_of_ble_eq_true rfl) rfl (Nat.le_of_ble_eq_true rfl) dX11_applies_25 28 rfl rfl hen_i (kk_i kk_) (kx_n he_i)
        exact Sm_bn
      refine s_if_eq C dX11_applies_28 35 rfl 31 rfl (fun c_ => ?_) (fun c_ => ?_)
      · refine Sm_sub [] rfl ?_
        exact wX11_applies_d1_b35 C hret h0 hin N _ _ _
      · refine s_iconst C 1 rfl dX11_applies_31 32 rfl ?_
        refine s_goto C (off := 36) 68 dX11_applies_32 rfl ?_
        refine Sm_sub [] rfl ?_
        exact wX11_applies_d1_b68 C hret h0 hin N _ _ _ _
theorem hdX11_applies_d1 : ((⟨"MasterTree$Combined", "applies", "(LMasterTree$Master;LMasterTree$Entry;)Z"⟩ : MethodName)).cls ≠ "java/lang/invoke/MethodHandle" ∧ ((⟨"MasterTree$Combined", "applies", "(LMasterTree$Master;LMasterTree$Entry;)Z"⟩ : MethodName)).cls ≠ "java/lang/invoke/VarHandle" ∧ (parseMethodDescriptor ((⟨"MasterTree$Combined", "applies", "(LMasterTree$Master;LMasterTree$Entry;)Z"⟩ : MethodName)).desc).map (fun d => d.parameters.length) = some 2 := ⟨by decide +kernel, by decide +kernel, by decide +kernel⟩
theorem ctX11_applies_d1 {l : Launch} {g : GG} (hst : l.stackTraces = false) (N : Nat) (m : Mm) (v0 : Option Nat) (v1 : Option Nat) (v2 : Option Nat) : ∀ v m' k n, fX11_applies_d1 (gE_ g) N m v0 v1 v2 = some (v, m', k, n) → Ct_ l g (⟨"MasterTree$Combined", "applies", "(LMasterTree$Master;LMasterTree$Entry;)Z"⟩ : MethodName) (ws_ (⟨"MasterTree$Combined", "applies", "(LMasterTree$Master;LMasterTree$Entry;)Z"⟩ : MethodName) cX11_applies 3 (Option.some Jvm.ClassFile.FieldType.boolean)) 21 [vr_ v0, vr_ v1, vr_ v2] m (en_i v) m' k n :=
  Ct_of (by decide +kernel) rfl hst (Nat.le_of_ble_eq_true rfl) rfl (fun E C hret h0 hin => wX11_applies_d1 C hret h0 hin N m v0 v1 v2 0 0)
theorem wX12_applies_d1_b17 {l : Launch} {g : GG} {E : Me_} (C : Cx_ l g E "MasterTree$Not" cX12_applies 3 21) (hret : (eT_ E).sig.returnType = (Option.some Jvm.ClassFile.FieldType.boolean)) (h0 : ∀ x ∈ (eC_ E).exceptionTable.toList, False) (hin : (eT_ E).name = "applies") (N : Nat) : ∀ (m : Mm) (s0 : Int32) (k n : Nat), Sm_ l g E 3 en_i (fX12_applies_d1_b17 (gE_ g) N m s0) k n 17 [] [vi_ s0] m := by
  intro m s0 k n
  unfold fX12_applies_d1_b17
  exact x_zret C hret rfl dX12_applies_17
theorem wX12_applies_d1 {l : Launch} {g : GG} {E : Me_} (C : Cx_ l g E "MasterTree$Not" cX12_applies 3 21) (hret : (eT_ E).sig.returnType = (Option.some Jvm.ClassFile.FieldType.boolean)) (h0 : ∀ x ∈ (eC_ E).exceptionTable.toList, False) (hin : (eT_ E).name = "applies") (N : Nat) : ∀ (m : Mm) (v0 : Option Nat) (v1 : Option Nat) (v2 : Option Nat) (k n : Nat), Sm_ l g E 3 en_i (fX12_applies_d1 (gE_ g) N m v0 v1 v2) k n 0 [(0, vr_ v0), (1, vr_ v1), (2, vr_ v2)] [] m := by
  intro m v0 v1 v2 k n
  unfold fX12_applies_d1
  refine s_aload_n C rfl 0 rfl dX12_applies_0 1 rfl ?_
  refine x_gr C 10 (RX12, TX12, 1) rfl 0 (Nat.le_of_ble_eq_true rfl) q2666 (Or.inl rfl) rfl 11 rfl dX12_applies_1 4 rfl (fun x1 => ?_)
  refine s_aload_n C rfl 1 rfl dX12_applies_4 5 rfl ?_
  refine s_aload_n C rfl 2 rfl dX12_applies_5 6 rfl ?_
  refine x_wi [] 9 (fun kk_ => ?_) (fun x2 m1 k1 n1 => ?_)
  · refine x_csr (kd := 8) (fun hb_ hb0_ => ?_) ?_
    · exact x_callA (enc := en_i) (owner := "MasterTree$Filter") C 19 2 [vr_ v1, vr_ v2] 8 (ctX9_applies C.2.2.2.2.2.2.2.2.1 N m x1 v1 v2) hb_ hb0_ rfl rfl q2834 q2797 q2801 q2802 q139 q2803 q2796 ⟨by decide +kernel, by decide +kernel, by decide +kernel⟩ (Nat.le_of_ble_eq_true rfl) (Nat.le_of_ble_eq_true rfl) rfl (Nat.le_of_ble_eq_true rfl) dX12_applies_6 9 rfl rfl hen_i (kk_i kk_) (kx_n he_i)
    refine x_csr (kd := 9) (fun hb_ hb0_ => ?_) ?_
    · exact x_callA (enc := en_i) (owner := "MasterTree$Filter") C 13 2 [vr_ v1, vr_ v2] 9 (ctX10_applies C.2.2.2.2.2.2.2.2.1 N m x1 v1 v2) hb_ hb0_ rfl rfl q2834 q2797 q2798 q2799 q140 q2800 q2796 ⟨by decide +kernel, by decide +kernel, by decide +kernel⟩ (Nat.le_of_ble_eq_true rfl) (Nat.le_of_ble_eq_true rfl) rfl (Nat.le_of_ble_eq_true rfl) dX12_applies_6 9 rfl rfl hen_i (kk_i kk_) (kx_n he_i)
    refine x_csr (kd := 10) (fun hb_ hb0_ => ?_) ?_
    · exact x_callA (enc := en_i) (owner := "MasterTree$Filter") C 20 2 [vr_ v1, vr_ v2] 10 (ctX11_applies_d0 C.2.2.2.2.2.2.2.2.1 N m x1 v1 v2) hb_ hb0_ rfl rfl q2834 q2797 q2828 q2829 q141 q2830 q2796 ⟨by decide +kernel, by decide +kernel, by decide +kernel⟩ (Nat.le_of_ble_eq_true rfl) (Nat.le_of_ble_eq_true rfl) rfl (Nat.le_of_ble_eq_true rfl) dX12_applies_6 9 rfl rfl hen_i (kk_i kk_) (kx_n he_i)
    refine x_csr (kd := 11) (fun hb_ hb0_ => ?_) ?_
    · exact x_callA (enc := en_i) (owner := "MasterTree$Filter") C 20 2 [vr_ v1, vr_ v2] 11 (ctX12_applies_d0 C.2.2.2.2.2.2.2.2.1 N m x1 v1 v2) hb_ hb0_ rfl rfl q2834 q2797 q2835 q2832 q142 q2833 q2796 ⟨by decide +kernel, by decide +kernel, by decide +kernel⟩ (Nat.le_of_ble_eq_true rfl) (Nat.le_of_ble_eq_true rfl) rfl (Nat.le_of_ble_eq_true rfl) dX12_applies_6 9 rfl rfl hen_i (kk_i kk_) (kx_n he_i)
    exact Sm_bn
  refine s_if_ne C dX12_applies_9 16 rfl 12 rfl (fun c_ => ?_) (fun c_ => ?_)
  · refine s_iconst C 1 rfl dX12_applies_12 13 rfl ?_
    refine s_goto C (off := 4) 17 dX12_applies_13 rfl ?_
    refine Sm_sub [] rfl ?_
    exact wX12_applies_d1_b17 C hret h0 hin N _ _ _ _
  · refine s_iconst C 0 rfl dX12_applies_16 17 rfl ?_
    refine Sm_sub [] rfl ?_
    exact wX12_applies_d1_b17 C hret h0 hin N _ _ _ _
theorem hdX12_applies_d1 : ((⟨"MasterTree$Not", "applies", "(LMasterTree$Master;LMasterTree$Entry;)Z"⟩ : MethodName)).cls ≠ "java/lang/invoke/MethodHandle" ∧ ((⟨"MasterTree$Not", "applies", "(LMasterTree$Master;LMasterTree$Entry;)Z"⟩ : MethodName)).cls ≠ "java/lang/invoke/VarHandle" ∧ (parseMethodDescriptor ((⟨"MasterTree$Not", "applies", "(LMasterTree$Master;LMasterTree$Entry;)Z"⟩ : MethodName)).desc).map (fun d => d.parameters.length) = some 2 := ⟨by decide +kernel, by decide +kernel, by decide +kernel⟩
theorem ctX12_applies_d1 {l : Launch} {g : GG} (hst : l.stackTraces = false) (N : Nat) (m : Mm) (v0 : Option Nat) (v1 : Option Nat) (v2 : Option Nat) : ∀ v m' k n, fX12_applies_d1 (gE_ g) N m v0 v1 v2 = some (v, m', k, n) → Ct_ l g (⟨"MasterTree$Not", "applies", "(LMasterTree$Master;LMasterTree$Entry;)Z"⟩ : MethodName) (ws_ (⟨"MasterTree$Not", "applies", "(LMasterTree$Master;LMasterTree$Entry;)Z"⟩ : MethodName) cX12_applies 3 (Option.some Jvm.ClassFile.FieldType.boolean)) 21 [vr_ v0, vr_ v1, vr_ v2] m (en_i v) m' k n :=
  Ct_of (by decide +kernel) rfl hst (Nat.le_of_ble_eq_true rfl) rfl (fun E C hret h0 hin => wX12_applies_d1 C hret h0 hin N m v0 v1 v2 0 0)
theorem wX11_applies_d2_b68 {l : Launch} {g : GG} {E : Me_} (C : Cx_ l g E "MasterTree$Combined" cX11_applies 3 22) (hret : (eT_ E).sig.returnType = (Option.some Jvm.ClassFile.FieldType.boolean)) (h0 : ∀ x ∈ (eC_ E).exceptionTable.toList, False) (hin : (eT_ E).name = "applies") (N : Nat) : ∀ (m : Mm) (s0 : Int32) (k n : Nat), Sm_ l g E 3 en_i (fX11_applies_d2_b68 (gE_ g) N m s0) k n 68 [] [vi_ s0] m := by
  intro m s0 k n
  unfold fX11_applies_d2_b68
  exact x_zret C hret rfl dX11_applies_68
theorem wX11_applies_d2_b35 {l : Launch} {g : GG} {E : Me_} (C : Cx_ l g E "MasterTree$Combined" cX11_applies 3 22) (hret : (eT_ E).sig.returnType = (Option.some Jvm.ClassFile.FieldType.boolean)) (h0 : ∀ x ∈ (eC_ E).exceptionTable.toList, False) (hin : (eT_ E).name = "applies") (N : Nat) : ∀ (m : Mm) (k n : Nat), Sm_ l g E 3 en_i (fX11_applies_d2_b35 (gE_ g) N m) k n 35 [] [] m := by
  intro m k n
  unfold fX11_applies_d2_b35
  refine s_iconst C 0 rfl dX11_applies_35 36 rfl ?_
  refine s_goto C (off := 32) 68 dX11_applies_36 rfl ?_
  exact wX11_applies_d2_b68 C hret h0 hin N _ _ _ _
theorem wX11_applies_d2_b63 {l : Launch} {g : GG} {E : Me_} (C : Cx_ l g E "MasterTree$Combined" cX11_applies 3 22) (hret : (eT_ E).sig.returnType = (Option.some Jvm.ClassFile.FieldType.boolean)) (h0 : ∀ x ∈ (eC_ E).exceptionTable.toList, False) (hin : (eT_ E).name = "applies") (N : Nat) : ∀ (m : Mm) (k n : Nat), Sm_ l g E 3 en_i (fX11_applies_d2_b63 (gE_ g) N m) k n 63 [] [] m := by
  intro m k n
  unfold fX11_applies_d2_b63
  refine s_iconst C 1 rfl dX11_applies_63 64 rfl ?_
  refine s_goto C (off := 4) 68 dX11_applies_64 rfl ?_
  exact wX11_applies_d2_b68 C hret h0 hin N _ _ _ _
theorem wX11_applies_d2 {l : Launch} {g : GG} {E : Me_} (C : Cx_ l g E "MasterTree$Combined" cX11_applies 3 22) (hret : (eT_ E).sig.returnType = (Option.some Jvm.ClassFile.FieldType.boolean)) (h0 : ∀ x ∈ (eC_ E).exceptionTable.toList, False) (hin : (eT_ E).name = "applies") (N : Nat) : ∀ (m : Mm) (v0 : Option Nat) (v1 : Option Nat) (v2 : Option Nat) (k n : Nat), Sm_ l g E 3 en_i (fX11_applies_d2 (gE_ g) N m v0 v1 v2) k n 0 [(0, vr_ v0), (1, vr_ v1), (2, vr_ v2)] [] m := by
  intro m v0 v1 v2 k n
  unfold fX11_applies_d2
  refine s_aload_n C rfl 0 rfl dX11_applies_0 1 rfl ?_
  refine x_gi C 9 (RX11, TX11, 3) rfl 2 (Nat.le_of_ble_eq_true rfl) q2642 (Or.inl rfl) rfl 10 rfl dX11_applies_1 4 rfl (fun x1 => ?_)
  refine s_if_eq C dX11_applies_4 39 rfl 7 rfl (fun c_ => ?_) (fun c_ => ?_)
  · refine s_aload_n C rfl 0 rfl dX11_applies_39 40 rfl ?_
    refine x_gr C 9 (RX11, TX11, 3) rfl 0 (Nat.le_of_ble_eq_true rfl) q2640 (Or.inl rfl) rfl 10 rfl dX11_applies_40 43 rfl (fun x2 => ?_)
    refine s_aload_n C rfl 1 rfl dX11_applies_43 44 rfl ?_
    refine s_aload_n C rfl 2 rfl dX11_applies_44 45 rfl ?_
    refine x_wi [] 48 (fun kk_ => ?_) (fun x3 m1 k1 n1 => ?_)
    · refine x_csr (kd := 8) (fun hb_ hb0_ => ?_) ?_
      · exact x_callA (enc := en_i) (owner := "MasterTree$Filter") C 19 2 [vr_ v1, vr_ v2] 8 (ctX9_applies C.2.2.2.2.2.2.2.2.1 N m x2 v1 v2) hb_ hb0_ rfl rfl q2831 q2797 q2801 q2802 q139 q2803 q2796 ⟨by decide +kernel, by decide +kernel, by decide +kernel⟩ (Nat.le_of_ble_eq_true rfl) (Nat.le_of_ble_eq_true rfl) rfl (Nat.le_of_ble_eq_true rfl) dX11_applies_45 48 rfl rfl hen_i (kk_i kk_) (kx_n he_i)
      refine x_csr (kd := 9) (fun hb_ hb0_ => ?_) ?_
      · exact x_callA (enc := en_i) (owner := "MasterTree$Filter") C 13 2 [vr_ v1, vr_ v2] 9 (ctX10_applies C.2.2.2.2.2.2.2.2.1 N m x2 v1 v2) hb_ hb0_ rfl rfl q2831 q2797 q2798 q2799 q140 q2800 q2796 ⟨by decide +kernel, by decide +kernel, by decide +kernel⟩ (Nat.le_of_ble_eq_true rfl) (Nat.le_of_ble_eq_true rfl) rfl (Nat.le_of_ble_eq_true rfl) dX11_applies_45 48 rfl rfl hen_i (kk_i kk_) (kx_n he_i)
      refine x_csr (kd := 10) (fun hb_ hb0_ => ?_) ?_
      · exact x_callA (enc := en_i) (owner := "MasterTree$Filter") C 21 2 [vr_ v1, vr_ v2] 10 (ctX11_applies_d1 C.2.2.2.2.2.2.2.2.1 N m x2 v1 v2) hb_ hb0_ rfl rfl q2831 q2797 q2828 q2829 q141 q2830 q2796 ⟨by decide +kernel, by decide +kernel, by decide +kernel⟩ (Nat.le_of_ble_eq_true rfl) (Nat.le_of_ble_eq_true rfl) rfl (Nat.le_of_ble_eq_true rfl) dX11_applies_45 48 rfl rfl hen_i (kk_i kk_) (kx_n he_i)
      refine x_csr (kd := 11) (fun hb_ hb0_ => ?_) ?_
      · exact x_callA (enc := en_i) (owner := "MasterTree$Filter") C 21 2 [vr_ v1, vr_ v2] 11 (ctX12_applies_d1 C.2.2.2.2.2.2.2.2.1 N m x2 v1 v2) hb_ hb0_ rfl rfl q2831 q2797 q2835 q2832 q142 q2833 q2796 ⟨by decide +kernel, by decide +kernel, by decide +kernel⟩ (Nat.le_of_ble_eq_true rfl) (Nat.le_of_ble_eq_true rfl) rfl (Nat.le_of_ble_eq_true rfl) dX11_applies_45 48 rfl rfl hen_i (kk_i kk_) (kx_n he_i)
      exact Sm_bn
    refine s_if_ne C dX11_applies_48 63 rfl 51 rfl (fun c_ => ?_) (fun c_ => ?_)
    · refine s_aload_n C rfl 0 rfl dX11_applies_51 52 rfl ?_
      refine x_gr C 9 (RX11, TX11, 3) rfl 1 (Nat.le_of_ble_eq_true rfl) q2641 (Or.inl rfl) rfl 10 rfl dX11_applies_52 55 rfl (fun x8 => ?_)
      refine s_aload_n C rfl 1 rfl dX11_applies_55 56 rfl ?_
      refine s_aload_n C rfl 2 rfl dX11_applies_56 57 rfl ?_
      refine x_wi [] 60 (fun kk_ => ?_) (fun x9 m6 k1 n1 => ?_)
      · refine x_csr (kd := 8) (fun hb_ hb0_ => ?_) ?_
        · exact x_callA (enc := en_i) (owner := "MasterTree$Filter") C 19 2 [vr_ v1, vr_ v2] 8 (ctX9_applies C.2.2.2.2.2.2.2.2.1 N m1 x8 v1 v2) hb_ hb0_ rfl rfl q2831 q2797 q2801 q2802 q139 q2803 q2796 ⟨by decide +kernel, by decide +kernel, by decide +kernel⟩ (Nat.le_of_ble_eq_true rfl) (Nat.le_of_ble_eq_true rfl) rfl (Nat.le_of_ble_eq_true rfl) dX11_applies_57 60 rfl rfl hen_i (kk_i kk_) (kx_n he_i)
        refine x_csr (kd := 9) (fun hb_ hb0_ => ?_) ?_
        · exact x_callA (enc := en_i) (owner := "MasterTree$Filter") C 13 2 [vr_ v1, vr_ v2] 9 (ctX10_applies C.2.2.2.2.2.2.2.2.1 N m1 x8 v1 v2) hb_ hb0_ rfl rfl q2831 q2797 q2798 q2799 q140 q2800 q2796 ⟨by decide +kernel, by decide +kernel, by decide +kernel⟩ (Nat.le_of_ble_eq_true rfl) (Nat.le_of_ble_eq_true rfl) rfl (Nat.le_of_ble_eq_true rfl) dX11_applies_57 60 rfl rfl hen_i (kk_i kk_) (kx_n he_i)
        refine x_csr (kd := 10) (fun hb_ hb0_ => ?_) ?_
        · exact x_callA (enc := en_i) (owner := "MasterTree$Filter") C 21 2 [vr_ v1, vr_ v2] 10 (ctX11_applies_d1 C.2.2.2.2.2.2.2.2.1 N m1 x8 v1 v2) hb_ hb0_ rfl rfl q2831 q2797 q2828 q2829 q141 q2830 q2796 ⟨by decide +kernel, by decide +kernel, by decide +kernel⟩ (Nat.le_of_ble_eq_true rfl) (Nat.le_of_ble_eq_true rfl) rfl (Nat.le_of_ble_eq_true rfl) dX11_applies_57 60 rfl rfl hen_i (kk_i kk_) (kx_n he_i)
        refine x_csr (kd := 11) (fun hb_ hb0_ => ?_) ?_
        · exact x_callA (enc := en_i) (owner := "MasterTree$Filter") C 21 2 [vr_ v1, vr_ v2] 11 (ctX12_applies_d1 C.2.2.2.2.2.2.2.2.1 N m1 x8 v1 v2) hb_ hb0_ rfl rfl q2831 q2797 q2835 q2832 q142 q2833 q2796 ⟨by decide +kernel, by decide +kernel, by decide +kernel⟩ (Nat.le_of_ble_eq_true rfl) (Nat.le_of_ble_eq_true rfl) rfl (Nat.le_of_ble_eq_true rfl) dX11_applies_57 60 rfl rfl hen_i (kk_i kk_) (kx_n he_i)
        exact Sm_bn
      refine s_if_eq C dX11_applies_60 67 rfl 63 rfl (fun c_ => ?_) (fun c_ => ?_)
      · refine s_iconst C 0 rfl dX11_applies_67 68 rfl ?_
        refine Sm_sub [] rfl ?_
        exact wX11_applies_d2_b68 C hret h0 hin N _ _ _ _
      · refine Sm_sub [] rfl ?_
        exact wX11_applies_d2_b63 C hret h0 hin N _ _ _
    · refine Sm_sub [] rfl ?_
      exact wX11_applies_d2_b63 C hret h0 hin N _ _ _
  · refine s_aload_n C rfl 0 rfl dX11_applies_7 8 rfl ?_
    refine x_gr C 9 (RX11, TX11, 3) rfl 0 (Nat.le_of_ble_eq_true rfl) q2640 (Or.inl rfl) rfl 10 rfl dX11_applies_8 11 rfl (fun x14 => ?_)
    refine s_aload_n C rfl 1 rfl dX11_applies_11 12 rfl ?_
    refine s_aload_n C rfl 2 rfl dX11_applies_12 13 rfl ?_
    refine x_wi [] 16 (fun kk_ => ?_) (fun x15 m11 k1 n1 => ?_)
    · refine x_csr (kd := 8) (fun hb_ hb0_ => ?_) ?_
      · exact x_callA (enc := en_i) (owner := "MasterTree$Filter") C 19 2 [vr_ v1, vr_ v2] 8 (ctX9_applies C.2.2.2.2.2.2.2.2.1 N m x14 v1 v2) hb_ hb0_ rfl rfl q2831 q2797 q2801 q2802 q139 q2803 q2796 ⟨by decide +kernel, by decide +kernel, by decide +kernel⟩ (Nat.le_of_ble_eq_true rfl) (Nat.le_of_ble_eq_true rfl) rfl (Nat.le_of_ble_eq_true rfl) dX11_applies_13 16 rfl rfl hen_i (kk_i kk_) (kx_n he_i)
      refine x_csr (kd := 9) (fun hb_ hb0_ => ?_) ?_
      · exact x_callA (enc := en_i) (owner := "MasterTree$Filter") C 13 2 [vr_ v1, vr_ v2] 9 (ctX10_applies C.2.2.2.2.2.2.2.2.1 N m x14 v1 v2) hb_ hb0_ rfl rfl q2831 q2797 q2798 q2799 q140 q2800 q2796 ⟨by decide +kernel, by decide +kernel, by decide +kernel⟩ (Nat.le_of_ble_eq_true rfl) (Nat.le_of_ble_eq_true rfl) rfl (Nat.le_of_ble_eq_true rfl) dX11_applies_13 16 rfl rfl hen_i (kk_i kk_) (kx_n he_i)
      refine x_csr (kd := 10) (fun hb_ hb0_ => ?_) ?_
      · exact x_callA (enc := en_i) (owner := "MasterTree$Filter") C 21 2 [vr_ v1, vr_ v2] 10 (ctX11_applies_d1 C.2.2.2.2.2.2.2.2.1 N m x14 v1 v2) hb_ hb0_ rfl rfl q2831 q2797 q2828 q2829 q141 q2830 q2796 ⟨by decide +kernel, by decide +kernel, by decide +kernel⟩ (Nat.le_of_ble_eq_true rfl) (Nat.le_of_ble_eq_true rfl) rfl (Nat.le_of_ble_eq_true rfl) dX11_applies_13 16 rfl rfl hen_i (kk_i kk_) (kx_n he_i)
      refine x_csr (kd := 11) (fun hb_ hb0_ => ?_) ?_
      · exact x_callA (enc := en_i) (owner := "MasterTree$Filter") C 21 2 [vr_ v1, vr_ v2] 11 (ctX12_applies_d1 C.2.2.2.2.2.2.2.2.1 N m x14 v1 v2) hb_ hb0_ rfl rfl q2831 q2797 q2835 q2832 q142 q2833 q2796 ⟨by decide +kernel, by decide +kernel, by decide +kernel⟩ (Nat.le_of_ble_eq_true rfl) (Nat.le_of_ble_eq_true rfl) rfl (Nat.le_of_ble_eq_true rfl) dX11_applies_13 16 rfl rfl hen_i (kk_i kk_) (kx_n he_i)
      exact Sm_bn
    refine s_if_eq C dX11_applies_16 35 rfl 19 rfl (fun c_ => ?_) (fun c_ => ?_)
    · refine Sm_sub [] rfl ?_
      exact wX11_applies_d2_b35 C hret h0 hin N _ _ _
    · refine s_aload_n C rfl 0 rfl dX11_applies_19 20 rfl ?_
      refine x_gr C 9 (RX11, TX11, 3) rfl 1 (Nat.le_of_ble_eq_true rfl) q2641 (Or.inl rfl) rfl 10 rfl dX11_applies_20 23 rfl (fun x20 => ?_)
      refine s_aload_n C rfl 1 rfl dX11_applies_23 24 rfl ?_
      refine s_aload_n C rfl 2 rfl dX11_applies_24 25 rfl ?_
      refine x_wi [] 28 (fun kk_ => ?_) (fun x21 m16 k1 n1 => ?_)
      · refine x_csr (kd := 8) (fun hb_ hb0_ => ?_) ?_
        · exact x_callA (enc := en_i) (owner := "MasterTree$Filter") C 19 2 [vr_ v1, vr_ v2] 8 (ctX9_applies C.2.2.2.2.2.2.2.2.1 N m11 x20 v1 v2) hb_ hb0_ rfl rfl q2831 q2797 q2801 q2802 q139 q2803 q2796 ⟨by decide +kernel, by decide +kernel, by decide +kernel⟩ (Nat.le_of_ble_eq_true rfl) (Nat.le_of_ble_eq_true rfl) rfl (Nat.le_of_ble_eq_true rfl) dX11_applies_25 28 rfl rfl hen_i (kk_i kk_) (kx_n he_i)
        refine x_csr (kd := 9) (fun hb_ hb0_ => ?_) ?_
        · exact x_callA (enc := en_i) (owner := "MasterTree$Filter") C 13 2 [vr_ v1, vr_ v2] 9 (ctX10_applies C.2.2.2.2.2.2.2.2.1 N m11 x20 v1 v2) hb_ hb0_ rfl rfl q2831 q2797 q2798 q2799 q140 q2800 q2796 ⟨by decide +kernel, by decide +kernel, by decide +kernel⟩ (Nat.le_of_ble_eq_true rfl) (Nat.le_of_ble_eq_true rfl) rfl (Nat.le_of_ble_eq_true rfl) dX11_applies_25 28 rfl rfl hen_i (kk_i kk_) (kx_n he_i)
        refine x_csr (kd := 10) (fun hb_ hb0_ => ?_) ?_
        · exact x_callA (enc := en_i) (owner := "MasterTree$Filter") C 21 2 [vr_ v1, vr_ v2] 10 (ctX11_applies_d1 C.2.2.2.2.2.2.2.2.1 N m11 x20 v1 v2) hb_ hb0_ rfl rfl q2831 q2797 q2828 q2829 q141 q2830 q2796 ⟨by decide +kernel, by decide +kernel, by decide +kernel⟩ (Nat.le_of_ble_eq_true rfl) (Nat.le_of_ble_eq_true rfl) rfl (Nat.le_of_ble_eq_true rfl) dX11_applies_25 28 rfl rfl hen_i (kk_i kk_) (kx_n he_i)
        refine x_csr (kd := 11) (fun hb_ hb0_ => ?_) ?_
        · exact x_callA (enc := en_i) (owner := "MasterTree$Filter") C 21 2 [vr_ v1, vr_ v2] 11 (ctX12_applies_d1 C.2.2.2.2.2.2.2.2.1 N m11 x20 v1 v2) hb_ hb0_ rfl rfl q2831 q2797 q2835 q2832 q142 q2833 q2796 ⟨by decide +kernel, by decide +kernel, by decide +kernel⟩ (Nat.le_of_ble_eq_true rfl) (Nat.le_of_ble_eq_true rfl) rfl (Nat.le_of_ble_eq_true rfl) dX11_applies_25 28 rfl rfl hen_i (kk_i kk_) (kx_n he_i)
        exact Sm_bn
      refine s_if_eq C dX11_applies_28 35 rfl 31 rfl (fun c_ => ?_) (fun c_ => ?_)
      · refine Sm_sub [] rfl ?_
        exact wX11_applies_d2_b35 C hret h0 hin N _ _ _
      · refine s_iconst C 1 rfl dX11_applies_31 32 rfl ?_
        refine s_goto C (off := 36) 68 dX11_applies_32 rfl ?_
        refine Sm_sub [] rfl ?_
        exact wX11_applies_d2_b68 C hret h0 hin N _ _ _ _
theorem hdX11_applies_d2 : ((⟨"MasterTree$Combined", "applies", "(LMasterTree$Master;LMasterTree$Entry;)Z"⟩ : MethodName)).cls ≠ "java/lang/invoke/MethodHandle" ∧ ((⟨"MasterTree$Combined", "applies", "(LMasterTree$Master;LMasterTree$Entry;)Z"⟩ : MethodName)).cls ≠ "java/lang/invoke/VarHandle" ∧ (parseMethodDescriptor ((⟨"MasterTree$Combined", "applies", "(LMasterTree$Master;LMasterTree$Entry;)Z"⟩ : MethodName)).desc).map (fun d => d.parameters.length) = some 2 := ⟨by decide +kernel, by decide +kernel, by decide +kernel⟩
theorem ctX11_applies_d2 {l : Launch} {g : GG} (hst : l.stackTraces = false) (N : Nat) (m : Mm) (v0 : Option Nat) (v1 : Option Nat) (v2 : Option Nat) : ∀ v m' k n, fX11_applies_d2 (gE_ g) N m v0 v1 v2 = some (v, m', k, n) → Ct_ l g (⟨"MasterTree$Combined", "applies", "(LMasterTree$Master;LMasterTree$Entry;)Z"⟩ : MethodName) (ws_ (⟨"MasterTree$Combined", "applies", "(LMasterTree$Master;LMasterTree$Entry;)Z"⟩ : MethodName) cX11_applies 3 (Option.some Jvm.ClassFile.FieldType.boolean)) 22 [vr_ v0, vr_ v1, vr_ v2] m (en_i v) m' k n :=
  Ct_of (by decide +kernel) rfl hst (Nat.le_of_ble_eq_true rfl) rfl (fun E C hret h0 hin => wX11_applies_d2 C hret h0 hin N m v0 v1 v2 0 0)
theorem wX12_applies_d2_b17 {l : Launch} {g : GG} {E : Me_} (C : Cx_ l g E "MasterTree$Not" cX12_applies 3 22) (hret : (eT_ E).sig.returnType = (Option.some Jvm.ClassFile.FieldType.boolean)) (h0 : ∀ x ∈ (eC_ E).exceptionTable.toList, False) (hin : (eT_ E).name = "applies") (N : Nat) : ∀ (m : Mm) (s0 : Int32) (k n : Nat), Sm_ l g E 3 en_i (fX12_applies_d2_b17 (gE_ g) N m s0) k n 17 [] [vi_ s0] m := by
  intro m s0 k n
  unfold fX12_applies_d2_b17
  exact x_zret C hret rfl dX12_applies_17
theorem wX12_applies_d2 {l : Launch} {g : GG} {E : Me_} (C : Cx_ l g E "MasterTree$Not" cX12_applies 3 22) (hret : (eT_ E).sig.returnType = (Option.some Jvm.ClassFile.FieldType.boolean)) (h0 : ∀ x ∈ (eC_ E).exceptionTable.toList, False) (hin : (eT_ E).name = "applies") (N : Nat) : ∀ (m : Mm) (v0 : Option Nat) (v1 : Option Nat) (v2 : Option Nat) (k n : Nat), Sm_ l g E 3 en_i (fX12_applies_d2 (gE_ g) N m v0 v1 v2) k n 0 [(0, vr_ v0), (1, vr_ v1), (2, vr_ v2)] [] m := by
  intro m v0 v1 v2 k n
  unfold fX12_applies_d2
  refine s_aload_n C rfl 0 rfl dX12_applies_0 1 rfl ?_
  refine x_gr C 10 (RX12, TX12, 1) rfl 0 (Nat.le_of_ble_eq_true rfl) q2666 (Or.inl rfl) rfl 11 rfl dX12_applies_1 4 rfl (fun x1 => ?_)
  refine s_aload_n C rfl 1 rfl dX12_applies_4 5 rfl ?_
  refine s_aload_n C rfl 2 rfl dX12_applies_5 6 rfl ?_
  refine x_wi [] 9 (fun kk_ => ?_) (fun x2 m1 k1 n1 => ?_)
  · refine x_csr (kd := 8) (fun hb_ hb0_ => ?_) ?_
    · exact x_callA (enc := en_i) (owner := "MasterTree$Filter") C 19 2 [vr_ v1, vr_ v2] 8 (ctX9_applies C.2.2.2.2.2.2.2.2.1 N m x1 v1 v2) hb_ hb0_ rfl rfl q2834 q2797 q2801 q2802 q139 q2803 q2796 ⟨by decide +kernel, by decide +kernel, by decide +kernel⟩ (Nat.le_of_ble_eq_true rfl) (Nat.le_of_ble_eq_true rfl) rfl (Nat.le_of_ble_eq_true rfl) dX12_applies_6 9 rfl rfl hen_i (kk_i kk_) (kx_n he_i)
    refine x_csr (kd := 9) (fun hb_ hb0_ => ?_) ?_
    · exact x_callA (enc := en_i) (owner := "MasterTree$Filter") C 13 2 [vr_ v1, vr_ v2] 9 (ctX10_applies C.2.2.2.2.2.2.2.2.1 N m x1 v1 v2) hb_ hb0_ rfl rfl q2834 q2797 q2798 q2799 q140 q2800 q2796 ⟨by decide +kernel, by decide +kernel, by decide +kernel⟩ (Nat.le_of_ble_eq_true rfl) (Nat.le_of_ble_eq_true rfl) rfl (Nat.le_of_ble_eq_true rfl) dX12_applies_6 9 rfl rfl hen_i (kk_i kk_) (kx_n he_i)
    refine x_csr (kd := 10) (fun hb_ hb0_ => ?_) ?_
    · exact x_callA (enc := en_i) (owner := "MasterTree$Filter") C 21 2 [vr_ v1, vr_ v2] 10 (ctX11_applies_d1 C.2.2.2.2.2.2.2.2.1 N m x1 v1 v2) hb_ hb0_ rfl rfl q2834 q2797 q2828 q2829 q141 q2830 q2796 ⟨by decide +kernel, by decide +kernel, by decide +kernel⟩ (Nat.le_of_ble_eq_true rfl) (Nat.le_of_ble_eq_true rfl) rfl (Nat.le_of_ble_eq_true rfl) dX12_applies_6 9 rfl rfl hen_i (kk_i kk_) (kx_n he_i)
    refine x_csr (kd := 11) (fun hb_ hb0_ => ?_) ?_
    · exact x_callA (enc := en_i) (owner := "MasterTree$Filter") C 21 2 [vr_ v1, vr_ v2] 11 (ctX12_applies_d1 C.2.2.2.2.2.2.2.2.1 N m x1 v1 v2) hb_ hb0_ rfl rfl q2834 q2797 q2835 q2832 q142 q2833 q2796 ⟨by decide +kernel, by decide +kernel, by decide +kernel⟩ (Nat.le_of_ble_eq_true rfl) (Nat.le_of_ble_eq_true rfl) rfl (Nat.le_of_ble_eq_true rfl) dX12_applies_6 9 rfl rfl hen_i (kk_i kk_) (kx_n he_i)
    exact Sm_bn
  refine s_if_ne C dX12_applies_9 16 rfl 12 rfl (fun c_ => ?_) (fun c_ => ?_)
  · refine s_iconst C 1 rfl dX12_applies_12 13 rfl ?_
    refine s_goto C (off := 4) 17 dX12_applies_13 rfl ?_
    refine Sm_sub [] rfl ?_
    exact wX12_applies_d2_b17 C hret h0 hin N _ _ _ _
  · refine s_iconst C 0 rfl dX12_applies_16 17 rfl ?_
    refine Sm_sub [] rfl ?_
    exact wX12_applies_d2_b17 C hret h0 hin N _ _ _ _
theorem hdX12_applies_d2 : ((⟨"MasterTree$Not", "applies", "(LMasterTree$Master;LMasterTree$Entry;)Z"⟩ : MethodName)).cls ≠ "java/lang/invoke/MethodHandle" ∧ ((⟨"MasterTree$Not", "applies", "(LMasterTree$Master;LMasterTree$Entry;)Z"⟩ : MethodName)).cls ≠ "java/lang/invoke/VarHandle" ∧ (parseMethodDescriptor ((⟨"MasterTree$Not", "applies", "(LMasterTree$Master;LMasterTree$Entry;)Z"⟩ : MethodName)).desc).map (fun d => d.parameters.length) = some 2 := ⟨by decide +kernel, by decide +kernel, by decide +kernel⟩
theorem ctX12_applies_d2 {l : Launch} {g : GG} (hst : l.stackTraces = false) (N : Nat) (m : Mm) (v0 : Option Nat) (v1 : Option Nat) (v2 : Option Nat) : ∀ v m' k n, fX12_applies_d2 (gE_ g) N m v0 v1 v2 = some (v, m', k, n) → Ct_ l g (⟨"MasterTree$Not", "applies", "(LMasterTree$Master;LMasterTree$Entry;)Z"⟩ : MethodName) (ws_ (⟨"MasterTree$Not", "applies", "(LMasterTree$Master;LMasterTree$Entry;)Z"⟩ : MethodName) cX12_applies 3 (Option.some Jvm.ClassFile.FieldType.boolean)) 22 [vr_ v0, vr_ v1, vr_ v2] m (en_i v) m' k n :=
  Ct_of (by decide +kernel) rfl hst (Nat.le_of_ble_eq_true rfl) rfl (fun E C hret h0 hin => wX12_applies_d2 C hret h0 hin N m v0 v1 v2 0 0)
theorem wX11_applies_d3_b68 {l : Launch} {g : GG} {E : Me_} (C : Cx_ l g E "MasterTree$Combined" cX11_applies 3 23) (hret : (eT_ E).sig.returnType = (Option.some Jvm.ClassFile.FieldType.boolean)) (h0 : ∀ x ∈ (eC_ E).exceptionTable.toList, False) (hin : (eT_ E).name = "applies") (N : Nat) : ∀ (m : Mm) (s0 : Int32) (k n : Nat), Sm_ l g E 3 en_i (fX11_applies_d3_b68 (gE_ g) N m s0) k n 68 [] [vi_ s0] m := by
  intro m s0 k n
  unfold fX11_applies_d3_b68
  exact x_zret C hret rfl dX11_applies_68
theorem wX11_applies_d3_b35 {l : Launch} {g : GG} {E : Me_} (C : Cx_ l g E "MasterTree$Combined" cX11_applies 3 23) (hret : (eT_ E).sig.returnType = (Option.some Jvm.ClassFile.FieldType.boolean)) (h0 : ∀ x ∈ (eC_ E).exceptionTable.toList, False) (hin : (eT_ E).name = "applies") (N : Nat) : ∀ (m : Mm) (k n : Nat), Sm_ l g E 3 en_i (fX11_applies_d3_b35 (gE_ g) N m) k n 35 [] [] m := by
  intro m k n
  unfold fX11_applies_d3_b35
  refine s_iconst C 0 rfl dX11_applies_35 36 rfl ?_
  refine s_goto C (off := 32) 68 dX11_applies_36 rfl ?_
  exact wX11_applies_d3_b68 C hret h0 hin N _ _ _ _
theorem wX11_applies_d3_b63 {l : Launch} {g : GG} {E : Me_} (C : Cx_ l g E "MasterTree$Combined" cX11_applies 3 23) (hret : (eT_ E).sig.returnType = (Option.some Jvm.ClassFile.FieldType.boolean)) (h0 : ∀ x ∈ (eC_ E).exceptionTable.toList, False) (hin : (eT_ E).name = "applies") (N : Nat) : ∀ (m : Mm) (k n : Nat), Sm_ l g E 3 en_i (fX11_applies_d3_b63 (gE_ g) N m) k n 63 [] [] m := by
  intro m k n
  unfold fX11_applies_d3_b63
  refine s_iconst C 1 rfl dX11_applies_63 64 rfl ?_
  refine s_goto C (off := 4) 68 dX11_applies_64 rfl ?_
  exact wX11_applies_d3_b68 C hret h0 hin N _ _ _ _
theorem wX11_applies_d3 {l : Launch} {g : GG} {E : Me_} (C : Cx_ l g E "MasterTree$Combined" cX11_applies 3 23) (hret : (eT_ E).sig.returnType = (Option.some Jvm.ClassFile.FieldType.boolean)) (h0 : ∀ x ∈ (eC_ E).exceptionTable.toList, False) (hin : (eT_ E).name = "applies") (N : Nat) : ∀ (m : Mm) (v0 : Option Nat) (v1 : Option Nat) (v2 : Option Nat) (k n : Nat), Sm_ l g E 3 en_i (fX11_applies_d3 (gE_ g) N m v0 v1 v2) k n 0 [(0, vr_ v0), (1, vr_ v1), (2, vr_ v2)] [] m := by
  intro m v0 v1 v2 k n
  unfold fX11_applies_d3
  refine s_aload_n C rfl 0 rfl dX11_applies_0 1 rfl ?_
  refine x_gi C 9 (RX11, TX11, 3) rfl 2 (Nat.le_of_ble_eq_true rfl) q2642 (Or.inl rfl) rfl 10 rfl dX11_applies_1 4 rfl (fun x1 => ?_)
  refine s_if_eq C dX11_applies_4 39 rfl 7 rfl (fun c_ => ?_) (fun c_ => ?_)
  · refine s_aload_n C rfl 0 rfl dX11_applies_39 40 rfl ?_
    refine x_gr C 9 (RX11, TX11, 3) rfl 0 (Nat.le_of_ble_eq_true rfl) q2640 (Or.inl rfl) rfl 10 rfl dX11_applies_40 43 rfl (fun x2 => ?_)
    refine s_aload_n C rfl 1 rfl dX11_applies_43 44 rfl ?_
    refine s_aload_n C rfl 2 rfl dX11_applies_44 45 rfl ?_
    refine x_wi [] 48 (fun kk_ => ?_) (fun x3 m1 k1 n1 => ?_)
    · refine x_csr (kd := 8) (fun hb_ hb0_ => ?_) ?_
      · exact x_callA (enc := en_i) (owner := "MasterTree$Filter") C 19 2 [vr_ v1, vr_ v2] 8 (ctX9_applies C.2.2.2.2.2.2.2.2.1 N m x2 v1 v2) hb_ hb0_ rfl rfl q2831 q2797 q2801 q2802 q139 q2803 q2796 ⟨by decide +kernel, by decide +kernel, by decide +kernel⟩ (Nat.le_of_ble_eq_true rfl) (Nat.le_of_ble_eq_true rfl) rfl (Nat.le_of_ble_eq_true rfl) dX11_applies_45 48 rfl rfl hen_i (kk_i kk_) (kx_n he_i)
      refine x_csr (kd := 9) (fun hb_ hb0_ => ?_) ?_
      · exact x_callA (enc := en_i) (owner := "MasterTree$Filter") C 13 2 [vr_ v1, vr_ v2] 9 (ctX10_applies C.2.2.2.2.2.2.2.2.1 N m x2 v1 v2) hb_ hb0_ rfl rfl q2831 q2797 q2798 q2799 q140 q2800 q2796 ⟨by decide +kernel, by decide +kernel, by decide +kernel⟩ (Nat.le_of_ble_eq_true rfl) (Nat.le_of_ble_eq_true rfl) rfl (Nat.le_of_ble_eq_true rfl) dX11_applies_45 48 rfl rfl hen_i (kk_i kk_) (kx_n he_i)
      refine x_csr (kd := 10) (fun hb_ hb0_ => ?_) ?_
      · exact x_callA (enc := en_i) (owner := "MasterTree$Filter") C 22 2 [vr_ v1, vr_ v2] 10 (ctX11_applies_d2 C.2.2.2.2.2.2.2.2.1 N m x2 v1 v2) hb_ hb0_ rfl rfl q2831 q2797 q2828 q2829 q141 q2830 q2796 ⟨by decide +kernel, by decide +kernel, by decide +kernel⟩ (Nat.le_of_ble_eq_true rfl) (Nat.le_of_ble_eq_true rfl) rfl (Nat.le_of_ble_eq_true rfl) dX11_applies_45 48 rfl rfl hen_i (kk_i kk_) (kx_n he_i)
      refine x_csr (kd := 11) (fun hb_ hb0_ => ?_) ?_
      · exact x_callA (enc := en_i) (owner := "MasterTree$Filter") C 22 2 [vr_ v1, vr_ v2] 11 (ctX12_applies_d2 C.2.2.2.2.2.2.2.2.1 N m x2 v1 v2) hb_ hb0_ rfl rfl q2831 q2797 q2835 q2832 q142 q2833 q2796 ⟨by decide +kernel, by decide +kernel, by decide +kernel⟩ (Nat.le_of_ble_eq_true rfl) (Nat.le_of_ble_eq_true rfl) rfl (Nat.le_of_ble_eq_true rfl) dX11_applies_45 48 rfl rfl hen_i (kk_i kk_) (kx_n he_i)
      exact Sm_bn
    refine s_if_ne C dX11_applies_48 63 rfl 51 rfl (fun c_ => ?_) (fun c_ => ?_)
    · refine s_aload_n C rfl 0 rfl dX11_applies_51 52 rfl ?_
      refine x_gr C 9 (RX11, TX11, 3) rfl 1 (Nat.le_of_ble_eq_true rfl) q2641 (Or.inl rfl) rfl 10 rfl dX11_applies_52 55 rfl (fun x8 => ?_)
      refine s_aload_n C rfl 1 rfl dX11_applies_55 56 rfl ?_
      refine s_aload_n C rfl 2 rfl dX11_applies_56 57 rfl ?_
      refine x_wi [] 60 (fun kk_ => ?_) (fun x9 m6 k1 n1 => ?_)
      · refine x_csr (kd := 8) (fun hb_ hb0_ => ?_) ?_
        · exact x_callA (enc := en_i) (owner := "MasterTree$Filter") C 19 2 [vr_ v1, vr_ v2] 8 (ctX9_applies C.2.2.2.2.2.2.2.2.1 N m1 x8 v1 v2) hb_ hb0_ rfl rfl q2831 q2797 q2801 q2802 q139 q2803 q2796 ⟨by decide +kernel, by decide +kernel, by decide +kernel⟩ (Nat.le_of_ble_eq_true rfl) (Nat.le_of_ble_eq_true rfl) rfl (Nat.le_of_ble_eq_true rfl) dX11_applies_57 60 rfl rfl hen_i (kk_i kk_) (kx_n he_i)
        refine x_csr (kd := 9) (fun hb_ hb0_ => ?_) ?_
        · exact x_callA (enc := en_i) (owner := "MasterTree$Filter") C 13 2 [vr_ v1, vr_ v2] 9 (ctX10_applies C.2.2.2.2.2.2.2.2.1 N m1 x8 v1 v2) hb_ hb0_ rfl rfl q2831 q2797 q2798 q2799 q140 q2800 q2796 ⟨by decide +kernel, by decide +kernel, by decide +kernel⟩ (Nat.le_of_ble_eq_true rfl) (Nat.le_of_ble_eq_true rfl) rfl (Nat.le_of_ble_eq_true rfl) dX11_applies_57 60 rfl rfl hen_i (kk_i kk_) (kx_n he_i)
        refine x_csr (kd := 10) (fun hb_ hb0_ => ?_) ?_
        · exact x_callA (enc := en_i) (owner := "MasterTree$Filter") C 22 2 [vr_ v1, vr_ v2] 10 (ctX11_applies_d2 C.2.2.2.2.2.2.2.2.1 N m1 x8 v1 v2) hb_ hb0_ rfl rfl q2831 q2797 q2828 q2829 q141 q2830 q2796 ⟨by decide +kernel, by decide +kernel, by decide +kernel⟩ (Nat.le_of_ble_eq_true rfl) (Nat.le_of_ble_eq_true rfl) rfl (Nat.le_of_ble_eq_true rfl) dX11_applies_57 60 rfl rfl hen_i (kk_i kk_) (kx_n he_i)
        refine x_csr (kd := 11) (fun hb_ hb0_ => ?_) ?_
        · exact x_callA (enc := en_i) (owner := "MasterTree$Filter") C 22 2 [vr_ v1, vr_ v2] 11 (ctX12_applies_d2 C.2.2.2.2.2.2.2.2.1 N m1 x8 v1 v2) hb_ hb0_ rfl rfl q2831 q2797 q2835 q2832 q142 q2833 q2796 ⟨by decide +kernel, by decide +kernel, by decide +kernel⟩ (Nat.le_of_ble_eq_true rfl) (Nat.le_of_ble_eq_true rfl) rfl (Nat.le_of_ble_eq_true rfl) dX11_applies_57 60 rfl rfl hen_i (kk_i kk_) (kx_n he_i)
        exact Sm_bn
      refine s_if_eq C dX11_applies_60 67 rfl 63 rfl (fun c_ => ?_) (fun c_ => ?_)
      · refine s_iconst C 0 rfl dX11_applies_67 68 rfl ?_
        refine Sm_sub [] rfl ?_
        exact wX11_applies_d3_b68 C hret h0 hin N _ _ _ _
      · refine Sm_sub [] rfl ?_
        exact wX11_applies_d3_b63 C hret h0 hin N _ _ _
    · refine Sm_sub [] rfl ?_
      exact wX11_applies_d3_b63 C hret h0 hin N _ _ _
  · refine s_aload_n C rfl 0 rfl dX11_applies_7 8 rfl ?_
    refine x_gr C 9 (RX11, TX11, 3) rfl 0 (Nat.le_of_ble_eq_true rfl) q2640 (Or.inl rfl) rfl 10 rfl dX11_applies_8 11 rfl (fun x14 => ?_)
    refine s_aload_n C rfl 1 rfl dX11_applies_11 12 rfl ?_
    refine s_aload_n C rfl 2 rfl dX11_applies_12 13 rfl ?_
    refine x_wi [] 16 (fun kk_ => ?_) (fun x15 m11 k1 n1 => ?_)
    · refine x_csr (kd := 8) (fun hb_ hb0_ => ?_) ?_
      · exact x_callA (enc := en_i) (owner := "MasterTree$Filter") C 19 2 [vr_ v1, vr_ v2] 8 (ctX9_applies C.2.2.2.2.2.2.2.2.1 N m x14 v1 v2) hb_ hb0_ rfl rfl q2831 q2797 q2801 q2802 q139 q2803 q2796 ⟨by decide +kernel, by decide +kernel, by decide +kernel⟩ (Nat.le_of_ble_eq_true rfl) (Nat.le_of_ble_eq_true rfl) rfl (Nat.le_of_ble_eq_true rfl) dX11_applies_13 16 rfl rfl hen_i (kk_i kk_) (kx_n he_i)
      refine x_csr (kd := 9) (fun hb_ hb0_ => ?_) ?_
      · exact x_callA (enc := en_i) (owner := "MasterTree$Filter") C 13 2 [vr_ v1, vr_ v2] 9 (ctX10_applies C.2.2.2.2.2.2.2.2.1 N m x14 v1 v2) hb_ hb0_ rfl rfl q2831 q2797 q2798 q2799 q140 q2800 q2796 ⟨by decide +kernel, by decide +kernel, by decide +kernel⟩ (Nat.le_of_ble_eq_true rfl) (Nat.le_of_ble_eq_true rfl) rfl (Nat.le_of_ble_eq_true rfl) dX11_applies_13 16 rfl rfl hen_i (kk_i kk_) (kx_n he_i)
      refine x_csr (kd := 10) (fun hb_ hb0_ => ?_) ?_
      · exact x_callA (enc := en_i) (owner := "MasterTree$Filter") C 22 2 [vr_ v1, vr_ v2] 10 (ctX11_applies_d2 C.2.2.2.2.2.2.2.2.1 N m x14 v1 v2) hb_ hb0_ rfl rfl q2831 q2797 q2828 q2829 q141 q2830 q2796 ⟨by decide +kernel, by decide +kernel, by decide +kernel⟩ (Nat.le_of_ble_eq_true rfl) (Nat.le_of_ble_eq_true rfl) rfl (Nat.le_of_ble_eq_true rfl) dX11_applies_13 16 rfl rfl hen_i (kk_i kk_) (kx_n he_i)
      refine x_csr (kd := 11) (fun hb_ hb0_ => ?_) ?_
      · exact x_callA (enc := en_i) (owner := "MasterTree$Filter") C 22 2 [vr_ v1, vr_ v2] 11 (ctX12_applies_d2 C.2.2.2.2.2.2.2.2.1 N m x14 v1 v2) hb_ hb0_ rfl rfl q2831 q2797 q2835 q2832 q142 q2833 q2796 ⟨by decide +kernel, by decide +kernel, by decide +kernel⟩ (Nat.le_of_ble_eq_true rfl) (Nat.le_of_ble_eq_true rfl) rfl (Nat.le_of_ble_eq_true rfl) dX11_applies_13 16 rfl rfl hen_i (kk_i kk_) (kx_n he_i)
      exact Sm_bn
    refine s_if_eq C dX11_applies_16 35 rfl 19 rfl (fun c_ => ?_) (fun c_ => ?_)
    · refine Sm_sub [] rfl ?_
      exact wX11_applies_d3_b35 C hret h0 hin N _ _ _
    · refine s_aload_n C rfl 0 rfl dX11_applies_19 20 rfl ?_
      refine x_gr C 9 (RX11, TX11, 3) rfl 1 (Nat.le_of_ble_eq_true rfl) q2641 (Or.inl rfl) rfl 10 rfl dX11_applies_20 23 rfl (fun x20 => ?_)
      refine s_aload_n C rfl 1 rfl dX11_applies_23 24 rfl ?_
      refine s_aload_n C rfl 2 rfl dX11_applies_24 25 rfl ?_
      refine x_wi [] 28 (fun kk_ => ?_) (fun x21 m16 k1 n1 => ?_)
      · refine x_csr (kd := 8) (fun hb_ hb0_ => ?_) ?_
        · exact x_callA (enc := en_i) (owner := "MasterTree$Filter") C 19 2 [vr_ v1, vr_ v2] 8 (ctX9_applies C.2.2.2.2.2.2.2.2.1 N m11 x20 v1 v2) hb_ hb0_ rfl rfl q2831 q2797 q2801 q2802 q139 q2803 q2796 ⟨by decide +kernel, by decide +kernel, by decide +kernel⟩ (Nat.le_of_ble_eq_true rfl) (Nat.le_of_ble_eq_true rfl) rfl (Nat.le_of_ble_eq_true rfl) dX11_applies_25 28 rfl rfl hen_i (kk_i kk_) (kx_n he_i)
        refine x_csr (kd := 9) (fun hb_ hb0_ => ?_) ?_
        · exact x_callA (enc := en_i) (owner := "MasterTree$Filter") C 13 2 [vr_ v1, vr_ v2] 9 (ctX10_applies C.2.2.2.2.2.2.2.2.1 N m11 x20 v1 v2) hb_ hb0_ rfl rfl q2831 q2797 q2798 q2799 q140 q2800 q2796 ⟨by decide +kernel, by decide +kernel, by decide +kernel⟩ (Nat.le_of_ble_eq_true rfl) (Nat.le_of_ble_eq_true rfl) rfl (Nat.le_of_ble_eq_true rfl) dX11_applies_25 28 rfl rfl hen_i (kk_i kk_) (kx_n he_i)
        refine x_csr (kd := 10) (fun hb_ hb0_ => ?_) ?_
        · exact x_callA (enc := en_i) (owner := "MasterTree$Filter") C 22 2 [vr_ v1, vr_ v2] 10 (ctX11_applies_d2 C.2.2.2.2.2.2.2.2.1 N m11 x20 v1 v2) hb_ hb0_ rfl rfl q2831 q2797 q2828 q2829 q141 q2830 q2796 ⟨by decide +kernel, by decide +kernel, by decide +kernel⟩ (Nat.le_of_ble_eq_true rfl) (Nat.le_of_ble_eq_true rfl) rfl (Nat.le_of_ble_eq_true rfl) dX11_applies_25 28 rfl rfl hen_i (kk_i kk_) (kx_n he_i)
        refine x_csr (kd := 11) (fun hb_ hb0_ => ?_) ?_
        · exact x_callA (enc := en_i) (owner := "MasterTree$Filter") C 22 2 [vr_ v1, vr_ v2] 11 (ctX12_applies_d2 C.2.2.2.2.2.2.2.2.1 N m11 x20 v1 v2) hb_ hb0_ rfl rfl q2831 q2797 q2835 q2832 q142 q2833 q2796 ⟨by decide +kernel, by decide +kernel, by decide +kernel⟩ (Nat.le_of_ble_eq_true rfl) (Nat.le_of_ble_eq_true rfl) rfl (Nat.le_of_ble_eq_true rfl) dX11_applies_25 28 rfl rfl hen_i (kk_i kk_) (kx_n he_i)
        exact Sm_bn
      refine s_if_eq C dX11_applies_28 35 rfl 31 rfl (fun c_ => ?_) (fun c_ => ?_)
      · refine Sm_sub [] rfl ?_
        exact wX11_applies_d3_b35 C hret h0 hin N _ _ _
      · refine s_iconst C 1 rfl dX11_applies_31 32 rfl ?_
        refine s_goto C (off := 36) 68 dX11_applies_32 rfl ?_
        refine Sm_sub [] rfl ?_
        exact wX11_applies_d3_b68 C hret h0 hin N _ _ _ _
theorem hdX11_applies_d3 : ((⟨"MasterTree$Combined", "applies", "(LMasterTree$Master;LMasterTree$Entry;)Z"⟩ : MethodName)).cls ≠ "java/lang/invoke/MethodHandle" ∧ ((⟨"MasterTree$Combined", "applies", "(LMasterTree$Master;LMasterTree$Entry;)Z"⟩ : MethodName)).cls ≠ "java/lang/invoke/VarHandle" ∧ (parseMethodDescriptor ((⟨"MasterTree$Combined", "applies", "(LMasterTree$Master;LMasterTree$Entry;)Z"⟩ : MethodName)).desc).map (fun d => d.parameters.length) = some 2 := ⟨by decide +kernel, by decide +kernel, by decide +kernel⟩
theorem ctX11_applies_d3 {l : Launch} {g : GG} (hst : l.stackTraces = false) (N : Nat) (m : Mm) (v0 : Option Nat) (v1 : Option Nat) (v2 : Option Nat) : ∀ v m' k n, fX11_applies_d3 (gE_ g) N m v0 v1 v2 = some (v, m', k, n) → Ct_ l g (⟨"MasterTree$Combined", "applies", "(LMasterTree$Master;LMasterTree$Entry;)Z"⟩ : MethodName) (ws_ (⟨"MasterTree$Combined", "applies", "(LMasterTree$Master;LMasterTree$Entry;)Z"⟩ : MethodName) cX11_applies 3 (Option.some Jvm.ClassFile.FieldType.boolean)) 23 [vr_ v0, vr_ v1, vr_ v2] m (en_i v) m' k n :=
  Ct_of (by decide +kernel) rfl hst (Nat.le_of_ble_eq_true rfl) rfl (fun E C hret h0 hin => wX11_applies_d3 C hret h0 hin N m v0 v1 v2 0 0)
theorem wX12_applies_d3_b17 {l : Launch} {g : GG} {E : Me_} (C : Cx_ l g E "MasterTree$Not" cX12_applies 3 23) (hret : (eT_ E).sig.returnType = (Option.some Jvm.ClassFile.FieldType.boolean)) (h0 : ∀ x ∈ (eC_ E).exceptionTable.toList, False) (hin : (eT_ E).name = "applies") (N : Nat) : ∀ (m : Mm) (s0 : Int32) (k n : Nat), Sm_ l g E 3 en_i (fX12_applies_d3_b17 (gE_ g) N m s0) k n 17 [] [vi_ s0] m := by
  intro m s0 k n
  unfold fX12_applies_d3_b17
  exact x_zret C hret rfl dX12_applies_17
theorem wX12_applies_d3 {l : Launch} {g : GG} {E : Me_} (C : Cx_ l g E "MasterTree$Not" cX12_applies 3 23) (hret : (eT_ E).sig.returnType = (Option.some Jvm.ClassFile.FieldType.boolean)) (h0 : ∀ x ∈ (eC_ E).exceptionTable.toList, False) (hin : (eT_ E).name = "applies") (N : Nat) : ∀ (m : Mm) (v0 : Option Nat) (v1 : Option Nat) (v2 : Option Nat) (k n : Nat), Sm_ l g E 3 en_i (fX12_applies_d3 (gE_ g) N m v0 v1 v2) k n 0 [(0, vr_ v0), (1, vr_ v1), (2, vr_ v2)] [] m := by
  intro m v0 v1 v2 k n
  unfold fX12_applies_d3
  refine s_aload_n C rfl 0 rfl dX12_applies_0 1 rfl ?_
  refine x_gr C 10 (RX12, TX12, 1) rfl 0 (Nat.le_of_ble_eq_true rfl) q2666 (Or.inl rfl) rfl 11 rfl dX12_applies_1 4 rfl (fun x1 => ?_)
  refine s_aload_n C rfl 1 rfl dX12_applies_4 5 rfl ?_
  refine s_aload_n C rfl 2 rfl dX12_applies_5 6 rfl ?_
  refine x_wi [] 9 (fun kk_ => ?_) (fun x2 m1 k1 n1 => ?_)
  · refine x_csr (kd := 8) (fun hb_ hb0_ => ?_) ?_
    · exact x_callA (enc := en_i) (owner := "MasterTree$Filter") C 19 2 [vr_ v1, vr_ v2] 8 (ctX9_applies C.2.2.2.2.2.2.2.2.1 N m x1 v1 v2) hb_ hb0_ rfl rfl q2834 q2797 q2801 q2802 q139 q2803 q2796 ⟨by decide +kernel, by decide +kernel, by decide +kernel⟩ (Nat.le_of_ble_eq_true rfl) (Nat.le_of_ble_eq_true rfl) rfl (Nat.le_of_ble_eq_true rfl) dX12_applies_6 9 rfl rfl hen_i (kk_i kk_) (kx_n he_i)
    refine x_csr (kd := 9) (fun hb_ hb0_ => ?_) ?_
    · exact x_callA (enc := en_i) (owner := "MasterTree$Filter") C 13 2 [vr_ v1, vr_ v2] 9 (ctX10_applies C.2.2.2.2.2.2.2.2.1 N m x1 v1 v2) hb_ hb0_ rfl rfl q2834 q2797 q2798 q2799 q140 q2800 q2796 ⟨by decide +kernel, by decide +kernel, by decide +kernel⟩ (Nat.le_of_ble_eq_true rfl) (Nat.le_of_ble_eq_true rfl) rfl (Nat.le_of_ble_eq_true rfl) dX12_applies_6 9 rfl rfl hen_i (kk_i kk_) (kx_n he_i)
    refine x_csr (kd := 10) (fun hb_ hb0_ => ?_) ?_
    · exact x_callA (enc := en_i) (owner := "MasterTree$Filter") C 22 2 [vr_ v1, vr_ v2] 10 (ctX11_applies_d2 C.2.2.2.2.2.2.2.2.1 N m x1 v1 v2) hb_ hb0_ rfl rfl q2834 q2797 q2828 q2829 q141 q2830 q2796 ⟨by decide +kernel, by decide +kernel, by decide +kernel⟩ (Nat.le_of_ble_eq_true rfl) (Nat.le_of_ble_eq_true rfl) rfl (Nat.le_of_ble_eq_true rfl) dX12_applies_6 9 rfl rfl hen_i (kk_i kk_) (kx_n he_i)
    refine x_csr (kd := 11) (fun hb_ hb0_ => ?_) ?_
    · exact x_callA (enc := en_i) (owner := "MasterTree$Filter") C 22 2 [vr_ v1, vr_ v2] 11 (ctX12_applies_d2 C.2.2.2.2.2.2.2.2.1 N m x1 v1 v2) hb_ hb0_ rfl rfl q2834 q2797 q2835 q2832 q142 q2833 q2796 ⟨by decide +kernel, by decide +kernel, by decide +kernel⟩ (Nat.le_of_ble_eq_true rfl) (Nat.le_of_ble_eq_true rfl) rfl (Nat.le_of_ble_eq_true rfl) dX12_applies_6 9 rfl rfl hen_i (kk_i kk_) (kx_n he_i)
    exact Sm_bn
  refine s_if_ne C dX12_applies_9 16 rfl 12 rfl (fun c_ => ?_) (fun c_ => ?_)
  · refine s_iconst C 1 rfl dX12_applies_12 13 rfl ?_
    refine s_goto C (off := 4) 17 dX12_applies_13 rfl ?_
    refine Sm_sub [] rfl ?_
    exact wX12_applies_d3_b17 C hret h0 hin N _ _ _ _
  · refine s_iconst C 0 rfl dX12_applies_16 17 rfl ?_
    refine Sm_sub [] rfl ?_
    exact wX12_applies_d3_b17 C hret h0 hin N _ _ _ _
theorem hdX12_applies_d3 : ((⟨"MasterTree$Not", "applies", "(LMasterTree$Master;LMasterTree$Entry;)Z"⟩ : MethodName)).cls ≠ "java/lang/invoke/MethodHandle" ∧ ((⟨"MasterTree$Not", "applies", "(LMasterTree$Master;LMasterTree$Entry;)Z"⟩ : MethodName)).cls ≠ "java/lang/invoke/VarHandle" ∧ (parseMethodDescriptor ((⟨"MasterTree$Not", "applies", "(LMasterTree$Master;LMasterTree$Entry;)Z"⟩ : MethodName)).desc).map (fun d => d.parameters.length) = some 2 := ⟨by decide +kernel, by decide +kernel, by decide +kernel⟩
theorem ctX12_applies_d3 {l : Launch} {g : GG} (hst : l.stackTraces = false) (N : Nat) (m : Mm) (v0 : Option Nat) (v1 : Option Nat) (v2 : Option Nat) : ∀ v m' k n, fX12_applies_d3 (gE_ g) N m v0 v1 v2 = some (v, m', k, n) → Ct_ l g (⟨"MasterTree$Not", "applies", "(LMasterTree$Master;LMasterTree$Entry;)Z"⟩ : MethodName) (ws_ (⟨"MasterTree$Not", "applies", "(LMasterTree$Master;LMasterTree$Entry;)Z"⟩ : MethodName) cX12_applies 3 (Option.some Jvm.ClassFile.FieldType.boolean)) 23 [vr_ v0, vr_ v1, vr_ v2] m (en_i v) m' k n :=
  Ct_of (by decide +kernel) rfl hst (Nat.le_of_ble_eq_true rfl) rfl (fun E C hret h0 hin => wX12_applies_d3 C hret h0 hin N m v0 v1 v2 0 0)
theorem wX11_applies_d4_b68 {l : Launch} {g : GG} {E : Me_} (C : Cx_ l g E "MasterTree$Combined" cX11_applies 3 24) (hret : (eT_ E).sig.returnType = (Option.some Jvm.ClassFile.FieldType.boolean)) (h0 : ∀ x ∈ (eC_ E).exceptionTable.toList, False) (hin : (eT_ E).name = "applies") (N : Nat) : ∀ (m : Mm) (s0 : Int32) (k n : Nat), Sm_ l g E 3 en_i (fX11_applies_d4_b68 (gE_ g) N m s0) k n 68 [] [vi_ s0] m := by
  intro m s0 k n
  unfold fX11_applies_d4_b68
  exact x_zret C hret rfl dX11_applies_68
theorem wX11_applies_d4_b35 {l : Launch} {g : GG} {E : Me_} (C : Cx_ l g E "MasterTree$Combined" cX11_applies 3 24) (hret : (eT_ E).sig.returnType = (Option.some Jvm.ClassFile.FieldType.boolean)) (h0 : ∀ x ∈ (eC_ E).exceptionTable.toList, False) (hin : (eT_ E).name = "applies") (N : Nat) : ∀ (m : Mm) (k n : Nat), Sm_ l g E 3 en_i (fX11_applies_d4_b35 (gE_ g) N m) k n 35 [] [] m := by
  intro m k n
  unfold fX11_applies_d4_b35
  refine s_iconst C 0 rfl dX11_applies_35 36 rfl ?_
  refine s_goto C (off := 32) 68 dX11_applies_36 rfl ?_
  exact wX11_applies_d4_b68 C hret h0 hin N _ _ _ _
theorem wX11_applies_d4_b63 {l : Launch} {g : GG} {E : Me_} (C : Cx_ l g E "MasterTree$Combined" cX11_applies 3 24) (hret : (eT_ E).sig.returnType = (Option.some Jvm.ClassFile.FieldType.boolean)) (h0 : ∀ x ∈ (eC_ E).exceptionTable.toList, False) (hin : (eT_ E).name = "applies") (N : Nat) : ∀ (m : Mm) (k n : Nat), Sm_ l g E 3 en_i (fX11_applies_d4_b63 (gE_ g) N m) k n 63 [] [] m := by
  intro m k n
  unfold fX11_applies_d4_b63
  refine s_iconst C 1 rfl dX11_applies_63 64 rfl ?_
  refine s_goto C (off := 4) 68 dX11_applies_64 rfl ?_
  exact wX11_applies_d4_b68 C hret h0 hin N _ _ _ _
theorem wX11_applies_d4 {l : Launch} {g : GG} {E : Me_} (C : Cx_ l g E "MasterTree$Combined" cX11_applies 3 24) (hret : (eT_ E).sig.returnType = (Option.some Jvm.ClassFile.FieldType.boolean)) (h0 : ∀ x ∈ (eC_ E).exceptionTable.toList, False) (hin : (eT_ E).name = "applies") (N : Nat) : ∀ (m : Mm) (v0 : Option Nat) (v1 : Option Nat) (v2 : Option Nat) (k n : Nat), Sm_ l g E 3 en_i (fX11_applies_d4 (gE_ g) N m v0 v1 v2) k n 0 [(0, vr_ v0), (1, vr_ v1), (2, vr_ v2)] [] m := by
  intro m v0 v1 v2 k n
  unfold fX11_applies_d4
  refine s_aload_n C rfl 0 rfl dX11_applies_0 1 rfl ?_
  refine x_gi C 9 (RX11, TX11, 3) rfl 2 (Nat.le_of_ble_eq_true rfl) q2642 (Or.inl rfl) rfl 10 rfl dX11_applies_1 4 rfl (fun x1 => ?_)
  refine s_if_eq C dX11_applies_4 39 rfl 7 rfl (fun c_ => ?_) (fun c_ => ?_)
  · refine s_aload_n C rfl 0 rfl dX11_applies_39 40 rfl ?_
    refine x_gr C 9 (RX11, TX11, 3) rfl 0 (Nat.le_of_ble_eq_true rfl) q2640 (Or.inl rfl) rfl 10 rfl dX11_applies_40 43 rfl (fun x2 => ?_)
    refine s_aload_n C rfl 1 rfl dX11_applies_43 44 rfl ?_
    refine s_aload_n C rfl 2 rfl dX11_applies_44 45 rfl ?_
    refine x_wi [] 48 (fun kk_ => ?_) (fun x3 m1 k1 n1 => ?_)
    · refine x_csr (kd := 8) (fun hb_ hb0_ => ?_) ?_
      · exact x_callA (enc := en_i) (owner := "MasterTree$Filter") C 19 2 [vr_ v1, vr_ v2] 8 (ctX9_applies C.2.2.2.2.2.2.2.2.1 N m x2 v1 v2) hb_ hb0_ rfl rfl q2831 q2797 q2801 q2802 q139 q2803 q2796 ⟨by decide +kernel, by decide +kernel, by decide +kernel⟩ (Nat.le_of_ble_eq_true rfl) (Nat.le_of_ble_eq_true rfl) rfl (Nat.le_of_ble_eq_true rfl) dX11_applies_45 48 rfl rfl hen_i (kk_i kk_) (kx_n he_i)
      refine x_csr (kd := 9) (fun hb_ hb0_ => ?_) ?_
      · exact x_callA (enc := en_i) (owner := "MasterTree$Filter") C 13 2 [vr_ v1, vr_ v2] 9 (ctX10_applies C.2.2.2.2.2.2.2.2.1 N m x2 v1 v2) hb_ hb0_ rfl rfl q2831 q2797 q2798 q2799 q140 q2800 q2796 ⟨by decide +kernel, by decide +kernel, by decide +kernel⟩ (Nat.le_of_ble_eq_true rfl) (Nat.le_of_ble_eq_true rfl) rfl (Nat.le_of_ble_eq_true rfl) dX11_applies_45 48 rfl rfl hen_i (kk_i kk_) (kx_n he_i)
      refine x_csr (kd := 10) (fun hb_ hb0_ => ?_) ?_
      · exact x_callA (enc := en_i) (owner := "MasterTree$Filter") C 23 2 [vr_ v1, vr_ v2] 10 (ctX11_applies_d3 C.2.2.2.2.2.2.2.2.1 N m x2 v1 v2) hb_ hb0_ rfl rfl q2831 q2797 q2828 q2829 q141 q2830 q2796 ⟨by decide +kernel, by decide +kernel, by decide +kernel⟩ (Nat.le_of_ble_eq_true rfl) (Nat.le_of_ble_eq_true rfl) rfl (Nat.le_of_ble_eq_true rfl) dX11_applies_45 48 rfl rfl hen_i (kk_i kk_) (kx_n he_i)
      refine x_csr (kd := 11) (fun hb_ hb0_ => ?_) ?_
      · exact x_callA (enc := en_i) (owner := "MasterTree$Filter") C 23 2 [vr_ v1, vr_ v2] 11 (ctX12_applies_d3 C.2.2.2.2.2.2.2.2.1 N m x2 v1 v2) hb_ hb0_ rfl rfl q2831 q2797 q2835 q2832 q142 q2833 q2796 ⟨by decide +kernel, by decide +kernel, by decide +kernel⟩ (Nat.le_of_ble_eq_true rfl) (Nat.le_of_ble_eq_true rfl) rfl (Nat.le_of_ble_eq_true rfl) dX11_applies_45 48 rfl rfl hen_i (kk_i kk_) (kx_n he_i)
      exact Sm_bn
    refine s_if_ne C dX11_applies_48 63 rfl 51 rfl (fun c_ => ?_) (fun c_ => ?_)
    · refine s_aload_n C rfl 0 rfl dX11_applies_51 52 rfl ?_
      refine x_gr C 9 (RX11, TX11, 3) rfl 1 (Nat.le_of_ble_eq_true rfl) q2641 (Or.inl rfl) rfl 10 rfl dX11_applies_52 55 rfl (fun x8 => ?_)
      refine s_aload_n C rfl 1 rfl dX11_applies_55 56 rfl ?_
      refine s_aload_n C rfl 2 rfl dX11_applies_56 57 rfl ?_
      refine x_wi [] 60 (fun kk_ => ?_) (fun x9 m6 k1 n1 => ?_)
      · refine x_csr (kd := 8) (fun hb_ hb0_ => ?_) ?_
        · exact x_callA (enc := en_i) (owner := "MasterTree$Filter") C 19 2 [vr_ v1, vr_ v2] 8 (ctX9_applies C.2.2.2.2.2.2.2.2.1 N m1 x8 v1 v2) hb_ hb0_ rfl rfl q2831 q2797 q2801 q2802 q139 q2803 q2796 ⟨by decide +kernel, by decide +kernel, by decide +kernel⟩ (Nat.le_of_ble_eq_true rfl) (Nat.le_of_ble_eq_true rfl) rfl (Nat.le_of_ble_eq_true rfl) dX11_applies_57 60 rfl rfl hen_i (kk_i kk_) (kx_n he_i)
        refine x_csr (kd := 9) (fun hb_ hb0_ => ?_) ?_
        · exact x_callA (enc := en_i) (owner := "MasterTree$Filter") C 13 2 [vr_ v1, vr_ v2] 9 (ctX10_applies C.2.2.2.2.2.2.2.2.1 N m1 x8 v1 v2) hb_ hb0_ rfl rfl q2831 q2797 q2798 q2799 q140 q2800 q2796 ⟨by decide +kernel, by decide +kernel, by decide +kernel⟩ (Nat.le_of_ble_eq_true rfl) (Nat.le_of_ble_eq_true rfl) rfl (Nat.le_of_ble_eq_true rfl) dX11_applies_57 60 rfl rfl hen_i (kk_i kk_) (kx_n he_i)
        refine x_csr (kd := 10) (fun hb_ hb0_ => ?_) ?_
        · exact x_callA (enc := en_i) (owner := "MasterTree$Filter") C 23 2 [vr_ v1, vr_ v2] 10 (ctX11_applies_d3 C.2.2.2.2.2.2.2.2.1 N m1 x8 v1 v2) hb_ hb0_ rfl rfl q2831 q2797 q2828 q2829 q141 q2830 q2796 ⟨by decide +kernel, by decide +kernel, by decide +kernel⟩ (Nat.le_of_ble_eq_true rfl) (Nat.le_of_ble_eq_true rfl) rfl (Nat.le_of_ble_eq_true rfl) dX11_applies_57 60 rfl rfl hen_i (kk_i kk_) (kx_n he_i)
        refine x_csr (kd := 11) (fun hb_ hb0_ => ?_) ?_
        · exact x_callA (enc := en_i) (owner := "MasterTree$Filter") C 23 2 [vr_ v1, vr_ v2] 11 (ctX12_applies_d3 C.2.2.2.2.2.2.2.2.1 N m1 x8 v1 v2) hb_ hb0_ rfl rfl q2831 q2797 q2835 q2832 q142 q2833 q2796 ⟨by decide +kernel, by decide +kernel, by decide +kernel⟩ (Nat.le_of_ble_eq_true rfl) (Nat.le_of_ble_eq_true rfl) rfl (Nat.le_of_ble_eq_true rfl) dX11_applies_57 60 rfl rfl hen_i (kk_i kk_) (kx_n he_i)
        exact Sm_bn
      refine s_if_eq C dX11_applies_60 67 rfl 63 rfl (fun c_ => ?_) (fun c_ => ?_)
      · refine s_iconst C 0 rfl dX11_applies_67 68 rfl ?_
        refine Sm_sub [] rfl ?_
        exact wX11_applies_d4_b68 C hret h0 hin N _ _ _ _
      · refine Sm_sub [] rfl ?_
        exact wX11_applies_d4_b63 C hret h0 hin N _ _ _
    · refine Sm_sub [] rfl ?_
      exact wX11_applies_d4_b63 C hret h0 hin N _ _ _
  · refine s_aload_n C rfl 0 rfl dX11_applies_7 8 rfl ?_
    refine x_gr C 9 (RX11, TX11, 3) rfl 0 (Nat.le_of_ble_eq_true rfl) q2640 (Or.inl rfl) rfl 10 rfl dX11_applies_8 11 rfl (fun x14 => ?_)
    refine s_aload_n C rfl 1 rfl dX11_applies_11 12 rfl ?_
    refine s_aload_n C rfl 2 rfl dX11_applies_12 13 rfl ?_
    refine x_wi [] 16 (fun kk_ => ?_) (fun x15 m11 k1 n1 => ?_)
    · refine x_csr (kd := 8) (fun hb_ hb0_ => ?_) ?_
      · exact x_callA (enc := en_i) (owner := "MasterTree$Filter") C 19 2 [vr_ v1, vr_ v2] 8 (ctX9_applies C.2.2.2.2.2.2.2.2.1 N m x14 v1 v2) hb_ hb0_ rfl rfl q2831 q2797 q2801 q2802 q139 q2803 q2796 ⟨by decide +kernel, by decide +kernel, by decide +kernel⟩ (Nat.le_of_ble_eq_true rfl) (Nat.le_of_ble_eq_true rfl) rfl (Nat.le_of_ble_eq_true rfl) dX11_applies_13 16 rfl rfl hen_i (kk_i kk_) (kx_n he_i)
      refine x_csr (kd := 9) (fun hb_ hb0_ => ?_) ?_
      · exact x_callA (enc := en_i) (owner := "MasterTree$Filter") C 13 2 [vr_ v1, vr_ v2] 9 (ctX10_applies C.2.2.2.2.2.2.2.2.1 N m x14 v1 v2) hb_ hb0_ rfl rfl q2831 q2797 q2798 q2799 q140 q2800 q2796 ⟨by decide +kernel, by decide +kernel, by decide +kernel⟩ (Nat.le_of_ble_eq_true rfl) (Nat.le_of_ble_eq_true rfl) rfl (Nat.le_of_ble_eq_true rfl) dX11_applies_13 16 rfl rfl hen_i (kk_i kk_) (kx_n he_i)
      refine x_csr (kd := 10) (fun hb_ hb0_ => ?_) ?_
      · exact x_callA (enc := en_i) (owner := "MasterTree$Filter") C 23 2 [vr_ v1, vr_ v2] 10 (ctX11_applies_d3 C.2.2.2.2.2.2.2.2.1 N m x14 v1 v2) hb_ hb0_ rfl rfl q2831 q2797 q2828 q2829 q141 q2830 q2796 ⟨by decide +kernel, by decide +kernel, by decide +kernel⟩ (Nat.le_of_ble_eq_true rfl) (Nat.le_of_ble_eq_true rfl) rfl (Nat.le_of_ble_eq_true rfl) dX11_applies_13 16 rfl rfl hen_i (kk_i kk_) (kx_n he_i)
      refine x_csr (kd := 11) (fun hb_ hb0_ => ?_) ?_
      · exact x_callA (enc := en_i) (owner := "MasterTree$Filter") C 23 2 [vr_ v1, vr_ v2] 11 (ctX12_applies_d3 C.2.2.2.2.2.2.2.2.1 N m x14 v1 v2) hb_ hb0_ rfl rfl q2831 q2797 q2835 q2832 q142 q2833 q2796 ⟨by decide +kernel, by decide +kernel, by decide +kernel⟩ (Nat.le_of_ble_eq_true rfl) (Nat.le_of_ble_eq_true rfl) rfl (Nat.le_of_ble_eq_true rfl) dX11_applies_13 16 rfl rfl hen_i (kk_i kk_) (kx_n he_i)
      exact Sm_bn
    refine s_if_eq C dX11_applies_16 35 rfl 19 rfl (fun c_ => ?_) (fun c_ => ?_)
    · refine Sm_sub [] rfl ?_
      exact wX11_applies_d4_b35 C hret h0 hin N _ _ _
    · refine s_aload_n C rfl 0 rfl dX11_applies_19 20 rfl ?_
      refine x_gr C 9 (RX11, TX11, 3) rfl 1 (Nat.le_of_ble_eq_true rfl) q2641 (Or.inl rfl) rfl 10 rfl dX11_applies_20 23 rfl (fun x20 => ?_)
      refine s_aload_n C rfl 1 rfl dX11_applies_23 24 rfl ?_
      refine s_aload_n C rfl 2 rfl dX11_applies_24 25 rfl ?_
      refine x_wi [] 28 (fun kk_ => ?_) (fun x21 m16 k1 n1 => ?_)
      · refine x_csr (kd := 8) (fun hb_ hb0_ => ?_) ?_
        · exact x_callA (enc := en_i) (owner := "MasterTree$Filter") C 19 2 [vr_ v1, vr_ v2] 8 (ctX9_applies C.2.2.2.2.2.2.2.2.1 N m11 x20 v1 v2) hb_ hb0_ rfl rfl q2831 q2797 q2801 q2802 q139 q2803 q2796 ⟨by decide +kernel, by decide +kernel, by decide +kernel⟩ (Nat.le_of_ble_eq_true rfl) (Nat.le_of_ble_eq_true rfl) rfl (Nat.le_of_ble_eq_true rfl) dX11_applies_25 28 rfl rfl hen_i (kk_i kk_) (kx_n he_i)
        refine x_csr (kd := 9) (fun hb_ hb0_ => ?_) ?_
        · exact x_callA (enc := en_i) (owner := "MasterTree$Filter") C 13 2 [vr_ v1, vr_ v2] 9 (ctX10_applies C.2.2.2.2.2.2.2.2.1 N m11 x20 v1 v2) hb_ hb0_ rfl rfl q2831 q2797 q2798 q2799 q140 q2800 q2796 ⟨by decide +kernel, by decide +kernel, by decide +kernel⟩ (Nat.le_of_ble_eq_true rfl) (Nat.le_of_ble_eq_true rfl) rfl (Nat.le_of_ble_eq_true rfl) dX11_applies_25 28 rfl rfl hen_i (kk_i kk_) (kx_n he_i)
        refine x_csr (kd := 10) (fun hb_ hb0_ => ?_) ?_
        · exact x_callA (enc := en_i) (owner := "MasterTree$Filter") C 23 2 [vr_ v1, vr_ v2] 10 (ctX11_applies_d3 C.2.2.2.2.2.2.2.2.1 N m11 x20 v1 v2) hb_ hb0_ rfl rfl q2831 q2797 q2828 q2829 q141 q2830 q2796 ⟨by decide +kernel, by decide +kernel, by decide +kernel⟩ (Nat.le_of_ble_eq_true rfl) (Nat.le_of_ble_eq_true rfl) rfl (Nat.le_of_ble_eq_true rfl) dX11_applies_25 28 rfl rfl hen_i (kk_i kk_) (kx_n he_i)
        refine x_csr (kd := 11) (fun hb_ hb0_ => ?_) ?_
        · exact x_callA (enc := en_i) (owner := "MasterTree$Filter") C 23 2 [vr_ v1, vr_ v2] 11 (ctX12_applies_d3 C.2.2.2.2.2.2.2.2.1 N m11 x20 v1 v2) hb_ hb0_ rfl rfl q2831 q2797 q2835 q2832 q142 q2833 q2796 ⟨by decide +kernel, by decide +kernel, by decide +kernel⟩ (Nat.le_of_ble_eq_true rfl) (Nat.le_of_ble_eq_true rfl) rfl (Nat.le_of_ble_eq_true rfl) dX11_applies_25 28 rfl rfl hen_i (kk_i kk_) (kx_n he_i)
        exact Sm_bn
      refine s_if_eq C dX11_applies_28 35 rfl 31 rfl (fun c_ => ?_) (fun c_ => ?_)
      · refine Sm_sub [] rfl ?_
        exact wX11_applies_d4_b35 C hret h0 hin N _ _ _
      · refine s_iconst C 1 rfl dX11_applies_31 32 rfl ?_
        refine s_goto C (off := 36) 68 dX11_applies_32 rfl ?_
        refine Sm_sub [] rfl ?_
        exact wX11_applies_d4_b68 C hret h0 hin N _ _ _ _
theorem hdX11_applies_d4 : ((⟨"MasterTree$Combined", "applies", "(LMasterTree$Master;LMasterTree$Entry;)Z"⟩ : MethodName)).cls ≠ "java/lang/invoke/MethodHandle" ∧ ((⟨"MasterTree$Combined", "applies", "(LMasterTree$Master;LMasterTree$Entry;)Z"⟩ : MethodName)).cls ≠ "java/lang/invoke/VarHandle" ∧ (parseMethodDescriptor ((⟨"MasterTree$Combined", "applies", "(LMasterTree$Master;LMasterTree$Entry;)Z"⟩ : MethodName)).desc).map (fun d => d.parameters.length) = some 2 := ⟨by decide +kernel, by decide +kernel, by decide +kernel⟩
theorem ctX11_applies_d4 {l : Launch} {g : GG} (hst : l.stackTraces = false) (N : Nat) (m : Mm) (v0 : Option Nat) (v1 : Option Nat) (v2 : Option Nat) : ∀ v m' k n, fX11_applies_d4 (gE_ g) N m v0 v1 v2 = some (v, m', k, n) → Ct_ l g (⟨"MasterTree$Combined", "applies", "(LMasterTree$Master;LMasterTree$Entry;)Z"⟩ : MethodName) (ws_ (⟨"MasterTree$Combined", "applies", "(LMasterTree$Master;LMasterTree$Entry;)Z"⟩ : MethodName) cX11_applies 3 (Option.some Jvm.ClassFile.FieldType.boolean)) 24 [vr_ v0, vr_ v1, vr_ v2] m (en_i v) m' k n :=
  Ct_of (by decide +kernel) rfl hst (Nat.le_of_ble_eq_true rfl) rfl (fun E C hret h0 hin => wX11_applies_d4 C hret h0 hin N m v0 v1 v2 0 0)
theorem wX12_applies_d4_b17 {l : Launch} {g : GG} {E : Me_} (C : Cx_ l g E "MasterTree$Not" cX12_applies 3 24) (hret : (eT_ E).sig.returnType = (Option.some Jvm.ClassFile.FieldType.boolean)) (h0 : ∀ x ∈ (eC_ E).exceptionTable.toList, False) (hin : (eT_ E).name = "applies") (N : Nat) : ∀ (m : Mm) (s0 : Int32) (k n : Nat), Sm_ l g E 3 en_i (fX12_applies_d4_b17 (gE_ g) N m s0) k n 17 [] [vi_ s0] m := by
  intro m s0 k n
  unfold fX12_applies_d4_b17
  exact x_zret C hret rfl dX12_applies_17
theorem wX12_applies_d4 {l : Launch} {g : GG} {E : Me_} (C : Cx_ l g E "MasterTree$Not" cX12_applies 3 24) (hret : (eT_ E).sig.returnType = (Option.some Jvm.ClassFile.FieldType.boolean)) (h0 : ∀ x ∈ (eC_ E).exceptionTable.toList, False) (hin : (eT_ E).name = "applies") (N : Nat) : ∀ (m : Mm) (v0 : Option Nat) (v1 : Option Nat) (v2 : Option Nat) (k n : Nat), Sm_ l g E 3 en_i (fX12_applies_d4 (gE_ g) N m v0 v1 v2) k n 0 [(0, vr_ v0), (1, vr_ v1), (2, vr_ v2)] [] m := by
  intro m v0 v1 v2 k n
  unfold fX12_applies_d4
  refine s_aload_n C rfl 0 rfl dX12_applies_0 1 rfl ?_
  refine x_gr C 10 (RX12, TX12, 1) rfl 0 (Nat.le_of_ble_eq_true rfl) q2666 (Or.inl rfl) rfl 11 rfl dX12_applies_1 4 rfl (fun x1 => ?_)
  refine s_aload_n C rfl 1 rfl dX12_applies_4 5 rfl ?_
  refine s_aload_n C rfl 2 rfl dX12_applies_5 6 rfl ?_
  refine x_wi [] 9 (fun kk_ => ?_) (fun x2 m1 k1 n1 => ?_)
  · refine x_csr (kd := 8) (fun hb_ hb0_ => ?_) ?_
    · exact x_callA (enc := en_i) (owner := "MasterTree$Filter") C 19 2 [vr_ v1, vr_ v2] 8 (ctX9_applies C.2.2.2.2.2.2.2.2.1 N m x1 v1 v2) hb_ hb0_ rfl rfl q2834 q2797 q2801 q2802 q139 q2803 q2796 ⟨by decide +kernel, by decide +kernel, by decide +kernel⟩ (Nat.le_of_ble_eq_true rfl) (Nat.le_of_ble_eq_true rfl) rfl (Nat.le_of_ble_eq_true rfl) dX12_applies_6 9 rfl rfl hen_i (kk_i kk_) (kx_n he_i)
    refine x_csr (kd := 9) (fun hb_ hb0_ => ?_) ?_
    · exact x_callA (enc := en_i) (owner := "MasterTree$Filter") C 13 2 [vr_ v1, vr_ v2] 9 (ctX10_applies C.2.2.2.2.2.2.2.2.1 N m x1 v1 v2) hb_ hb0_ rfl rfl q2834 q2797 q2798 q2799 q140 q2800 q2796 ⟨by decide +kernel, by decide +kernel, by decide +kernel⟩ (Nat.le_of_ble_eq_true rfl) (Nat.le_of_ble_eq_true rfl) rfl (Nat.le_of_ble_eq_true rfl) dX12_applies_6 9 rfl rfl hen_i (kk_i kk_) (kx_n he_i)
    refine x_csr (kd := 10) (fun hb_ hb0_ => ?_) ?_
    · exact x_callA (enc := en_i) (owner := "MasterTree$Filter") C 23 2 [vr_ v1, vr_ v2] 10 (ctX11_applies_d3 C.2.2.2.2.2.2.2.2.1 N m x1 v1 v2) hb_ hb0_ rfl rfl q2834 q2797 q2828 q2829 q141 q2830 q2796 ⟨by decide +kernel, by decide +kernel, by decide +kernel⟩ (Nat.le_of_ble_eq_true rfl) (Nat.le_of_ble_eq_true rfl) rfl (Nat.le_of_ble_eq_true rfl) dX12_applies_6 9 rfl rfl hen_i (kk_i kk_) (kx_n he_i)
    refine x_csr (kd := 11) (fun hb_ hb0_ => ?_) ?_
    · exact x_callA (enc := en_i) (owner := "MasterTree$Filter") C 23 2 [vr_ v1, vr_ v2] 11 (ctX12_applies_d3 C.2.2.2.2.2.2.2.2.1 N m x1 v1 v2) hb_ hb0_ rfl rfl q2834 q2797 q2835 q2832 q142 q2833 q2796 ⟨by decide +kernel, by decide +kernel, by decide +kernel⟩ (Nat.le_of_ble_eq_true rfl) (Nat.le_of_ble_eq_true rfl) rfl (Nat.le_of_ble_eq_true rfl) dX12_applies_6 9 rfl rfl hen_i (kk_i kk_) (kx_n he_i)
    exact Sm_bn
  refine s_if_ne C dX12_applies_9 16 rfl 12 rfl (fun c_ => ?_) (fun c_ => ?_)
  · refine s_iconst C 1 rfl dX12_applies_12 13 rfl ?_
    refine s_goto C (off := 4) 17 dX12_applies_13 rfl ?_
    refine Sm_sub [] rfl ?_
    exact wX12_applies_d4_b17 C hret h0 hin N _ _ _ _
  · refine s_iconst C 0 rfl dX12_applies_16 17 rfl ?_
    refine Sm_sub [] rfl ?_
    exact wX12_applies_d4_b17 C hret h0 hin N _ _ _ _
theorem hdX12_applies_d4 : ((⟨"MasterTree$Not", "applies", "(LMasterTree$Master;LMasterTree$Entry;)Z"⟩ : MethodName)).cls ≠ "java/lang/invoke/MethodHandle" ∧ ((⟨"MasterTree$Not", "applies", "(LMasterTree$Master;LMasterTree$Entry;)Z"⟩ : MethodName)).cls ≠ "java/lang/invoke/VarHandle" ∧ (parseMethodDescriptor ((⟨"MasterTree$Not", "applies", "(LMasterTree$Master;LMasterTree$Entry;)Z"⟩ : MethodName)).desc).map (fun d => d.parameters.length) = some 2 := ⟨by decide +kernel, by decide +kernel, by decide +kernel⟩
theorem ctX12_applies_d4 {l : Launch} {g : GG} (hst : l.stackTraces = false) (N : Nat) (m : Mm) (v0 : Option Nat) (v1 : Option Nat) (v2 : Option Nat) : ∀ v m' k n, fX12_applies_d4 (gE_ g) N m v0 v1 v2 = some (v, m', k, n) → Ct_ l g (⟨"MasterTree$Not", "applies", "(LMasterTree$Master;LMasterTree$Entry;)Z"⟩ : MethodName) (ws_ (⟨"MasterTree$Not", "applies", "(LMasterTree$Master;LMasterTree$Entry;)Z"⟩ : MethodName) cX12_applies 3 (Option.some Jvm.ClassFile.FieldType.boolean)) 24 [vr_ v0, vr_ v1, vr_ v2] m (en_i v) m' k n :=
  Ct_of (by decide +kernel) rfl hst (Nat.le_of_ble_eq_true rfl) rfl (fun E C hret h0 hin => wX12_applies_d4 C hret h0 hin N m v0 v1 v2 0 0)
theorem wX11_applies_d5_b68 {l : Launch} {g : GG} {E : Me_} (C : Cx_ l g E "MasterTree$Combined" cX11_applies 3 25) (hret : (eT_ E).sig.returnType = (Option.some Jvm.ClassFile.FieldType.boolean)) (h0 : ∀ x ∈ (eC_ E).exceptionTable.toList, False) (hin : (eT_ E).name = "applies") (N : Nat) : ∀ (m : Mm) (s0 : Int32) (k n : Nat), Sm_ l g E 3 en_i (fX11_applies_d5_b68 (gE_ g) N m s0) k n 68 [] [vi_ s0] m := by
  intro m s0 k n
  unfold fX11_applies_d5_b68
  exact x_zret C hret rfl dX11_applies_68
theorem wX11_applies_d5_b35 {l : Launch} {g : GG} {E : Me_} (C : Cx_ l g E "MasterTree$Combined" cX11_applies 3 25) (hret : (eT_ E).sig.returnType = (Option.some Jvm.ClassFile.FieldType.boolean)) (h0 : ∀ x ∈ (eC_ E).exceptionTable.toList, False) (hin : (eT_ E).name = "applies") (N : Nat) : ∀ (m : Mm) (k n : Nat), Sm_ l g E 3 en_i (fX11_applies_d5_b35 (gE_ g) N m) k n 35 [] [] m := by
  intro m k n
  unfold fX11_applies_d5_b35
  refine s_iconst C 0 rfl dX11_applies_35 36 rfl ?_
  refine s_goto C (off := 32) 68 dX11_applies_36 rfl ?_
  exact wX11_applies_d5_b68 C hret h0 hin N _ _ _ _
theorem wX11_applies_d5_b63 {l : Launch} {g : GG} {E : Me_} (C : Cx_ l g E "MasterTree$Combined" cX11_applies 3 25) (hret : (eT_ E).sig.returnType = (Option.some Jvm.ClassFile.FieldType.boolean)) (h0 : ∀ x ∈ (eC_ E).exceptionTable.toList, False) (hin : (eT_ E).name = "applies") (N : Nat) : ∀ (m : Mm) (k n : Nat), Sm_ l g E 3 en_i (fX11_applies_d5_b63 (gE_ g) N m) k n 63 [] [] m := by
  intro m k n
  unfold fX11_applies_d5_b63
  refine s_iconst C 1 rfl dX11_applies_63 64 rfl ?_
  refine s_goto C (off := 4) 68 dX11_applies_64 rfl ?_
  exact wX11_applies_d5_b68 C hret h0 hin N _ _ _ _
theorem wX11_applies_d5 {l : Launch} {g : GG} {E : Me_} (C : Cx_ l g E "MasterTree$Combined" cX11_applies 3 25) (hret : (eT_ E).sig.returnType = (Option.some Jvm.ClassFile.FieldType.boolean)) (h0 : ∀ x ∈ (eC_ E).exceptionTable.toList, False) (hin : (eT_ E).name = "applies") (N : Nat) : ∀ (m : Mm) (v0 : Option Nat) (v1 : Option Nat) (v2 : Option Nat) (k n : Nat), Sm_ l g E 3 en_i (fX11_applies_d5 (gE_ g) N m v0 v1 v2) k n 0 [(0, vr_ v0), (1, vr_ v1), (2, vr_ v2)] [] m := by
  intro m v0 v1 v2 k n
  unfold fX11_applies_d5
  refine s_aload_n C rfl 0 rfl dX11_applies_0 1 rfl ?_
  refine x_gi C 9 (RX11, TX11, 3) rfl 2 (Nat.le_of_ble_eq_true rfl) q2642 (Or.inl rfl) rfl 10 rfl dX11_applies_1 4 rfl (fun x1 => ?_)
  refine s_if_eq C dX11_applies_4 39 rfl 7 rfl (fun c_ => ?_) (fun c_ => ?_)
  · refine s_aload_n C rfl 0 rfl dX11_applies_39 40 rfl ?_
    refine x_gr C 9 (RX11, TX11, 3) rfl 0 (Nat.le_of_ble_eq_true rfl) q2640 (Or.inl rfl) rfl 10 rfl dX11_applies_40 43 rfl (fun x2 => ?_)
    refine s_aload_n C rfl 1 rfl dX11_applies_43 44 rfl ?_
    refine s_aload_n C rfl 2 rfl dX11_applies_44 45 rfl ?_
    refine x_wi [] 48 (fun kk_ => ?_) (fun x3 m1 k1 n1 => ?_)
    · refine x_csr (kd := 8) (fun hb_ hb0_ => ?_) ?_
      · exact x_callA (enc := en_i) (owner := "MasterTree$Filter") C 19 2 [vr_ v1, vr_ v2] 8 (ctX9_applies C.2.2.2.2.2.2.2.2.1 N m x2 v1 v2) hb_ hb0_ rfl rfl q2831 q2797 q2801 q2802 q139 q2803 q2796 ⟨by decide +kernel, by decide +kernel, by decide +kernel⟩ (Nat.le_of_ble_eq_true rfl) (Nat.le_of_ble_eq_true rfl) rfl (Nat.le_of_ble_eq_true rfl) dX11_applies_45 48 rfl rfl hen_i (kk_i kk_) (kx_n he_i)
      refine x_csr (kd := 9) (fun hb_ hb0_ => ?_) ?_
      · exact x_callA (enc := en_i) (owner := "MasterTree$Filter") C 13 2 [vr_ v1, vr_ v2] 9 (ctX10_applies C.2.2.2.2.2.2.2.2.1 N m x2 v1 v2) hb_ hb0_ rfl rfl q2831 q2797 q2798 q2799 q140 q2800 q2796 ⟨by decide +kernel, by decide +kernel, by decide +kernel⟩ (Nat.le_of_ble_eq_true rfl) (Nat.le_of_ble_eq_true rfl) rfl (Nat.le_of_ble_eq_true rfl) dX11_applies_45 48 rfl rfl hen_i (kk_i kk_) (kx_n he_i)
      refine x_csr (kd := 10) (fun hb_ hb0_ => ?_) ?_
      · exact x_callA (enc := en_i) (owner := "MasterTree$Filter") C 24 2 [vr_ v1, vr_ v2] 10 (ctX11_applies_d4 C.2.2.2.2.2.2.2.2.1 N m x2 v1 v2) hb_ hb0_ rfl rfl q2831 q2797 q2828 q2829 q141 q2830 q2796 ⟨by decide +kernel, by decide +kernel, by decide +kernel⟩ (Nat.le_of_ble_eq_true rfl) (Nat.le_of_ble_eq_true rfl) rfl (Nat.le_of_ble_eq_true rfl) dX11_applies_45 48 rfl rfl hen_i (kk_i kk_) (kx_n he_i)
      refine x_csr (kd := 11) (fun hb_ hb0_ => ?_) ?_
      · exact x_callA (enc := en_i) (owner := "MasterTree$Filter") C 24 2 [vr_ v1, vr_ v2] 11 (ctX12_applies_d4 C.2.2.2.2.2.2.2.2.1 N m x2 v1 v2) hb_ hb0_ rfl rfl q2831 q2797 q2835 q2832 q142 q2833 q2796 ⟨by decide +kernel, by decide +kernel, by decide +kernel⟩ (Nat.le_of_ble_eq_true rfl) (Nat.le_of_ble_eq_true rfl) rfl (Nat.le_of_ble_eq_true rfl) dX11_applies_45 48 rfl rfl hen_i (kk_i kk_) (kx_n he_i)
      exact Sm_bn
    refine s_if_ne C dX11_applies_48 63 rfl 51 rfl (fun c_ => ?_) (fun c_ => ?_)
    · refine s_aload_n C rfl 0 rfl dX11_applies_51 52 rfl ?_
      refine x_gr C 9 (RX11, TX11, 3) rfl 1 (Nat.le_of_ble_eq_true rfl) q2641 (Or.inl rfl) rfl 10 rfl dX11_applies_52 55 rfl (fun x8 => ?_)
      refine s_aload_n C rfl 1 rfl dX11_applies_55 56 rfl ?_
      refine s_aload_n C rfl 2 rfl dX11_applies_56 57 rfl ?_
      refine x_wi [] 60 (fun kk_ => ?_) (fun x9 m6 k1 n1 => ?_)
      · refine x_csr (kd := 8) (fun hb_ hb0_ => ?_) ?_
        · exact x_callA (enc := en_i) (owner := "MasterTree$Filter") C 19 2 [vr_ v1, vr_ v2] 8 (ctX9_applies C.2.2.2.2.2.2.2.2.1 N m1 x8 v1 v2) hb_ hb0_ rfl rfl q2831 q2797 q2801 q2802 q139 q2803 q2796 ⟨by decide +kernel, by decide +kernel, by decide +kernel⟩ (Nat.le_of_ble_eq_true rfl) (Nat.le_of_ble_eq_true rfl) rfl (Nat.le_of_ble_eq_true rfl) dX11_applies_57 60 rfl rfl hen_i (kk_i kk_) (kx_n he_i)
        refine x_csr (kd := 9) (fun hb_ hb0_ => ?_) ?_
        · exact x_callA (enc := en_i) (owner := "MasterTree$Filter") C 13 2 [vr_ v1, vr_ v2] 9 (ctX10_applies C.2.2.2.2.2.2.2.2.1 N m1 x8 v1 v2) hb_ hb0_ rfl rfl q2831 q2797 q2798 q2799 q140 q2800 q2796 ⟨by decide +kernel, by decide +kernel, by decide +kernel⟩ (Nat.le_of_ble_eq_true rfl) (Nat.le_of_ble_eq_true rfl) rfl (Nat.le_of_ble_eq_true rfl) dX11_applies_57 60 rfl rfl hen_i (kk_i kk_) (kx_n he_i)
        refine x_csr (kd := 10) (fun hb_ hb0_ => ?_) ?_
        · exact x_callA (enc := en_i) (owner := "MasterTree$Filter") C 24 2 [vr_ v1, vr_ v2] 10 (ctX11_applies_d4 C.2.2.2.2.2.2.2.2.1 N m1 x8 v1 v2) hb_ hb0_ rfl rfl q2831 q2797 q2828 q2829 q141 q2830 q2796 ⟨by decide +kernel, by decide +kernel, by decide +kernel⟩ (Nat.le_of_ble_eq_true rfl) (Nat.le_of_ble_eq_true rfl) rfl (Nat.le_of_ble_eq_true rfl) dX11_applies_57 60 rfl rfl hen_i (kk_i kk_) (kx_n he_i)
        refine x_csr (kd := 11) (fun hb_ hb0_ => ?_) ?_
        · exact x_callA (enc := en_i) (owner := "MasterTree$Filter") C 24 2 [vr_ v1, vr_ v2] 11 (ctX12_applies_d4 C.2.2.2.2.2.2.2.2.1 N m1 x8 v1 v2) hb_ hb0_ rfl rfl q2831 q2797 q2835 q2832 q142 q2833 q2796 ⟨by decide +kernel, by decide +kernel, by decide +kernel⟩ (Nat.le_of_ble_eq_true rfl) (Nat.le_of_ble_eq_true rfl) rfl (Nat.le_of_ble_eq_true rfl) dX11_applies_57 60 rfl rfl hen_i (kk_i kk_) (kx_n he_i)
        exact Sm_bn
      refine s_if_eq C dX11_applies_60 67 rfl 63 rfl (fun c_ => ?_) (fun c_ => ?_)
      · refine s_iconst C 0 rfl dX11_applies_67 68 rfl ?_
        refine Sm_sub [] rfl ?_
        exact wX11_applies_d5_b68 C hret h0 hin N _ _ _ _
      · refine Sm_sub [] rfl ?_
        exact wX11_applies_d5_b63 C hret h0 hin N _ _ _
    · refine Sm_sub [] rfl ?_
      exact wX11_applies_d5_b63 C hret h0 hin N _ _ _
  · refine s_aload_n C rfl 0 rfl dX11_applies_7 8 rfl ?_
    refine x_gr C 9 (RX11, TX11, 3) rfl 0 (Nat.le_of_ble_eq_true rfl) q2640 (Or.inl rfl) rfl 10 rfl dX11_applies_8 11 rfl (fun x14 => ?_)
    refine s_aload_n C rfl 1 rfl dX11_applies_11 12 rfl ?_
    refine s_aload_n C rfl 2 rfl dX11_applies_12 13 rfl ?_
    refine x_wi [] 16 (fun kk_ => ?_) (fun x15 m11 k1 n1 => ?_)
    · refine x_csr (kd := 8) (fun hb_ hb0_ => ?_) ?_
      · exact x_callA (enc := en_i) (owner := "MasterTree$Filter") C 19 2 [vr_ v1, vr_ v2] 8 (ctX9_applies C.2.2.2.2.2.2.2.2.1 N m x14 v1 v2) hb_ hb0_ rfl rfl q2831 q2797 q2801 q2802 q139 q2803 q2796 ⟨by decide +kernel, by decide +kernel, by decide +kernel⟩ (Nat.le_of_ble_eq_true rfl) (Nat.le_of_ble_eq_true rfl) rfl (Nat.le_of_ble_eq_true rfl) dX11_applies_13 16 rfl rfl hen_i (kk_i kk_) (kx_n he_i)
      refine x_csr (kd := 9) (fun hb_ hb0_ => ?_) ?_
      · exact x_callA (enc := en_i) (owner := "MasterTree$Filter") C 13 2 [vr_ v1, vr_ v2] 9 (ctX10_applies C.2.2.2.2.2.2.2.2.1 N m x14 v1 v2) hb_ hb0_ rfl rfl q2831 q2797 q2798 q2799 q140 q2800 q2796 ⟨by decide +kernel, by decide +kernel, by decide +kernel⟩ (Nat.le_of_ble_eq_true rfl) (Nat.le_of_ble_eq_true rfl) rfl (Nat.le_of_ble_eq_true rfl) dX11_applies_13 16 rfl rfl hen_i (kk_i kk_) (kx_n he_i)
      refine x_csr (kd := 10) (fun hb_ hb0_ => ?_) ?_
      · exact x_callA (enc := en_i) (owner := "MasterTree$Filter") C 24 2 [vr_ v1, vr_ v2] 10 (ctX11_applies_d4 C.2.2.2.2.2.2.2.2.1 N m x14 v1 v2) hb_ hb0_ rfl rfl q2831 q2797 q2828 q2829 q141 q2830 q2796 ⟨by decide +kernel, by decide +kernel, by decide +kernel⟩ (Nat.le_of_ble_eq_true rfl) (Nat.le_of_ble_eq_true rfl) rfl (Nat.le_of_ble_eq_true rfl) dX11_applies_13 16 rfl rfl hen_i (kk_i kk_) (kx_n he_i)
      refine x_csr (kd := 11) (fun hb_ hb0_ => ?_) ?_
      · exact x_callA (enc := en_i) (owner := "MasterTree$Filter") C 24 2 [vr_ v1, vr_ v2] 11 (ctX12_applies_d4 C.2.2.2.2.2.2.2.2.1 N m x14 v1 v2) hb_ hb0_ rfl rfl q2831 q2797 q2835 q2832 q142 q2833 q2796 ⟨by decide +kernel, by decide +kernel, by decide +kernel⟩ (Nat.le_of_ble_eq_true rfl) (Nat.le_of_ble_eq_true rfl) rfl (Nat.le_of_ble_eq_true rfl) dX11_applies_13 16 rfl rfl hen_i (kk_i kk_) (kx_n he_i)
      exact Sm_bn
    refine s_if_eq C dX11_applies_16 35 rfl 19 rfl (fun c_ => ?_) (fun c_ => ?_)
    · refine Sm_sub [] rfl ?_
      exact wX11_applies_d5_b35 C hret h0 hin N _ _ _
    · refine s_aload_n C rfl 0 rfl dX11_applies_19 20 rfl ?_
      refine x_gr C 9 (RX11, TX11, 3) rfl 1 (Nat.le_of_ble_eq_true rfl) q2641 (Or.inl rfl) rfl 10 rfl dX11_applies_20 23 rfl (fun x20 => ?_)
      refine s_aload_n C rfl 1 rfl dX11_applies_23 24 rfl ?_
      refine s_aload_n C rfl 2 rfl dX11_applies_24 25 rfl ?_
      refine x_wi [] 28 (fun kk_ => ?_) (fun x21 m16 k1 n1 => ?_)
      · refine x_csr (kd := 8) (fun hb_ hb0_ => ?_) ?_
        · exact x_callA (enc := en_i) (owner := "MasterTree$Filter") C 19 2 [vr_ v1, vr_ v2] 8 (ctX9_applies C.2.2.2.2.2.2.2.2.1 N m11 x20 v1 v2) hb_ hb0_ rfl rfl q2831 q2797 q2801 q2802 q139 q2803 q2796 ⟨by decide +kernel, by decide +kernel, by decide +kernel⟩ (Nat.le_of_ble_eq_true rfl) (Nat.le_of_ble_eq_true rfl) rfl (Nat.le_of_ble_eq_true rfl) dX11_applies_25 28 rfl rfl hen_i (kk_i kk_) (kx_n he_i)
        refine x_csr (kd := 9) (fun hb_ hb0_ => ?_) ?_
        · exact x_callA (enc := en_i) (owner := "MasterTree$Filter") C 13 2 [vr_ v1, vr_ v2] 9 (ctX10_applies C.2.2.2.2.2.2.2.2.1 N m11 x20 v1 v2) hb_ hb0_ rfl rfl q2831 q2797 q2798 q2799 q140 q2800 q2796 ⟨by decide +kernel, by decide +kernel, by decide +kernel⟩ (Nat.le_of_ble_eq_true rfl) (Nat.le_of_ble_eq_true rfl) rfl (Nat.le_of_ble_eq_true rfl) dX11_applies_25 28 rfl rfl hen_i (kk_i kk_) (kx_n he_i)
        refine x_csr (kd := 10) (fun hb_ hb0_ => ?_) ?_
        · exact x_callA (enc := en_i) (owner := "MasterTree$Filter") C 24 2 [vr_ v1, vr_ v2] 10 (ctX11_applies_d4 C.2.2.2.2.2.2.2.2.1 N m11 x20 v1 v2) hb_ hb0_ rfl rfl q2831 q2797 q2828 q2829 q141 q2830 q2796 ⟨by decide +kernel, by decide +kernel, by decide +kernel⟩ (Nat.le_of_ble_eq_true rfl) (Nat.le_of_ble_eq_true rfl) rfl (Nat.le_of_ble_eq_true rfl) dX11_applies_25 28 rfl rfl hen_i (kk_i kk_) (kx_n he_i)
        refine x_csr (kd := 11) (fun hb_ hb0_ => ?_) ?_
        · exact x_callA (enc := en_i) (owner := "MasterTree$Filter") C 24 2 [vr_ v1, vr_ v2] 11 (ctX12_applies_d4 C.2.2.2.2.2.2.2.2.1 N m11 x20 v1 v2) hb_ hb0_ rfl rfl q2831 q2797 q2835 q2832 q142 q2833 q2796 ⟨by decide +kernel, by decide +kernel, by decide +kernel⟩ (Nat.le_of_ble_eq_true rfl) (Nat.le_of_ble_eq_true rfl) rfl (Nat.le_of_ble_eq_true rfl) dX11_applies_25 28 rfl rfl hen_i (kk_i kk_) (kx_n he_i)
        exact Sm_bn
      refine s_if_eq C dX11_applies_28 35 rfl 31 rfl (fun c_ => ?_) (fun c_ => ?_)
      · refine Sm_sub [] rfl ?_
        exact wX11_applies_d5_b35 C hret h0 hin N _ _ _
      · refine s_iconst C 1 rfl dX11_applies_31 32 rfl ?_
        refine s_goto C (off := 36) 68 dX11_applies_32 rfl ?_
        refine Sm_sub [] rfl ?_
        exact wX11_applies_d5_b68 C hret h0 hin N _ _ _ _
theorem hdX11_applies_d5 : ((⟨"MasterTree$Combined", "applies", "(LMasterTree$Master;LMasterTree$Entry;)Z"⟩ : MethodName)).cls ≠ "java/lang/invoke/MethodHandle" ∧ ((⟨"MasterTree$Combined", "applies", "(LMasterTree$Master;LMasterTree$Entry;)Z"⟩ : MethodName)).cls ≠ "java/lang/invoke/VarHandle" ∧ (parseMethodDescriptor ((⟨"MasterTree$Combined", "applies", "(LMasterTree$Master;LMasterTree$Entry;)Z"⟩ : MethodName)).desc).map (fun d => d.parameters.length) = some 2 := ⟨by decide +kernel, by decide +kernel, by decide +kernel⟩
theorem ctX11_applies_d5 {l : Launch} {g : GG} (hst : l.stackTraces = false) (N : Nat) (m : Mm) (v0 : Option Nat) (v1 : Option Nat) (v2 : Option Nat) : ∀ v m' k n, fX11_applies_d5 (gE_ g) N m v0 v1 v2 = some (v, m', k, n) → Ct_ l g (⟨"MasterTree$Combined", "applies", "(LMasterTree$Master;LMasterTree$Entry;)Z"⟩ : MethodName) (ws_ (⟨"MasterTree$Combined", "applies", "(LMasterTree$Master;LMasterTree$Entry;)Z"⟩ : MethodName) cX11_applies 3 (Option.some Jvm.ClassFile.FieldType.boolean)) 25 [vr_ v0, vr_ v1, vr_ v2] m (en_i v) m' k n :=
  Ct_of (by decide +kernel) rfl hst (Nat.le_of_ble_eq_true rfl) rfl (fun E C hret h0 hin => wX11_applies_d5 C hret h0 hin N m v0 v1 v2 0 0)
