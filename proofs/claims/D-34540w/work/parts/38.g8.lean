set_option maxRecDepth 100000
def fX12_applies_d5_b17 (e : Nat → Nat) (N : Nat) (m : Mm) (s0 : Int32) : Rs (Int32) := rz_ s0 s0 m
def fX12_applies_d5 (e : Nat → Nat) (N : Nat) (m : Mm) (v0 : Option Nat) (v1 : Option Nat) (v2 : Option Nat) : Rs (Int32) := gr_ m v0 11 0 (fun x1 => bd_ (cs_ m x1 8 (fX9_applies e N m x1 v1 v2) (cs_ m x1 9 (fX10_applies e N m x1 v1 v2) (cs_ m x1 10 (fX11_applies_d4 e N m x1 v1 v2) (cs_ m x1 11 (fX12_applies_d4 e N m x1 v1 v2) none)))) (fun x2 m1 => if x2 = 0 then (fX12_applies_d5_b17 e N m1 1) else (fX12_applies_d5_b17 e N m1 0)))
def fX11_applies_d6_b68 (e : Nat → Nat) (N : Nat) (m : Mm) (s0 : Int32) : Rs (Int32) := rz_ s0 s0 m
def fX11_applies_d6_b35 (e : Nat → Nat) (N : Nat) (m : Mm) : Rs (Int32) := fX11_applies_d6_b68 e N m 0
def fX11_applies_d6_b63 (e : Nat → Nat) (N : Nat) (m : Mm) : Rs (Int32) := fX11_applies_d6_b68 e N m 1
def fX11_applies_d6 (e : Nat → Nat) (N : Nat) (m : Mm) (v0 : Option Nat) (v1 : Option Nat) (v2 : Option Nat) : Rs (Int32) := gi_ m v0 10 2 (fun x1 => if x1 = 0 then (gr_ m v0 10 0 (fun x2 => bd_ (cs_ m x2 8 (fX9_applies e N m x2 v1 v2) (cs_ m x2 9 (fX10_applies e N m x2 v1 v2) (cs_ m x2 10 (fX11_applies_d5 e N m x2 v1 v2) (cs_ m x2 11 (fX12_applies_d5 e N m x2 v1 v2) none)))) (fun x3 m1 => if x3 = 0 then (gr_ m1 v0 10 1 (fun x8 => bd_ (cs_ m1 x8 8 (fX9_applies e N m1 x8 v1 v2) (cs_ m1 x8 9 (fX10_applies e N m1 x8 v1 v2) (cs_ m1 x8 10 (fX11_applies_d5 e N m1 x8 v1 v2) (cs_ m1 x8 11 (fX12_applies_d5 e N m1 x8 v1 v2) none)))) (fun x9 m6 => if x9 = 0 then (fX11_applies_d6_b68 e N m6 0) else (fX11_applies_d6_b63 e N m6)))) else (fX11_applies_d6_b63 e N m1)))) else (gr_ m v0 10 0 (fun x14 => bd_ (cs_ m x14 8 (fX9_applies e N m x14 v1 v2) (cs_ m x14 9 (fX10_applies e N m x14 v1 v2) (cs_ m x14 10 (fX11_applies_d5 e N m x14 v1 v2) (cs_ m x14 11 (fX12_applies_d5 e N m x14 v1 v2) none)))) (fun x15 m11 => if x15 = 0 then (fX11_applies_d6_b35 e N m11) else (gr_ m11 v0 10 1 (fun x20 => bd_ (cs_ m11 x20 8 (fX9_applies e N m11 x20 v1 v2) (cs_ m11 x20 9 (fX10_applies e N m11 x20 v1 v2) (cs_ m11 x20 10 (fX11_applies_d5 e N m11 x20 v1 v2) (cs_ m11 x20 11 (fX12_applies_d5 e N m11 x20 v1 v2) none)))) (fun x21 m16 => if x21 = 0 then (fX11_applies_d6_b35 e N m16) else (fX11_applies_d6_b68 e N m16 1))))))))
def fX12_applies_d6_b17 (e : Nat → Nat) (N : Nat) (m : Mm) (s0 : Int32) : Rs (Int32) := rz_ s0 s0 m
def fX12_applies_d6 (e : Nat → Nat) (N : Nat) (m : Mm) (v0 : Option Nat) (v1 : Option Nat) (v2 : Option Nat) : Rs (Int32) := gr_ m v0 11 0 (fun x1 => bd_ (cs_ m x1 8 (fX9_applies e N m x1 v1 v2) (cs_ m x1 9 (fX10_applies e N m x1 v1 v2) (cs_ m x1 10 (fX11_applies_d5 e N m x1 v1 v2) (cs_ m x1 11 (fX12_applies_d5 e N m x1 v1 v2) none)))) (fun x2 m1 => if x2 = 0 then (fX12_applies_d6_b17 e N m1 1) else (fX12_applies_d6_b17 e N m1 0)))
def fX11_applies_d7_b68 (e : Nat → Nat) (N : Nat) (m : Mm) (s0 : Int32) : Rs (Int32) := rz_ s0 s0 m
def fX11_applies_d7_b35 (e : Nat → Nat) (N : Nat) (m : Mm) : Rs (Int32) := fX11_applies_d7_b68 e N m 0
def fX11_applies_d7_b63 (e : Nat → Nat) (N : Nat) (m : Mm) : Rs (Int32) := fX11_applies_d7_b68 e N m 1
def fX11_applies_d7 (e : Nat → Nat) (N : Nat) (m : Mm) (v0 : Option Nat) (v1 : Option Nat) (v2 : Option Nat) : Rs (Int32) := gi_ m v0 10 2 (fun x1 => if x1 = 0 then (gr_ m v0 10 0 (fun x2 => bd_ (cs_ m x2 8 (fX9_applies e N m x2 v1 v2) (cs_ m x2 9 (fX10_applies e N m x2 v1 v2) (cs_ m x2 10 (fX11_applies_d6 e N m x2 v1 v2) (cs_ m x2 11 (fX12_applies_d6 e N m x2 v1 v2) none)))) (fun x3 m1 => if x3 = 0 then (gr_ m1 v0 10 1 (fun x8 => bd_ (cs_ m1 x8 8 (fX9_applies e N m1 x8 v1 v2) (cs_ m1 x8 9 (fX10_applies e N m1 x8 v1 v2) (cs_ m1 x8 10 (fX11_applies_d6 e N m1 x8 v1 v2) (cs_ m1 x8 11 (fX12_applies_d6 e N m1 x8 v1 v2) none)))) (fun x9 m6 => if x9 = 0 then (fX11_applies_d7_b68 e N m6 0) else (fX11_applies_d7_b63 e N m6)))) else (fX11_applies_d7_b63 e N m1)))) else (gr_ m v0 10 0 (fun x14 => bd_ (cs_ m x14 8 (fX9_applies e N m x14 v1 v2) (cs_ m x14 9 (fX10_applies e N m x14 v1 v2) (cs_ m x14 10 (fX11_applies_d6 e N m x14 v1 v2) (cs_ m x14 11 (fX12_applies_d6 e N m x14 v1 v2) none)))) (fun x15 m11 => if x15 = 0 then (fX11_applies_d7_b35 e N m11) else (gr_ m11 v0 10 1 (fun x20 => bd_ (cs_ m11 x20 8 (fX9_applies e N m11 x20 v1 v2) (cs_ m11 x20 9 (fX10_applies e N m11 x20 v1 v2) (cs_ m11 x20 10 (fX11_applies_d6 e N m11 x20 v1 v2) (cs_ m11 x20 11 (fX12_applies_d6 e N m11 x20 v1 v2) none)))) (fun x21 m16 => if x21 = 0 then (fX11_applies_d7_b35 e N m16) else (fX11_applies_d7_b68 e N m16 1))))))))
def fX12_applies_d7_b17 (e : Nat → Nat) (N : Nat) (m : Mm) (s0 : Int32) : Rs (Int32) := rz_ s0 s0 m
def fX12_applies_d7 (e : Nat → Nat) (N : Nat) (m : Mm) (v0 : Option Nat) (v1 : Option Nat) (v2 : Option Nat) : Rs (Int32) := gr_ m v0 11 0 (fun x1 => bd_ (cs_ m x1 8 (fX9_applies e N m x1 v1 v2) (cs_ m x1 9 (fX10_applies e N m x1 v1 v2) (cs_ m x1 10 (fX11_applies_d6 e N m x1 v1 v2) (cs_ m x1 11 (fX12_applies_d6 e N m x1 v1 v2) none)))) (fun x2 m1 => if x2 = 0 then (fX12_applies_d7_b17 e N m1 1) else (fX12_applies_d7_b17 e N m1 0)))
def fX11_applies_d8_b68 (e : Nat → Nat) (N : Nat) (m : Mm) (s0 : Int32) : Rs (Int32) := rz_ s0 s0 m
def fX11_applies_d8_b35 (e : Nat → Nat) (N : Nat) (m : Mm) : Rs (Int32) := fX11_applies_d8_b68 e N m 0
def fX11_applies_d8_b63 (e : Nat → Nat) (N : Nat) (m : Mm) : Rs (Int32) := fX11_applies_d8_b68 e N m 1
def fX11_applies_d8 (e : Nat → Nat) (N : Nat) (m : Mm) (v0 : Option Nat) (v1 : Option Nat) (v2 : Option Nat) : Rs (Int32) := gi_ m v0 10 2 (fun x1 => if x1 = 0 then (gr_ m v0 10 0 (fun x2 => bd_ (cs_ m x2 8 (fX9_applies e N m x2 v1 v2) (cs_ m x2 9 (fX10_applies e N m x2 v1 v2) (cs_ m x2 10 (fX11_applies_d7 e N m x2 v1 v2) (cs_ m x2 11 (fX12_applies_d7 e N m x2 v1 v2) none)))) (fun x3 m1 => if x3 = 0 then (gr_ m1 v0 10 1 (fun x8 => bd_ (cs_ m1 x8 8 (fX9_applies e N m1 x8 v1 v2) (cs_ m1 x8 9 (fX10_applies e N m1 x8 v1 v2) (cs_ m1 x8 10 (fX11_applies_d7 e N m1 x8 v1 v2) (cs_ m1 x8 11 (fX12_applies_d7 e N m1 x8 v1 v2) none)))) (fun x9 m6 => if x9 = 0 then (fX11_applies_d8_b68 e N m6 0) else (fX11_applies_d8_b63 e N m6)))) else (fX11_applies_d8_b63 e N m1)))) else (gr_ m v0 10 0 (fun x14 => bd_ (cs_ m x14 8 (fX9_applies e N m x14 v1 v2) (cs_ m x14 9 (fX10_applies e N m x14 v1 v2) (cs_ m x14 10 (fX11_applies_d7 e N m x14 v1 v2) (cs_ m x14 11 (fX12_applies_d7 e N m x14 v1 v2) none)))) (fun x15 m11 => if x15 = 0 then (fX11_applies_d8_b35 e N m11) else (gr_ m11 v0 10 1 (fun x20 => bd_ (cs_ m11 x20 8 (fX9_applies e N m11 x20 v1 v2) (cs_ m11 x20 9 (fX10_applies e N m11 x20 v1 v2) (cs_ m11 x20 10 (fX11_applies_d7 e N m11 x20 v1 v2) (cs_ m11 x20 11 (fX12_applies_d7 e N m11 x20 v1 v2) none)))) (fun x21 m16 => if x21 = 0 then (fX11_applies_d8_b35 e N m16) else (fX11_applies_d8_b68 e N m16 1))))))))
def fX12_applies_d8_b17 (e : Nat → Nat) (N : Nat) (m : Mm) (s0 : Int32) : Rs (Int32) := rz_ s0 s0 m
def fX12_applies_d8 (e : Nat → Nat) (N : Nat) (m : Mm) (v0 : Option Nat) (v1 : Option Nat) (v2 : Option Nat) : Rs (Int32) := gr_ m v0 11 0 (fun x1 => bd_ (cs_ m x1 8 (fX9_applies e N m x1 v1 v2) (cs_ m x1 9 (fX10_applies e N m x1 v1 v2) (cs_ m x1 10 (fX11_applies_d7 e N m x1 v1 v2) (cs_ m x1 11 (fX12_applies_d7 e N m x1 v1 v2) none)))) (fun x2 m1 => if x2 = 0 then (fX12_applies_d8_b17 e N m1 1) else (fX12_applies_d8_b17 e N m1 0)))
def fX11_applies_d9_b68 (e : Nat → Nat) (N : Nat) (m : Mm) (s0 : Int32) : Rs (Int32) := rz_ s0 s0 m
def fX11_applies_d9_b35 (e : Nat → Nat) (N : Nat) (m : Mm) : Rs (Int32) := fX11_applies_d9_b68 e N m 0
def fX11_applies_d9_b63 (e : Nat → Nat) (N : Nat) (m : Mm) : Rs (Int32) := fX11_applies_d9_b68 e N m 1
def fX11_applies_d9 (e : Nat → Nat) (N : Nat) (m : Mm) (v0 : Option Nat) (v1 : Option Nat) (v2 : Option Nat) : Rs (Int32) := gi_ m v0 10 2 (fun x1 => if x1 = 0 then (gr_ m v0 10 0 (fun x2 => bd_ (cs_ m x2 8 (fX9_applies e N m x2 v1 v2) (cs_ m x2 9 (fX10_applies e N m x2 v1 v2) (cs_ m x2 10 (fX11_applies_d8 e N m x2 v1 v2) (cs_ m x2 11 (fX12_applies_d8 e N m x2 v1 v2) none)))) (fun x3 m1 => if x3 = 0 then (gr_ m1 v0 10 1 (fun x8 => bd_ (cs_ m1 x8 8 (fX9_applies e N m1 x8 v1 v2) (cs_ m1 x8 9 (fX10_applies e N m1 x8 v1 v2) (cs_ m1 x8 10 (fX11_applies_d8 e N m1 x8 v1 v2) (cs_ m1 x8 11 (fX12_applies_d8 e N m1 x8 v1 v2) none)))) (fun x9 m6 => if x9 = 0 then (fX11_applies_d9_b68 e N m6 0) else (fX11_applies_d9_b63 e N m6)))) else (fX11_applies_d9_b63 e N m1)))) else (gr_ m v0 10 0 (fun x14 => bd_ (cs_ m x14 8 (fX9_applies e N m x14 v1 v2) (cs_ m x14 9 (fX10_applies e N m x14 v1 v2) (cs_ m x14 10 (fX11_applies_d8 e N m x14 v1 v2) (cs_ m x14 11 (fX12_applies_d8 e N m x14 v1 v2) none)))) (fun x15 m11 => if x15 = 0 then (fX11_applies_d9_b35 e N m11) else (gr_ m11 v0 10 1 (fun x20 => bd_ (cs_ m11 x20 8 (fX9_applies e N m11 x20 v1 v2) (cs_ m11 x20 9 (fX10_applies e N m11 x20 v1 v2) (cs_ m11 x20 10 (fX11_applies_d8 e N m11 x20 v1 v2) (cs_ m11 x20 11 (fX12_applies_d8 e N m11 x20 v1 v2) none)))) (fun x21 m16 => if x21 = 0 then (fX11_applies_d9_b35 e N m16) else (fX11_applies_d9_b68 e N m16 1))))))))
def fX12_applies_d9_b17 (e : Nat → Nat) (N : Nat) (m : Mm) (s0 : Int32) : Rs (Int32) := rz_ s0 s0 m
def fX12_applies_d9 (e : Nat → Nat) (N : Nat) (m : Mm) (v0 : Option Nat) (v1 : Option Nat) (v2 : Option Nat) : Rs (Int32) := gr_ m v0 11 0 (fun x1 => bd_ (cs_ m x1 8 (fX9_applies e N m x1 v1 v2) (cs_ m x1 9 (fX10_applies e N m x1 v1 v2) (cs_ m x1 10 (fX11_applies_d8 e N m x1 v1 v2) (cs_ m x1 11 (fX12_applies_d8 e N m x1 v1 v2) none)))) (fun x2 m1 => if x2 = 0 then (fX12_applies_d9_b17 e N m1 1) else (fX12_applies_d9_b17 e N m1 0)))
def fX11_applies_d10_b68 (e : Nat → Nat) (N : Nat) (m : Mm) (s0 : Int32) : Rs (Int32) := rz_ s0 s0 m
def fX11_applies_d10_b35 (e : Nat → Nat) (N : Nat) (m : Mm) : Rs (Int32) := fX11_applies_d10_b68 e N m 0
def fX11_applies_d10_b63 (e : Nat → Nat) (N : Nat) (m : Mm) : Rs (Int32) := fX11_applies_d10_b68 e N m 1
def fX11_applies_d10 (e : Nat → Nat) (N : Nat) (m : Mm) (v0 : Option Nat) (v1 : Option Nat) (v2 : Option Nat) : Rs (Int32) := gi_ m v0 10 2 (fun x1 => if x1 = 0 then (gr_ m v0 10 0 (fun x2 => bd_ (cs_ m x2 8 (fX9_applies e N m x2 v1 v2) (cs_ m x2 9 (fX10_applies e N m x2 v1 v2) (cs_ m x2 10 (fX11_applies_d9 e N m x2 v1 v2) (cs_ m x2 11 (fX12_applies_d9 e N m x2 v1 v2) none)))) (fun x3 m1 => if x3 = 0 then (gr_ m1 v0 10 1 (fun x8 => bd_ (cs_ m1 x8 8 (fX9_applies e N m1 x8 v1 v2) (cs_ m1 x8 9 (fX10_applies e N m1 x8 v1 v2) (cs_ m1 x8 10 (fX11_applies_d9 e N m1 x8 v1 v2) (cs_ m1 x8 11 (fX12_applies_d9 e N m1 x8 v1 v2) none)))) (fun x9 m6 => if x9 = 0 then (fX11_applies_d10_b68 e N m6 0) else (fX11_applies_d10_b63 e N m6)))) else (fX11_applies_d10_b63 e N m1)))) else (gr_ m v0 10 0 (fun x14 => bd_ (cs_ m x14 8 (fX9_applies e N m x14 v1 v2) (cs_ m x14 9 (fX10_applies e N m x14 v1 v2) (cs_ m x14 10 (fX11_applies_d9 e N m x14 v1 v2) (cs_ m x14 11 (fX12_applies_d9 e N m x14 v1 v2) none)))) (fun x15 m11 => if x15 = 0 then (fX11_applies_d10_b35 e N m11) else (gr_ m11 v0 10 1 (fun x20 => bd_ (cs_ m11 x20 8 (fX9_applies e N m11 x20 v1 v2) (cs_ m11 x20 9 (fX10_applies e N m11 x20 v1 v2) (cs_ m11 x20 10 (fX11_applies_d9 e N m11 x20 v1 v2) (cs_ m11 x20 11 (fX12_applies_d9 e N m11 x20 v1 v2) none)))) (fun x21 m16 => if x21 = 0 then (fX11_applies_d10_b35 e N m16) else (fX11_applies_d10_b68 e N m16 1))))))))
def fX12_applies_d10_b17 (e : Nat → Nat) (N : Nat) (m : Mm) (s0 : Int32) : Rs (Int32) := rz_ s0 s0 m
def fX12_applies_d10 (e : Nat → Nat) (N : Nat) (m : Mm) (v0 : Option Nat) (v1 : Option Nat) (v2 : Option Nat) : Rs (Int32) := gr_ m v0 11 0 (fun x1 => bd_ (cs_ m x1 8 (fX9_applies e N m x1 v1 v2) (cs_ m x1 9 (fX10_applies e N m x1 v1 v2) (cs_ m x1 10 (fX11_applies_d9 e N m x1 v1 v2) (cs_ m x1 11 (fX12_applies_d9 e N m x1 v1 v2) none)))) (fun x2 m1 => if x2 = 0 then (fX12_applies_d10_b17 e N m1 1) else (fX12_applies_d10_b17 e N m1 0)))
def fX11_applies_d11_b68 (e : Nat → Nat) (N : Nat) (m : Mm) (s0 : Int32) : Rs (Int32) := rz_ s0 s0 m
def fX11_applies_d11_b35 (e : Nat → Nat) (N : Nat) (m : Mm) : Rs (Int32) := fX11_applies_d11_b68 e N m 0
def fX11_applies_d11_b63 (e : Nat → Nat) (N : Nat) (m : Mm) : Rs (Int32) := fX11_applies_d11_b68 e N m 1
def fX11_applies_d11 (e : Nat → Nat) (N : Nat) (m : Mm) (v0 : Option Nat) (v1 : Option Nat) (v2 : Option Nat) : Rs (Int32) := gi_ m v0 10 2 (fun x1 => if x1 = 0 then (gr_ m v0 10 0 (fun x2 => bd_ (cs_ m x2 8 (fX9_applies e N m x2 v1 v2) (cs_ m x2 9 (fX10_applies e N m x2 v1 v2) (cs_ m x2 10 (fX11_applies_d10 e N m x2 v1 v2) (cs_ m x2 11 (fX12_applies_d10 e N m x2 v1 v2) none)))) (fun x3 m1 => if x3 = 0 then (gr_ m1 v0 10 1 (fun x8 => bd_ (cs_ m1 x8 8 (fX9_applies e N m1 x8 v1 v2) (cs_ m1 x8 9 (fX10_applies e N m1 x8 v1 v2) (cs_ m1 x8 10 (fX11_applies_d10 e N m1 x8 v1 v2) (cs_ m1 x8 11 (fX12_applies_d10 e N m1 x8 v1 v2) none)))) (fun x9 m6 => if x9 = 0 then (fX11_applies_d11_b68 e N m6 0) else (fX11_applies_d11_b63 e N m6)))) else (fX11_applies_d11_b63 e N m1)))) else (gr_ m v0 10 0 (fun x14 => bd_ (cs_ m x14 8 (fX9_applies e N m x14 v1 v2) (cs_ m x14 9 (fX10_applies e N m x14 v1 v2) (cs_ m x14 10 (fX11_applies_d10 e N m x14 v1 v2) (cs_ m x14 11 (fX12_applies_d10 e N m x14 v1 v2) none)))) (fun x15 m11 => if x15 = 0 then (fX11_applies_d11_b35 e N m11) else (gr_ m11 v0 10 1 (fun x20 => bd_ (cs_ m11 x20 8 (fX9_applies e N m11 x20 v1 v2) (cs_ m11 x20 9 (fX10_applies e N m11 x20 v1 v2) (cs_ m11 x20 10 (fX11_applies_d10 e N m11 x20 v1 v2) (cs_ m11 x20 11 (fX12_applies_d10 e N m11 x20 v1 v2) none)))) (fun x21 m16 => if x21 = 0 then (fX11_applies_d11_b35 e N m16) else (fX11_applies_d11_b68 e N m16 1))))))))
def fX12_applies_d11_b17 (e : Nat → Nat) (N : Nat) (m : Mm) (s0 : Int32) : Rs (Int32) := rz_ s0 s0 m
def fX12_applies_d11 (e : Nat → Nat) (N : Nat) (m : Mm) (v0 : Option Nat) (v1 : Option Nat) (v2 : Option Nat) : Rs (Int32) := gr_ m v0 11 0 (fun x1 => bd_ (cs_ m x1 8 (fX9_applies e N m x1 v1 v2) (cs_ m x1 9 (fX10_applies e N m x1 v1 v2) (cs_ m x1 10 (fX11_applies_d10 e N m x1 v1 v2) (cs_ m x1 11 (fX12_applies_d10 e N m x1 v1 v2) none)))) (fun x2 m1 => if x2 = 0 then (fX12_applies_d11_b17 e N m1 1) else (fX12_applies_d11_b17 e N m1 0)))
def fX11_applies_d12_b68 (e : Nat → Nat) (N : Nat) (m : Mm) (s0 : Int32) : Rs (Int32) := rz_ s0 s0 m
def fX11_applies_d12_b35 (e : Nat → Nat) (N : Nat) (m : Mm) : Rs (Int32) := fX11_applies_d12_b68 e N m 0
def fX11_applies_d12_b63 (e : Nat → Nat) (N : Nat) (m : Mm) : Rs (Int32) := fX11_applies_d12_b68 e N m 1
def fX11_applies_d12 (e : Nat → Nat) (N : Nat) (m : Mm) (v0 : Option Nat) (v1 : Option Nat) (v2 : Option Nat) : Rs (Int32) := gi_ m v0 10 2 (fun x1 => if x1 = 0 then (gr_ m v0 10 0 (fun x2 => bd_ (cs_ m x2 8 (fX9_applies e N m x2 v1 v2) (cs_ m x2 9 (fX10_applies e N m x2 v1 v2) (cs_ m x2 10 (fX11_applies_d11 e N m x2 v1 v2) (cs_ m x2 11 (fX12_applies_d11 e N m x2 v1 v2) none)))) (fun x3 m1 => if x3 = 0 then (gr_ m1 v0 10 1 (fun x8 => bd_ (cs_ m1 x8 8 (fX9_applies e N m1 x8 v1 v2) (cs_ m1 x8 9 (fX10_applies e N m1 x8 v1 v2) (cs_ m1 x8 10 (fX11_applies_d11 e N m1 x8 v1 v2) (cs_ m1 x8 11 (fX12_applies_d11 e N m1 x8 v1 v2) none)))) (fun x9 m6 => if x9 = 0 then (fX11_applies_d12_b68 e N m6 0) else (fX11_applies_d12_b63 e N m6)))) else (fX11_applies_d12_b63 e N m1)))) else (gr_ m v0 10 0 (fun x14 => bd_ (cs_ m x14 8 (fX9_applies e N m x14 v1 v2) (cs_ m x14 9 (fX10_applies e N m x14 v1 v2) (cs_ m x14 10 (fX11_applies_d11 e N m x14 v1 v2) (cs_ m x14 11 (fX12_applies_d11 e N m x14 v1 v2) none)))) (fun x15 m11 => if x15 = 0 then (fX11_applies_d12_b35 e N m11) else (gr_ m11 v0 10 1 (fun x20 => bd_ (cs_ m11 x20 8 (fX9_applies e N m11 x20 v1 v2) (cs_ m11 x20 9 (fX10_applies e N m11 x20 v1 v2) (cs_ m11 x20 10 (fX11_applies_d11 e N m11 x20 v1 v2) (cs_ m11 x20 11 (fX12_applies_d11 e N m11 x20 v1 v2) none)))) (fun x21 m16 => if x21 = 0 then (fX11_applies_d12_b35 e N m16) else (fX11_applies_d12_b68 e N m16 1))))))))
def fX12_applies_d12_b17 (e : Nat → Nat) (N : Nat) (m : Mm) (s0 : Int32) : Rs (Int32) := rz_ s0 s0 m
def fX12_applies_d12 (e : Nat → Nat) (N : Nat) (m : Mm) (v0 : Option Nat) (v1 : Option Nat) (v2 : Option Nat) : Rs (Int32) := gr_ m v0 11 0 (fun x1 => bd_ (cs_ m x1 8 (fX9_applies e N m x1 v1 v2) (cs_ m x1 9 (fX10_applies e N m x1 v1 v2) (cs_ m x1 10 (fX11_applies_d11 e N m x1 v1 v2) (cs_ m x1 11 (fX12_applies_d11 e N m x1 v1 v2) none)))) (fun x2 m1 => if x2 = 0 then (fX12_applies_d12_b17 e N m1 1) else (fX12_applies_d12_b17 e N m1 0)))
def fX11_applies_d13_b68 (e : Nat → Nat) (N : Nat) (m : Mm) (s0 : Int32) : Rs (Int32) := rz_ s0 s0 m
def fX11_applies_d13_b35 (e : Nat → Nat) (N : Nat) (m : Mm) : Rs (Int32) := fX11_applies_d13_b68 e N m 0
def fX11_applies_d13_b63 (e : Nat → Nat) (N : Nat) (m : Mm) : Rs (Int32) := fX11_applies_d13_b68 e N m 1
def fX11_applies_d13 (e : Nat → Nat) (N : Nat) (m : Mm) (v0 : Option Nat) (v1 : Option Nat) (v2 : Option Nat) : Rs (Int32) := gi_ m v0 10 2 (fun x1 => if x1 = 0 then (gr_ m v0 10 0 (fun x2 => bd_ (cs_ m x2 8 (fX9_applies e N m x2 v1 v2) (cs_ m x2 9 (fX10_applies e N m x2 v1 v2) (cs_ m x2 10 (fX11_applies_d12 e N m x2 v1 v2) (cs_ m x2 11 (fX12_applies_d12 e N m x2 v1 v2) none)))) (fun x3 m1 => if x3 = 0 then (gr_ m1 v0 10 1 (fun x8 => bd_ (cs_ m1 x8 8 (fX9_applies e N m1 x8 v1 v2) (cs_ m1 x8 9 (fX10_applies e N m1 x8 v1 v2) (cs_ m1 x8 10 (fX11_applies_d12 e N m1 x8 v1 v2) (cs_ m1 x8 11 (fX12_applies_d12 e N m1 x8 v1 v2) none)))) (fun x9 m6 => if x9 = 0 then (fX11_applies_d13_b68 e N m6 0) else (fX11_applies_d13_b63 e N m6)))) else (fX11_applies_d13_b63 e N m1)))) else (gr_ m v0 10 0 (fun x14 => bd_ (cs_ m x14 8 (fX9_applies e N m x14 v1 v2) (cs_ m x14 9 (fX10_applies e N m x14 v1 v2) (cs_ m x14 10 (fX11_applies_d12 e N m x14 v1 v2) (cs_ m x14 11 (fX12_applies_d12 e N m x14 v1 v2) none)))) (fun x15 m11 => if x15 = 0 then (fX11_applies_d13_b35 e N m11) else (gr_ m11 v0 10 1 (fun x20 => bd_ (cs_ m11 x20 8 (fX9_applies e N m11 x20 v1 v2) (cs_ m11 x20 9 (fX10_applies e N m11 x20 v1 v2) (cs_ m11 x20 10 (fX11_applies_d12 e N m11 x20 v1 v2) (cs_ m11 x20 11 (fX12_applies_d12 e N m11 x20 v1 v2) none)))) (fun x21 m16 => if x21 = 0 then (fX11_applies_d13_b35 e N m16) else (fX11_applies_d13_b68 e N m16 1))))))))
def fX12_applies_d13_b17 (e : Nat → Nat) (N : Nat) (m : Mm) (s0 : Int32) : Rs (Int32) := rz_ s0 s0 m
def fX12_applies_d13 (e : Nat → Nat) (N : Nat) (m : Mm) (v0 : Option Nat) (v1 : Option Nat) (v2 : Option Nat) : Rs (Int32) := gr_ m v0 11 0 (fun x1 => bd_ (cs_ m x1 8 (fX9_applies e N m x1 v1 v2) (cs_ m x1 9 (fX10_applies e N m x1 v1 v2) (cs_ m x1 10 (fX11_applies_d12 e N m x1 v1 v2) (cs_ m x1 11 (fX12_applies_d12 e N m x1 v1 v2) none)))) (fun x2 m1 => if x2 = 0 then (fX12_applies_d13_b17 e N m1 1) else (fX12_applies_d13_b17 e N m1 0)))
def fX11_applies_d14_b68 (e : Nat → Nat) (N : Nat) (m : Mm) (s0 : Int32) : Rs (Int32) := rz_ s0 s0 m
def fX11_applies_d14_b35 (e : Nat → Nat) (N : Nat) (m : Mm) : Rs (Int32) := fX11_applies_d14_b68 e N m 0
def fX11_applies_d14_b63 (e : Nat → Nat) (N : Nat) (m : Mm) : Rs (Int32) := fX11_applies_d14_b68 e N m 1
def fX11_applies_d14 (e : Nat → Nat) (N : Nat) (m : Mm) (v0 : Option Nat) (v1 : Option Nat) (v2 : Option Nat) : Rs (Int32) := gi_ m v0 10 2 (fun x1 => if x1 = 0 then (gr_ m v0 10 0 (fun x2 => bd_ (cs_ m x2 8 (fX9_applies e N m x2 v1 v2) (cs_ m x2 9 (fX10_applies e N m x2 v1 v2) (cs_ m x2 10 (fX11_applies_d13 e N m x2 v1 v2) (cs_ m x2 11 (fX12_applies_d13 e N m x2 v1 v2) none)))) (fun x3 m1 => if x3 = 0 then (gr_ m1 v0 10 1 (fun x8 => bd_ (cs_ m1 x8 8 (fX9_applies e N m1 x8 v1 v2) (cs_ m1 x8 9 (fX10_applies e N m1 x8 v1 v2) (cs_ m1 x8 10 (fX11_applies_d13 e N m1 x8 v1 v2) (cs_ m1 x8 11 (fX12_applies_d13 e N m1 x8 v1 v2) none)))) (fun x9 m6 => if x9 = 0 then (fX11_applies_d14_b68 e N m6 0) else (fX11_applies_d14_b63 e N m6)))) else (fX11_applies_d14_b63 e N m1)))) else (gr_ m v0 10 0 (fun x14 => bd_ (cs_ m x14 8 (fX9_applies e N m x14 v1 v2) (cs_ m x14 9 (fX10_applies e N m x14 v1 v2) (cs_ m x14 10 (fX11_applies_d13 e N m x14 v1 v2) (cs_ m x14 11 (fX12_applies_d13 e N m x14 v1 v2) none)))) (fun x15 m11 => if x15 = 0 then (fX11_applies_d14_b35 e N m11) else (gr_ m11 v0 10 1 (fun x20 => bd_ (cs_ m11 x20 8 (fX9_applies e N m11 x20 v1 v2) (cs_ m11 x20 9 (fX10_applies e N m11 x20 v1 v2) (cs_ m11 x20 10 (fX11_applies_d13 e N m11 x20 v1 v2) (cs_ m11 x20 11 (fX12_applies_d13 e N m11 x20 v1 v2) none)))) (fun x21 m16 => if x21 = 0 then (fX11_applies_d14_b35 e N m16) else (fX11_applies_d14_b68 e N m16 1))))))))
def fX12_applies_d14_b17 (e : Nat → Nat) (N : Nat) (m : Mm) (s0 : Int32) : Rs (Int32) := rz_ s0 s0 m
def fX12_applies_d14 (e : Nat → Nat) (N : Nat) (m : Mm) (v0 : Option Nat) (v1 : Option Nat) (v2 : Option Nat) : Rs (Int32) := gr_ m v0 11 0 (fun x1 => bd_ (cs_ m x1 8 (fX9_applies e N m x1 v1 v2) (cs_ m x1 9 (fX10_applies e N m x1 v1 v2) (cs_ m x1 10 (fX11_applies_d13 e N m x1 v1 v2) (cs_ m x1 11 (fX12_applies_d13 e N m x1 v1 v2) none)))) (fun x2 m1 => if x2 = 0 then (fX12_applies_d14_b17 e N m1 1) else (fX12_applies_d14_b17 e N m1 0)))
abbrev cX1_searchByWalk : ByteArray := prog_1_method_48_code
def yX1_searchByWalk : MethodName := ⟨RX1, "searchByWalk", "(III)I"⟩
def dkwX1_searchByWalk_9 : List UInt8 := [182, 1, 59, 182, 1, 73, 54, 12, 167, 255, 221, 132, 8, 1, 167, 255, 75, 21, 7, 172]
abbrev dktX1_searchByWalk_9 : List UInt8 := dkwX1_searchByWalk_9 ++ []
def dkwX1_searchByWalk_8 : List UInt8 := [159, 0, 35, 25, 6, 21, 12, 184, 1, 193, 185, 0, 80, 2, 0, 87, 25, 4, 21, 9, 25, 4, 21, 12]
abbrev dktX1_searchByWalk_8 : List UInt8 := dkwX1_searchByWalk_8 ++ dktX1_searchByWalk_9
def dkwX1_searchByWalk_7 : List UInt8 := [54, 11, 21, 11, 153, 0, 14, 25, 4, 21, 9, 2, 182, 1, 73, 167, 0, 4, 2, 54, 12, 21, 12, 2]
abbrev dktX1_searchByWalk_7 : List UInt8 := dkwX1_searchByWalk_7 ++ dktX1_searchByWalk_8
def dkwX1_searchByWalk_6 : List UInt8 := [96, 54, 7, 29, 5, 159, 0, 13, 29, 4, 160, 0, 12, 21, 8, 154, 0, 7, 4, 167, 0, 4, 3]
abbrev dktX1_searchByWalk_6 : List UInt8 := dkwX1_searchByWalk_6 ++ dktX1_searchByWalk_7
def dkwX1_searchByWalk_5 : List UInt8 := [153, 0, 23, 25, 4, 25, 4, 180, 0, 189, 21, 9, 3, 182, 0, 209, 153, 0, 7, 4, 167, 0, 4, 3]
abbrev dktX1_searchByWalk_5 : List UInt8 := dkwX1_searchByWalk_5 ++ dktX1_searchByWalk_6
def dkwX1_searchByWalk_4 : List UInt8 := [21, 7, 21, 10, 153, 0, 41, 25, 5, 25, 4, 25, 4, 180, 0, 128, 21, 9, 50, 182, 1, 202]
abbrev dktX1_searchByWalk_4 : List UInt8 := dkwX1_searchByWalk_4 ++ dktX1_searchByWalk_5
def dkwX1_searchByWalk_3 : List UInt8 := [54, 9, 29, 5, 159, 0, 12, 29, 153, 0, 8, 21, 8, 158, 0, 7, 4, 167, 0, 4, 3, 54, 10]
abbrev dktX1_searchByWalk_3 : List UInt8 := dkwX1_searchByWalk_3 ++ dktX1_searchByWalk_4
def dkwX1_searchByWalk_2 : List UInt8 := [185, 0, 137, 1, 0, 162, 0, 175, 25, 6, 21, 8, 185, 0, 113, 2, 0, 192, 1, 194, 182, 1, 199]
abbrev dktX1_searchByWalk_2 : List UInt8 := dkwX1_searchByWalk_2 ++ dktX1_searchByWalk_3
def dkwX1_searchByWalk_1 : List UInt8 := [3, 54, 7, 25, 6, 28, 184, 1, 193, 185, 0, 80, 2, 0, 87, 3, 54, 8, 21, 8, 25, 6]
abbrev dktX1_searchByWalk_1 : List UInt8 := dkwX1_searchByWalk_1 ++ dktX1_searchByWalk_2
def dkwX1_searchByWalk_0 : List UInt8 := [42, 27, 28, 29, 182, 1, 177, 58, 4, 42, 182, 1, 181, 58, 5, 187, 0, 50, 89, 183, 0, 52, 58, 6]
abbrev dktX1_searchByWalk_0 : List UInt8 := dkwX1_searchByWalk_0 ++ dktX1_searchByWalk_1
theorem dksX1_searchByWalk_0 : cX1_searchByWalk.data.toList.drop 0 = dktX1_searchByWalk_0 := by decide +kernel
theorem dksX1_searchByWalk_1 : cX1_searchByWalk.data.toList.drop 24 = dktX1_searchByWalk_1 := dk_seg dksX1_searchByWalk_0 24 rfl rfl
theorem dksX1_searchByWalk_2 : cX1_searchByWalk.data.toList.drop 46 = dktX1_searchByWalk_2 := dk_seg dksX1_searchByWalk_1 22 rfl rfl
theorem dksX1_searchByWalk_3 : cX1_searchByWalk.data.toList.drop 69 = dktX1_searchByWalk_3 := dk_seg dksX1_searchByWalk_2 23 rfl rfl
theorem dksX1_searchByWalk_4 : cX1_searchByWalk.data.toList.drop 92 = dktX1_searchByWalk_4 := dk_seg dksX1_searchByWalk_3 23 rfl rfl
theorem dksX1_searchByWalk_5 : cX1_searchByWalk.data.toList.drop 114 = dktX1_searchByWalk_5 := dk_seg dksX1_searchByWalk_4 22 rfl rfl
theorem dksX1_searchByWalk_6 : cX1_searchByWalk.data.toList.drop 138 = dktX1_searchByWalk_6 := dk_seg dksX1_searchByWalk_5 24 rfl rfl
theorem dksX1_searchByWalk_7 : cX1_searchByWalk.data.toList.drop 161 = dktX1_searchByWalk_7 := dk_seg dksX1_searchByWalk_6 23 rfl rfl
theorem dksX1_searchByWalk_8 : cX1_searchByWalk.data.toList.drop 185 = dktX1_searchByWalk_8 := dk_seg dksX1_searchByWalk_7 24 rfl rfl
theorem dksX1_searchByWalk_9 : cX1_searchByWalk.data.toList.drop 209 = dktX1_searchByWalk_9 := dk_seg dksX1_searchByWalk_8 24 rfl rfl
theorem dX1_searchByWalk_0 : decode cX1_searchByWalk 0 = .ok (.aload_n 0, 1) := dk_42 (dk_at dksX1_searchByWalk_0 0 rfl rfl)
theorem dX1_searchByWalk_1 : decode cX1_searchByWalk 1 = .ok (.iload_n 1, 1) := dk_27 (dk_at dksX1_searchByWalk_0 1 rfl rfl)
theorem dX1_searchByWalk_2 : decode cX1_searchByWalk 2 = .ok (.iload_n 2, 1) := dk_28 (dk_at dksX1_searchByWalk_0 2 rfl rfl)
theorem dX1_searchByWalk_3 : decode cX1_searchByWalk 3 = .ok (.iload_n 3, 1) := dk_29 (dk_at dksX1_searchByWalk_0 3 rfl rfl)
theorem dX1_searchByWalk_4 : decode cX1_searchByWalk 4 = .ok (.invokevirtual 433, 3) := dk_182 1 177 (dk_at dksX1_searchByWalk_0 4 rfl rfl)
theorem dX1_searchByWalk_7 : decode cX1_searchByWalk 7 = .ok (.astore 4, 2) := dk_58 4 (dk_at dksX1_searchByWalk_0 7 rfl rfl)
theorem dX1_searchByWalk_9 : decode cX1_searchByWalk 9 = .ok (.aload_n 0, 1) := dk_42 (dk_at dksX1_searchByWalk_0 9 rfl rfl)
theorem dX1_searchByWalk_10 : decode cX1_searchByWalk 10 = .ok (.invokevirtual 437, 3) := dk_182 1 181 (dk_at dksX1_searchByWalk_0 10 rfl rfl)
theorem dX1_searchByWalk_13 : decode cX1_searchByWalk 13 = .ok (.astore 5, 2) := dk_58 5 (dk_at dksX1_searchByWalk_0 13 rfl rfl)
theorem dX1_searchByWalk_15 : decode cX1_searchByWalk 15 = .ok (.new 50, 3) := dk_187 0 50 (dk_at dksX1_searchByWalk_0 15 rfl rfl)
theorem dX1_searchByWalk_18 : decode cX1_searchByWalk 18 = .ok (.dup, 1) := dk_89 (dk_at dksX1_searchByWalk_0 18 rfl rfl)
theorem dX1_searchByWalk_19 : decode cX1_searchByWalk 19 = .ok (.invokespecial 52, 3) := dk_183 0 52 (dk_at dksX1_searchByWalk_0 19 rfl rfl)
theorem dX1_searchByWalk_22 : decode cX1_searchByWalk 22 = .ok (.astore 6, 2) := dk_58 6 (dk_at dksX1_searchByWalk_0 22 rfl rfl)
theorem dX1_searchByWalk_24 : decode cX1_searchByWalk 24 = .ok (.iconst 0, 1) := dk_3 (dk_at dksX1_searchByWalk_1 0 rfl rfl)
theorem dX1_searchByWalk_25 : decode cX1_searchByWalk 25 = .ok (.istore 7, 2) := dk_54 7 (dk_at dksX1_searchByWalk_1 1 rfl rfl)
theorem dX1_searchByWalk_27 : decode cX1_searchByWalk 27 = .ok (.aload 6, 2) := dk_25 6 (dk_at dksX1_searchByWalk_1 3 rfl rfl)
theorem dX1_searchByWalk_29 : decode cX1_searchByWalk 29 = .ok (.iload_n 2, 1) := dk_28 (dk_at dksX1_searchByWalk_1 5 rfl rfl)
theorem dX1_searchByWalk_30 : decode cX1_searchByWalk 30 = .ok (.invokestatic 449, 3) := dk_184 1 193 (dk_at dksX1_searchByWalk_1 6 rfl rfl)
theorem dX1_searchByWalk_33 : decode cX1_searchByWalk 33 = .ok (.invokeinterface 80 2, 5) := by decide +kernel
theorem dX1_searchByWalk_38 : decode cX1_searchByWalk 38 = .ok (.pop, 1) := dk_87 (dk_at dksX1_searchByWalk_1 14 rfl rfl)
theorem dX1_searchByWalk_39 : decode cX1_searchByWalk 39 = .ok (.iconst 0, 1) := dk_3 (dk_at dksX1_searchByWalk_1 15 rfl rfl)
theorem dX1_searchByWalk_40 : decode cX1_searchByWalk 40 = .ok (.istore 8, 2) := dk_54 8 (dk_at dksX1_searchByWalk_1 16 rfl rfl)
theorem dX1_searchByWalk_42 : decode cX1_searchByWalk 42 = .ok (.iload 8, 2) := dk_21 8 (dk_at dksX1_searchByWalk_1 18 rfl rfl)
theorem dX1_searchByWalk_44 : decode cX1_searchByWalk 44 = .ok (.aload 6, 2) := dk_25 6 (dk_at dksX1_searchByWalk_1 20 rfl rfl)
theorem dX1_searchByWalk_46 : decode cX1_searchByWalk 46 = .ok (.invokeinterface 137 1, 5) := by decide +kernel
theorem dX1_searchByWalk_51 : decode cX1_searchByWalk 51 = .ok (.if_icmp .ge 175, 3) := dk_162 0 175 (dk_at dksX1_searchByWalk_2 5 rfl rfl)
theorem dX1_searchByWalk_54 : decode cX1_searchByWalk 54 = .ok (.aload 6, 2) := dk_25 6 (dk_at dksX1_searchByWalk_2 8 rfl rfl)
theorem dX1_searchByWalk_56 : decode cX1_searchByWalk 56 = .ok (.iload 8, 2) := dk_21 8 (dk_at dksX1_searchByWalk_2 10 rfl rfl)
theorem dX1_searchByWalk_58 : decode cX1_searchByWalk 58 = .ok (.invokeinterface 113 2, 5) := by decide +kernel
theorem dX1_searchByWalk_63 : decode cX1_searchByWalk 63 = .ok (.checkcast 450, 3) := dk_192 1 194 (dk_at dksX1_searchByWalk_2 17 rfl rfl)
theorem dX1_searchByWalk_66 : decode cX1_searchByWalk 66 = .ok (.invokevirtual 455, 3) := dk_182 1 199 (dk_at dksX1_searchByWalk_2 20 rfl rfl)
theorem dX1_searchByWalk_69 : decode cX1_searchByWalk 69 = .ok (.istore 9, 2) := dk_54 9 (dk_at dksX1_searchByWalk_3 0 rfl rfl)
theorem dX1_searchByWalk_71 : decode cX1_searchByWalk 71 = .ok (.iload_n 3, 1) := dk_29 (dk_at dksX1_searchByWalk_3 2 rfl rfl)
theorem dX1_searchByWalk_72 : decode cX1_searchByWalk 72 = .ok (.iconst 2, 1) := dk_5 (dk_at dksX1_searchByWalk_3 3 rfl rfl)
theorem dX1_searchByWalk_73 : decode cX1_searchByWalk 73 = .ok (.if_icmp .eq 12, 3) := dk_159 0 12 (dk_at dksX1_searchByWalk_3 4 rfl rfl)
theorem dX1_searchByWalk_76 : decode cX1_searchByWalk 76 = .ok (.iload_n 3, 1) := dk_29 (dk_at dksX1_searchByWalk_3 7 rfl rfl)
theorem dX1_searchByWalk_77 : decode cX1_searchByWalk 77 = .ok (.ifCond .eq 8, 3) := dk_153 0 8 (dk_at dksX1_searchByWalk_3 8 rfl rfl)
theorem dX1_searchByWalk_80 : decode cX1_searchByWalk 80 = .ok (.iload 8, 2) := dk_21 8 (dk_at dksX1_searchByWalk_3 11 rfl rfl)
theorem dX1_searchByWalk_82 : decode cX1_searchByWalk 82 = .ok (.ifCond .le 7, 3) := dk_158 0 7 (dk_at dksX1_searchByWalk_3 13 rfl rfl)
theorem dX1_searchByWalk_85 : decode cX1_searchByWalk 85 = .ok (.iconst 1, 1) := dk_4 (dk_at dksX1_searchByWalk_3 16 rfl rfl)
theorem dX1_searchByWalk_86 : decode cX1_searchByWalk 86 = .ok (.goto 4, 3) := dk_167 0 4 (dk_at dksX1_searchByWalk_3 17 rfl rfl)
theorem dX1_searchByWalk_89 : decode cX1_searchByWalk 89 = .ok (.iconst 0, 1) := dk_3 (dk_at dksX1_searchByWalk_3 20 rfl rfl)
theorem dX1_searchByWalk_90 : decode cX1_searchByWalk 90 = .ok (.istore 10, 2) := dk_54 10 (dk_at dksX1_searchByWalk_3 21 rfl rfl)
theorem dX1_searchByWalk_92 : decode cX1_searchByWalk 92 = .ok (.iload 7, 2) := dk_21 7 (dk_at dksX1_searchByWalk_4 0 rfl rfl)
theorem dX1_searchByWalk_94 : decode cX1_searchByWalk 94 = .ok (.iload 10, 2) := dk_21 10 (dk_at dksX1_searchByWalk_4 2 rfl rfl)
theorem dX1_searchByWalk_96 : decode cX1_searchByWalk 96 = .ok (.ifCond .eq 41, 3) := dk_153 0 41 (dk_at dksX1_searchByWalk_4 4 rfl rfl)
theorem dX1_searchByWalk_99 : decode cX1_searchByWalk 99 = .ok (.aload 5, 2) := dk_25 5 (dk_at dksX1_searchByWalk_4 7 rfl rfl)
theorem dX1_searchByWalk_101 : decode cX1_searchByWalk 101 = .ok (.aload 4, 2) := dk_25 4 (dk_at dksX1_searchByWalk_4 9 rfl rfl)
theorem dX1_searchByWalk_103 : decode cX1_searchByWalk 103 = .ok (.aload 4, 2) := dk_25 4 (dk_at dksX1_searchByWalk_4 11 rfl rfl)
theorem dX1_searchByWalk_105 : decode cX1_searchByWalk 105 = .ok (.getfield 128, 3) := dk_180 0 128 (dk_at dksX1_searchByWalk_4 13 rfl rfl)
theorem dX1_searchByWalk_108 : decode cX1_searchByWalk 108 = .ok (.iload 9, 2) := dk_21 9 (dk_at dksX1_searchByWalk_4 16 rfl rfl)
theorem dX1_searchByWalk_110 : decode cX1_searchByWalk 110 = .ok (.aaload, 1) := dk_50 (dk_at dksX1_searchByWalk_4 18 rfl rfl)
theorem dX1_searchByWalk_111 : decode cX1_searchByWalk 111 = .ok (.invokevirtual 458, 3) := dk_182 1 202 (dk_at dksX1_searchByWalk_4 19 rfl rfl)
theorem dX1_searchByWalk_114 : decode cX1_searchByWalk 114 = .ok (.ifCond .eq 23, 3) := dk_153 0 23 (dk_at dksX1_searchByWalk_5 0 rfl rfl)
theorem dX1_searchByWalk_117 : decode cX1_searchByWalk 117 = .ok (.aload 4, 2) := dk_25 4 (dk_at dksX1_searchByWalk_5 3 rfl rfl)
theorem dX1_searchByWalk_119 : decode cX1_searchByWalk 119 = .ok (.aload 4, 2) := dk_25 4 (dk_at dksX1_searchByWalk_5 5 rfl rfl)
theorem dX1_searchByWalk_121 : decode cX1_searchByWalk 121 = .ok (.getfield 189, 3) := dk_180 0 189 (dk_at dksX1_searchByWalk_5 7 rfl rfl)
theorem dX1_searchByWalk_124 : decode cX1_searchByWalk 124 = .ok (.iload 9, 2) := dk_21 9 (dk_at dksX1_searchByWalk_5 10 rfl rfl)
theorem dX1_searchByWalk_126 : decode cX1_searchByWalk 126 = .ok (.iconst 0, 1) := dk_3 (dk_at dksX1_searchByWalk_5 12 rfl rfl)
theorem dX1_searchByWalk_127 : decode cX1_searchByWalk 127 = .ok (.invokevirtual 209, 3) := dk_182 0 209 (dk_at dksX1_searchByWalk_5 13 rfl rfl)
theorem dX1_searchByWalk_130 : decode cX1_searchByWalk 130 = .ok (.ifCond .eq 7, 3) := dk_153 0 7 (dk_at dksX1_searchByWalk_5 16 rfl rfl)
theorem dX1_searchByWalk_133 : decode cX1_searchByWalk 133 = .ok (.iconst 1, 1) := dk_4 (dk_at dksX1_searchByWalk_5 19 rfl rfl)
theorem dX1_searchByWalk_134 : decode cX1_searchByWalk 134 = .ok (.goto 4, 3) := dk_167 0 4 (dk_at dksX1_searchByWalk_5 20 rfl rfl)
theorem dX1_searchByWalk_137 : decode cX1_searchByWalk 137 = .ok (.iconst 0, 1) := dk_3 (dk_at dksX1_searchByWalk_5 23 rfl rfl)
theorem dX1_searchByWalk_138 : decode cX1_searchByWalk 138 = .ok (.iadd, 1) := dk_96 (dk_at dksX1_searchByWalk_6 0 rfl rfl)
theorem dX1_searchByWalk_139 : decode cX1_searchByWalk 139 = .ok (.istore 7, 2) := dk_54 7 (dk_at dksX1_searchByWalk_6 1 rfl rfl)
theorem dX1_searchByWalk_141 : decode cX1_searchByWalk 141 = .ok (.iload_n 3, 1) := dk_29 (dk_at dksX1_searchByWalk_6 3 rfl rfl)
theorem dX1_searchByWalk_142 : decode cX1_searchByWalk 142 = .ok (.iconst 2, 1) := dk_5 (dk_at dksX1_searchByWalk_6 4 rfl rfl)
theorem dX1_searchByWalk_143 : decode cX1_searchByWalk 143 = .ok (.if_icmp .eq 13, 3) := dk_159 0 13 (dk_at dksX1_searchByWalk_6 5 rfl rfl)
theorem dX1_searchByWalk_146 : decode cX1_searchByWalk 146 = .ok (.iload_n 3, 1) := dk_29 (dk_at dksX1_searchByWalk_6 8 rfl rfl)
theorem dX1_searchByWalk_147 : decode cX1_searchByWalk 147 = .ok (.iconst 1, 1) := dk_4 (dk_at dksX1_searchByWalk_6 9 rfl rfl)
theorem dX1_searchByWalk_148 : decode cX1_searchByWalk 148 = .ok (.if_icmp .ne 12, 3) := dk_160 0 12 (dk_at dksX1_searchByWalk_6 10 rfl rfl)
theorem dX1_searchByWalk_151 : decode cX1_searchByWalk 151 = .ok (.iload 8, 2) := dk_21 8 (dk_at dksX1_searchByWalk_6 13 rfl rfl)
theorem dX1_searchByWalk_153 : decode cX1_searchByWalk 153 = .ok (.ifCond .ne 7, 3) := dk_154 0 7 (dk_at dksX1_searchByWalk_6 15 rfl rfl)
theorem dX1_searchByWalk_156 : decode cX1_searchByWalk 156 = .ok (.iconst 1, 1) := dk_4 (dk_at dksX1_searchByWalk_6 18 rfl rfl)
theorem dX1_searchByWalk_157 : decode cX1_searchByWalk 157 = .ok (.goto 4, 3) := dk_167 0 4 (dk_at dksX1_searchByWalk_6 19 rfl rfl)
theorem dX1_searchByWalk_160 : decode cX1_searchByWalk 160 = .ok (.iconst 0, 1) := dk_3 (dk_at dksX1_searchByWalk_6 22 rfl rfl)
theorem dX1_searchByWalk_161 : decode cX1_searchByWalk 161 = .ok (.istore 11, 2) := dk_54 11 (dk_at dksX1_searchByWalk_7 0 rfl rfl)
theorem dX1_searchByWalk_163 : decode cX1_searchByWalk 163 = .ok (.iload 11, 2) := dk_21 11 (dk_at dksX1_searchByWalk_7 2 rfl rfl)
theorem dX1_searchByWalk_165 : decode cX1_searchByWalk 165 = .ok (.ifCond .eq 14, 3) := dk_153 0 14 (dk_at dksX1_searchByWalk_7 4 rfl rfl)
theorem dX1_searchByWalk_168 : decode cX1_searchByWalk 168 = .ok (.aload 4, 2) := dk_25 4 (dk_at dksX1_searchByWalk_7 7 rfl rfl)
theorem dX1_searchByWalk_170 : decode cX1_searchByWalk 170 = .ok (.iload 9, 2) := dk_21 9 (dk_at dksX1_searchByWalk_7 9 rfl rfl)
theorem dX1_searchByWalk_172 : decode cX1_searchByWalk 172 = .ok (.iconst (-1), 1) := dk_2 (dk_at dksX1_searchByWalk_7 11 rfl rfl)
theorem dX1_searchByWalk_173 : decode cX1_searchByWalk 173 = .ok (.invokevirtual 329, 3) := dk_182 1 73 (dk_at dksX1_searchByWalk_7 12 rfl rfl)
theorem dX1_searchByWalk_176 : decode cX1_searchByWalk 176 = .ok (.goto 4, 3) := dk_167 0 4 (dk_at dksX1_searchByWalk_7 15 rfl rfl)
theorem dX1_searchByWalk_179 : decode cX1_searchByWalk 179 = .ok (.iconst (-1), 1) := dk_2 (dk_at dksX1_searchByWalk_7 18 rfl rfl)
theorem dX1_searchByWalk_180 : decode cX1_searchByWalk 180 = .ok (.istore 12, 2) := dk_54 12 (dk_at dksX1_searchByWalk_7 19 rfl rfl)
theorem dX1_searchByWalk_182 : decode cX1_searchByWalk 182 = .ok (.iload 12, 2) := dk_21 12 (dk_at dksX1_searchByWalk_7 21 rfl rfl)
theorem dX1_searchByWalk_184 : decode cX1_searchByWalk 184 = .ok (.iconst (-1), 1) := dk_2 (dk_at dksX1_searchByWalk_7 23 rfl rfl)
theorem dX1_searchByWalk_185 : decode cX1_searchByWalk 185 = .ok (.if_icmp .eq 35, 3) := dk_159 0 35 (dk_at dksX1_searchByWalk_8 0 rfl rfl)
theorem dX1_searchByWalk_188 : decode cX1_searchByWalk 188 = .ok (.aload 6, 2) := dk_25 6 (dk_at dksX1_searchByWalk_8 3 rfl rfl)
theorem dX1_searchByWalk_190 : decode cX1_searchByWalk 190 = .ok (.iload 12, 2) := dk_21 12 (dk_at dksX1_searchByWalk_8 5 rfl rfl)
theorem dX1_searchByWalk_192 : decode cX1_searchByWalk 192 = .ok (.invokestatic 449, 3) := dk_184 1 193 (dk_at dksX1_searchByWalk_8 7 rfl rfl)
theorem dX1_searchByWalk_195 : decode cX1_searchByWalk 195 = .ok (.invokeinterface 80 2, 5) := by decide +kernel
theorem dX1_searchByWalk_200 : decode cX1_searchByWalk 200 = .ok (.pop, 1) := dk_87 (dk_at dksX1_searchByWalk_8 15 rfl rfl)
theorem dX1_searchByWalk_201 : decode cX1_searchByWalk 201 = .ok (.aload 4, 2) := dk_25 4 (dk_at dksX1_searchByWalk_8 16 rfl rfl)
theorem dX1_searchByWalk_203 : decode cX1_searchByWalk 203 = .ok (.iload 9, 2) := dk_21 9 (dk_at dksX1_searchByWalk_8 18 rfl rfl)
theorem dX1_searchByWalk_205 : decode cX1_searchByWalk 205 = .ok (.aload 4, 2) := dk_25 4 (dk_at dksX1_searchByWalk_8 20 rfl rfl)
theorem dX1_searchByWalk_207 : decode cX1_searchByWalk 207 = .ok (.iload 12, 2) := dk_21 12 (dk_at dksX1_searchByWalk_8 22 rfl rfl)
theorem dX1_searchByWalk_209 : decode cX1_searchByWalk 209 = .ok (.invokevirtual 315, 3) := dk_182 1 59 (dk_at dksX1_searchByWalk_9 0 rfl rfl)
theorem dX1_searchByWalk_212 : decode cX1_searchByWalk 212 = .ok (.invokevirtual 329, 3) := dk_182 1 73 (dk_at dksX1_searchByWalk_9 3 rfl rfl)
theorem dX1_searchByWalk_215 : decode cX1_searchByWalk 215 = .ok (.istore 12, 2) := dk_54 12 (dk_at dksX1_searchByWalk_9 6 rfl rfl)
theorem dX1_searchByWalk_217 : decode cX1_searchByWalk 217 = .ok (.goto (-35), 3) := dk_167 255 221 (dk_at dksX1_searchByWalk_9 8 rfl rfl)
theorem dX1_searchByWalk_220 : decode cX1_searchByWalk 220 = .ok (.iinc 8 1, 3) := dk_132 8 1 (dk_at dksX1_searchByWalk_9 11 rfl rfl)
theorem dX1_searchByWalk_223 : decode cX1_searchByWalk 223 = .ok (.goto (-181), 3) := dk_167 255 75 (dk_at dksX1_searchByWalk_9 14 rfl rfl)
theorem dX1_searchByWalk_226 : decode cX1_searchByWalk 226 = .ok (.iload 7, 2) := dk_21 7 (dk_at dksX1_searchByWalk_9 17 rfl rfl)
theorem dX1_searchByWalk_228 : decode cX1_searchByWalk 228 = .ok (.ireturn, 1) := dk_172 (dk_at dksX1_searchByWalk_9 19 rfl rfl)
def fX1_searchByWalk_b182 (e : Nat → Nat) (N : Nat) (k42 : Mm → Int32 → Option Nat → Option Nat → Option Nat → Int32 → Int32 → Rs (Int32 ⊕ Nat)) : Nat → Mm → Int32 → Option Nat → Option Nat → Option Nat → Int32 → Int32 → Int32 → Int32 → Rs (Int32 ⊕ Nat)
  | 0, _, _, _, _, _, _, _, _, _ => none
  | F + 1, m, v3, v4, v5, v6, v7, v8, v9, v12 => if v12 = (-1) then (k42 m v3 v4 v5 v6 v7 (v8 + 1)) else (bd_ (fJ21_valueOf e N m v12) (fun x1 m1 => ck_ m1 v6 13 (bd_ (fJ2_add e N m1 v6 x1) (fun x2 m2 => ck_ m2 v4 2 (bd_ (fX2_shownName e N m2 v4 v12) (fun x3 m3 => ck_ m3 v4 2 (bd_ (fX2_next e N m3 v4 v9 x3) (fun x4 m4 => fX1_searchByWalk_b182 e N k42 F m4 v3 v4 v5 v6 v7 v8 v9 x4))))))))
def fX1_searchByWalk_b180 (e : Nat → Nat) (N : Nat) (k42 : Mm → Int32 → Option Nat → Option Nat → Option Nat → Int32 → Int32 → Rs (Int32 ⊕ Nat)) (m : Mm) (v3 : Int32) (v4 : Option Nat) (v5 : Option Nat) (v6 : Option Nat) (v7 : Int32) (v8 : Int32) (v9 : Int32) (s0 : Int32) : Rs (Int32 ⊕ Nat) := fX1_searchByWalk_b182 e N k42 N m v3 v4 v5 v6 v7 v8 v9 s0
def fX1_searchByWalk_b161 (e : Nat → Nat) (N : Nat) (k42 : Mm → Int32 → Option Nat → Option Nat → Option Nat → Int32 → Int32 → Rs (Int32 ⊕ Nat)) (m : Mm) (v3 : Int32) (v4 : Option Nat) (v5 : Option Nat) (v6 : Option Nat) (v7 : Int32) (v8 : Int32) (v9 : Int32) (s0 : Int32) : Rs (Int32 ⊕ Nat) := if s0 = 0 then (fX1_searchByWalk_b180 e N k42 m v3 v4 v5 v6 v7 v8 v9 (-1)) else (ck_ m v4 2 (bd_ (fX2_next e N m v4 v9 (-1)) (fun x1 m1 => fX1_searchByWalk_b180 e N k42 m1 v3 v4 v5 v6 v7 v8 v9 x1)))
def fX1_searchByWalk_b156 (e : Nat → Nat) (N : Nat) (k42 : Mm → Int32 → Option Nat → Option Nat → Option Nat → Int32 → Int32 → Rs (Int32 ⊕ Nat)) (m : Mm) (v3 : Int32) (v4 : Option Nat) (v5 : Option Nat) (v6 : Option Nat) (v7 : Int32) (v8 : Int32) (v9 : Int32) : Rs (Int32 ⊕ Nat) := fX1_searchByWalk_b161 e N k42 m v3 v4 v5 v6 v7 v8 v9 1
def fX1_searchByWalk_b160 (e : Nat → Nat) (N : Nat) (k42 : Mm → Int32 → Option Nat → Option Nat → Option Nat → Int32 → Int32 → Rs (Int32 ⊕ Nat)) (m : Mm) (v3 : Int32) (v4 : Option Nat) (v5 : Option Nat) (v6 : Option Nat) (v7 : Int32) (v8 : Int32) (v9 : Int32) : Rs (Int32 ⊕ Nat) := fX1_searchByWalk_b161 e N k42 m v3 v4 v5 v6 v7 v8 v9 0
def fX1_searchByWalk_b138 (e : Nat → Nat) (N : Nat) (k42 : Mm → Int32 → Option Nat → Option Nat → Option Nat → Int32 → Int32 → Rs (Int32 ⊕ Nat)) (m : Mm) (v3 : Int32) (v4 : Option Nat) (v5 : Option Nat) (v6 : Option Nat) (v8 : Int32) (v9 : Int32) (s0 : Int32) (s1 : Int32) : Rs (Int32 ⊕ Nat) := if v3 = 2 then (fX1_searchByWalk_b156 e N k42 m v3 v4 v5 v6 (s0 + s1) v8 v9) else (if v3 = 1 then (if v8 = 0 then (fX1_searchByWalk_b156 e N k42 m v3 v4 v5 v6 (s0 + s1) v8 v9) else (fX1_searchByWalk_b160 e N k42 m v3 v4 v5 v6 (s0 + s1) v8 v9)) else (fX1_searchByWalk_b160 e N k42 m v3 v4 v5 v6 (s0 + s1) v8 v9))
def fX1_searchByWalk_b137 (e : Nat → Nat) (N : Nat) (k42 : Mm → Int32 → Option Nat → Option Nat → Option Nat → Int32 → Int32 → Rs (Int32 ⊕ Nat)) (m : Mm) (v3 : Int32) (v4 : Option Nat) (v5 : Option Nat) (v6 : Option Nat) (v8 : Int32) (v9 : Int32) (s0 : Int32) : Rs (Int32 ⊕ Nat) := fX1_searchByWalk_b138 e N k42 m v3 v4 v5 v6 v8 v9 s0 0
def fX1_searchByWalk_b90 (e : Nat → Nat) (N : Nat) (k42 : Mm → Int32 → Option Nat → Option Nat → Option Nat → Int32 → Int32 → Rs (Int32 ⊕ Nat)) (m : Mm) (v3 : Int32) (v4 : Option Nat) (v5 : Option Nat) (v6 : Option Nat) (v7 : Int32) (v8 : Int32) (v9 : Int32) (s0 : Int32) : Rs (Int32 ⊕ Nat) := if s0 = 0 then (fX1_searchByWalk_b137 e N k42 m v3 v4 v5 v6 v8 v9 v7) else (gr_ m v4 2 6 (fun x1 => ar_ m x1 205 v9 (fun x2 => bd_ (cs_ m v5 8 (fX9_applies e N m v5 v4 x2) (cs_ m v5 9 (fX10_applies e N m v5 v4 x2) (cs_ m v5 10 (fX11_applies_d14 e N m v5 v4 x2) (cs_ m v5 11 (fX12_applies_d14 e N m v5 v4 x2) none)))) (fun x3 m1 => if x3 = 0 then (fX1_searchByWalk_b137 e N k42 m1 v3 v4 v5 v6 v8 v9 v7) else (gi_ m1 v4 2 3 (fun x8 => ck_ m1 v4 2 (bd_ (fX2_may e N m1 v4 x8 v9 0) (fun x9 m6 => if x9 = 0 then (fX1_searchByWalk_b137 e N k42 m6 v3 v4 v5 v6 v8 v9 v7) else (fX1_searchByWalk_b138 e N k42 m6 v3 v4 v5 v6 v8 v9 v7 1)))))))))
def fX1_searchByWalk_b85 (e : Nat → Nat) (N : Nat) (k42 : Mm → Int32 → Option Nat → Option Nat → Option Nat → Int32 → Int32 → Rs (Int32 ⊕ Nat)) (m : Mm) (v3 : Int32) (v4 : Option Nat) (v5 : Option Nat) (v6 : Option Nat) (v7 : Int32) (v8 : Int32) (v9 : Int32) : Rs (Int32 ⊕ Nat) := fX1_searchByWalk_b90 e N k42 m v3 v4 v5 v6 v7 v8 v9 1
def fX1_searchByWalk_b42 (e : Nat → Nat) (N : Nat) : Nat → Mm → Int32 → Option Nat → Option Nat → Option Nat → Int32 → Int32 → Rs (Int32 ⊕ Nat)
  | 0, _, _, _, _, _, _, _ => none
  | F + 1, m, v3, v4, v5, v6, v7, v8 => ck_ m v6 13 (bd_ (fJ2_size e N m v6) (fun x1 m1 => if v8 < x1 then (ck_ m1 v6 13 (bd_ (fJ2_get e N m1 v6 v8) (fun x2 m2 => cc_ m2 x2 [27] (ck_ m2 x2 27 (bd_ (fJ21_intValue e N m2 x2) (fun x3 m3 => if v3 = 2 then (fX1_searchByWalk_b85 e N (fX1_searchByWalk_b42 e N F) m3 v3 v4 v5 v6 v7 v8 x3) else (if v3 = 0 then (fX1_searchByWalk_b85 e N (fX1_searchByWalk_b42 e N F) m3 v3 v4 v5 v6 v7 v8 x3) else (if 0 < v8 then (fX1_searchByWalk_b85 e N (fX1_searchByWalk_b42 e N F) m3 v3 v4 v5 v6 v7 v8 x3) else (fX1_searchByWalk_b90 e N (fX1_searchByWalk_b42 e N F) m3 v3 v4 v5 v6 v7 v8 x3 0))))))))) else (rt_ (.inl v7) m1)))
def fX1_searchByWalk (e : Nat → Nat) (N : Nat) (m : Mm) (v0 : Option Nat) (v1 : Int32) (v2 : Int32) (v3 : Int32) : Rs (Int32 ⊕ Nat) := ck_ m v0 1 (bd_ (fX1_searched e N m v0 v1 v2 v3) (xf_ (fun x1 m1 => ck_ m1 v0 1 (bd_ (fX1_filter e N m1 v0) (xf_ (fun x2 m2 => nw_ m2 13 3 (fun x3 m3 => bd_ (fJ2_init e N m3 (some x3)) (fun _ m4 => bd_ (fJ21_valueOf e N m4 v2) (fun x4 m5 => ck_ m5 (some x3) 13 (bd_ (fJ2_add e N m5 (some x3) x4) (fun x5 m6 => fX1_searchByWalk_b42 e N N m6 v3 x1 x2 (some x3) 0 0)))))))))))
abbrev cX0_searchByWalk : ByteArray := method_25_code
def yX0_searchByWalk : MethodName := ⟨RX0, "searchByWalk", "(LMasterTree;III[J)I"⟩
def dkwX0_searchByWalk_1 : List UInt8 := [172]
abbrev dktX0_searchByWalk_1 : List UInt8 := dkwX0_searchByWalk_1 ++ []
def dkwX0_searchByWalk_0 : List UInt8 := [25, 4, 3, 42, 27, 28, 29, 182, 0, 89, 133, 80, 167, 0, 11, 58, 5, 4, 172, 58, 5, 5, 172, 3]
abbrev dktX0_searchByWalk_0 : List UInt8 := dkwX0_searchByWalk_0 ++ dktX0_searchByWalk_1
theorem dksX0_searchByWalk_0 : cX0_searchByWalk.data.toList.drop 0 = dktX0_searchByWalk_0 := by decide +kernel
theorem dksX0_searchByWalk_1 : cX0_searchByWalk.data.toList.drop 24 = dktX0_searchByWalk_1 := dk_seg dksX0_searchByWalk_0 24 rfl rfl
theorem dX0_searchByWalk_0 : decode cX0_searchByWalk 0 = .ok (.aload 4, 2) := dk_25 4 (dk_at dksX0_searchByWalk_0 0 rfl rfl)
theorem dX0_searchByWalk_2 : decode cX0_searchByWalk 2 = .ok (.iconst 0, 1) := dk_3 (dk_at dksX0_searchByWalk_0 2 rfl rfl)
theorem dX0_searchByWalk_3 : decode cX0_searchByWalk 3 = .ok (.aload_n 0, 1) := dk_42 (dk_at dksX0_searchByWalk_0 3 rfl rfl)
theorem dX0_searchByWalk_4 : decode cX0_searchByWalk 4 = .ok (.iload_n 1, 1) := dk_27 (dk_at dksX0_searchByWalk_0 4 rfl rfl)
theorem dX0_searchByWalk_5 : decode cX0_searchByWalk 5 = .ok (.iload_n 2, 1) := dk_28 (dk_at dksX0_searchByWalk_0 5 rfl rfl)
theorem dX0_searchByWalk_6 : decode cX0_searchByWalk 6 = .ok (.iload_n 3, 1) := dk_29 (dk_at dksX0_searchByWalk_0 6 rfl rfl)
theorem dX0_searchByWalk_7 : decode cX0_searchByWalk 7 = .ok (.invokevirtual 89, 3) := dk_182 0 89 (dk_at dksX0_searchByWalk_0 7 rfl rfl)
theorem dX0_searchByWalk_10 : decode cX0_searchByWalk 10 = .ok (.i2l, 1) := dk_133 (dk_at dksX0_searchByWalk_0 10 rfl rfl)
theorem dX0_searchByWalk_11 : decode cX0_searchByWalk 11 = .ok (.lastore, 1) := dk_80 (dk_at dksX0_searchByWalk_0 11 rfl rfl)
theorem dX0_searchByWalk_12 : decode cX0_searchByWalk 12 = .ok (.goto 11, 3) := dk_167 0 11 (dk_at dksX0_searchByWalk_0 12 rfl rfl)
theorem dX0_searchByWalk_15 : decode cX0_searchByWalk 15 = .ok (.astore 5, 2) := dk_58 5 (dk_at dksX0_searchByWalk_0 15 rfl rfl)
theorem dX0_searchByWalk_17 : decode cX0_searchByWalk 17 = .ok (.iconst 1, 1) := dk_4 (dk_at dksX0_searchByWalk_0 17 rfl rfl)
theorem dX0_searchByWalk_18 : decode cX0_searchByWalk 18 = .ok (.ireturn, 1) := dk_172 (dk_at dksX0_searchByWalk_0 18 rfl rfl)
theorem dX0_searchByWalk_19 : decode cX0_searchByWalk 19 = .ok (.astore 5, 2) := dk_58 5 (dk_at dksX0_searchByWalk_0 19 rfl rfl)
theorem dX0_searchByWalk_21 : decode cX0_searchByWalk 21 = .ok (.iconst 2, 1) := dk_5 (dk_at dksX0_searchByWalk_0 21 rfl rfl)
theorem dX0_searchByWalk_22 : decode cX0_searchByWalk 22 = .ok (.ireturn, 1) := dk_172 (dk_at dksX0_searchByWalk_0 22 rfl rfl)
theorem dX0_searchByWalk_23 : decode cX0_searchByWalk 23 = .ok (.iconst 0, 1) := dk_3 (dk_at dksX0_searchByWalk_0 23 rfl rfl)
theorem dX0_searchByWalk_24 : decode cX0_searchByWalk 24 = .ok (.ireturn, 1) := dk_172 (dk_at dksX0_searchByWalk_1 0 rfl rfl)
def fX0_searchByWalk (e : Nat → Nat) (N : Nat) (m : Mm) (v0 : Option Nat) (v1 : Int32) (v2 : Int32) (v3 : Int32) (v4 : Option Nat) : Rs (Int32) := ck_ m v0 1 (bd_ (fX1_searchByWalk e N m v0 v1 v2 v3) (ch_ (fun x1 m1 => bj_ m1 v4 203 0 ((x1 : Int32).toInt64) (fun m2 => rt_ 0 m2)) (fun i_ m0 => if i_ = 0 then rt_ 1 m0 else if i_ = 2 then rt_ 2 m0 else none)))
abbrev cX13_arrives : ByteArray := prog_9_method_3_code
def yX13_arrives : MethodName := ⟨RX13, "arrives", "(LMasterTree$Master;II)V"⟩
def dkwX13_arrives_7 : List UInt8 := [185, 0, 118, 3, 0, 43, 28, 43, 21, 7, 182, 0, 121, 182, 0, 114, 54, 7, 167, 255, 211, 177]
abbrev dktX13_arrives_7 : List UInt8 := dkwX13_arrives_7 ++ []
def dkwX13_arrives_6 : List UInt8 := [180, 0, 29, 21, 5, 5, 188, 10, 89, 3, 43, 180, 0, 79, 79, 89, 4, 21, 7, 79]
abbrev dktX13_arrives_6 : List UInt8 := dkwX13_arrives_6 ++ dktX13_arrives_7
def dkwX13_arrives_5 : List UInt8 := [21, 6, 153, 0, 12, 43, 28, 2, 182, 0, 114, 167, 0, 4, 2, 54, 7, 21, 7, 2, 159, 0, 45, 42]
abbrev dktX13_arrives_5 : List UInt8 := dkwX13_arrives_5 ++ dktX13_arrives_6
def dkwX13_arrives_4 : List UInt8 := [5, 159, 0, 15, 42, 180, 0, 40, 4, 160, 0, 11, 29, 154, 0, 7, 4, 167, 0, 4, 3, 54, 6]
abbrev dktX13_arrives_4 : List UInt8 := dkwX13_arrives_4 ++ dktX13_arrives_5
def dkwX13_arrives_3 : List UInt8 := [184, 0, 104, 185, 0, 110, 2, 0, 87, 42, 180, 0, 29, 185, 0, 59, 1, 0, 54, 5, 42, 180, 0, 40]
abbrev dktX13_arrives_3 : List UInt8 := dkwX13_arrives_3 ++ dktX13_arrives_4
def dkwX13_arrives_2 : List UInt8 := [182, 0, 100, 153, 0, 28, 42, 180, 0, 3, 180, 0, 43, 16, 100, 43, 180, 0, 79, 104, 28, 96]
abbrev dktX13_arrives_2 : List UInt8 := dkwX13_arrives_2 ++ dktX13_arrives_3
def dkwX13_arrives_1 : List UInt8 := [42, 180, 0, 19, 43, 43, 180, 0, 82, 28, 50, 182, 0, 94, 153, 0, 41, 43, 42, 180, 0, 39, 28, 3]
abbrev dktX13_arrives_1 : List UInt8 := dkwX13_arrives_1 ++ dktX13_arrives_2
def dkwX13_arrives_0 : List UInt8 := [42, 180, 0, 40, 4, 160, 0, 7, 29, 158, 0, 7, 4, 167, 0, 4, 3, 54, 4, 21, 4, 153, 0, 58]
abbrev dktX13_arrives_0 : List UInt8 := dkwX13_arrives_0 ++ dktX13_arrives_1
theorem dksX13_arrives_0 : cX13_arrives.data.toList.drop 0 = dktX13_arrives_0 := by decide +kernel
theorem dksX13_arrives_1 : cX13_arrives.data.toList.drop 24 = dktX13_arrives_1 := dk_seg dksX13_arrives_0 24 rfl rfl
theorem dksX13_arrives_2 : cX13_arrives.data.toList.drop 48 = dktX13_arrives_2 := dk_seg dksX13_arrives_1 24 rfl rfl
theorem dksX13_arrives_3 : cX13_arrives.data.toList.drop 70 = dktX13_arrives_3 := dk_seg dksX13_arrives_2 22 rfl rfl
theorem dksX13_arrives_4 : cX13_arrives.data.toList.drop 94 = dktX13_arrives_4 := dk_seg dksX13_arrives_3 24 rfl rfl
theorem dksX13_arrives_5 : cX13_arrives.data.toList.drop 117 = dktX13_arrives_5 := dk_seg dksX13_arrives_4 23 rfl rfl
theorem dksX13_arrives_6 : cX13_arrives.data.toList.drop 141 = dktX13_arrives_6 := dk_seg dksX13_arrives_5 24 rfl rfl
theorem dksX13_arrives_7 : cX13_arrives.data.toList.drop 161 = dktX13_arrives_7 := dk_seg dksX13_arrives_6 20 rfl rfl
theorem dX13_arrives_0 : decode cX13_arrives 0 = .ok (.aload_n 0, 1) := dk_42 (dk_at dksX13_arrives_0 0 rfl rfl)
theorem dX13_arrives_1 : decode cX13_arrives 1 = .ok (.getfield 40, 3) := dk_180 0 40 (dk_at dksX13_arrives_0 1 rfl rfl)
theorem dX13_arrives_4 : decode cX13_arrives 4 = .ok (.iconst 1, 1) := dk_4 (dk_at dksX13_arrives_0 4 rfl rfl)
theorem dX13_arrives_5 : decode cX13_arrives 5 = .ok (.if_icmp .ne 7, 3) := dk_160 0 7 (dk_at dksX13_arrives_0 5 rfl rfl)
theorem dX13_arrives_8 : decode cX13_arrives 8 = .ok (.iload_n 3, 1) := dk_29 (dk_at dksX13_arrives_0 8 rfl rfl)
theorem dX13_arrives_9 : decode cX13_arrives 9 = .ok (.ifCond .le 7, 3) := dk_158 0 7 (dk_at dksX13_arrives_0 9 rfl rfl)
theorem dX13_arrives_12 : decode cX13_arrives 12 = .ok (.iconst 1, 1) := dk_4 (dk_at dksX13_arrives_0 12 rfl rfl)
theorem dX13_arrives_13 : decode cX13_arrives 13 = .ok (.goto 4, 3) := dk_167 0 4 (dk_at dksX13_arrives_0 13 rfl rfl)
theorem dX13_arrives_16 : decode cX13_arrives 16 = .ok (.iconst 0, 1) := dk_3 (dk_at dksX13_arrives_0 16 rfl rfl)
theorem dX13_arrives_17 : decode cX13_arrives 17 = .ok (.istore 4, 2) := dk_54 4 (dk_at dksX13_arrives_0 17 rfl rfl)
theorem dX13_arrives_19 : decode cX13_arrives 19 = .ok (.iload 4, 2) := dk_21 4 (dk_at dksX13_arrives_0 19 rfl rfl)
theorem dX13_arrives_21 : decode cX13_arrives 21 = .ok (.ifCond .eq 58, 3) := dk_153 0 58 (dk_at dksX13_arrives_0 21 rfl rfl)
theorem dX13_arrives_24 : decode cX13_arrives 24 = .ok (.aload_n 0, 1) := dk_42 (dk_at dksX13_arrives_1 0 rfl rfl)
theorem dX13_arrives_25 : decode cX13_arrives 25 = .ok (.getfield 19, 3) := dk_180 0 19 (dk_at dksX13_arrives_1 1 rfl rfl)
theorem dX13_arrives_28 : decode cX13_arrives 28 = .ok (.aload_n 1, 1) := dk_43 (dk_at dksX13_arrives_1 4 rfl rfl)
theorem dX13_arrives_29 : decode cX13_arrives 29 = .ok (.aload_n 1, 1) := dk_43 (dk_at dksX13_arrives_1 5 rfl rfl)
theorem dX13_arrives_30 : decode cX13_arrives 30 = .ok (.getfield 82, 3) := dk_180 0 82 (dk_at dksX13_arrives_1 6 rfl rfl)
theorem dX13_arrives_33 : decode cX13_arrives 33 = .ok (.iload_n 2, 1) := dk_28 (dk_at dksX13_arrives_1 9 rfl rfl)
theorem dX13_arrives_34 : decode cX13_arrives 34 = .ok (.aaload, 1) := dk_50 (dk_at dksX13_arrives_1 10 rfl rfl)
theorem dX13_arrives_35 : decode cX13_arrives 35 = .ok (.invokevirtual 94, 3) := dk_182 0 94 (dk_at dksX13_arrives_1 11 rfl rfl)
theorem dX13_arrives_38 : decode cX13_arrives 38 = .ok (.ifCond .eq 41, 3) := dk_153 0 41 (dk_at dksX13_arrives_1 14 rfl rfl)
theorem dX13_arrives_41 : decode cX13_arrives 41 = .ok (.aload_n 1, 1) := dk_43 (dk_at dksX13_arrives_1 17 rfl rfl)
theorem dX13_arrives_42 : decode cX13_arrives 42 = .ok (.aload_n 0, 1) := dk_42 (dk_at dksX13_arrives_1 18 rfl rfl)
theorem dX13_arrives_43 : decode cX13_arrives 43 = .ok (.getfield 39, 3) := dk_180 0 39 (dk_at dksX13_arrives_1 19 rfl rfl)
theorem dX13_arrives_46 : decode cX13_arrives 46 = .ok (.iload_n 2, 1) := dk_28 (dk_at dksX13_arrives_1 22 rfl rfl)
theorem dX13_arrives_47 : decode cX13_arrives 47 = .ok (.iconst 0, 1) := dk_3 (dk_at dksX13_arrives_1 23 rfl rfl)
theorem dX13_arrives_48 : decode cX13_arrives 48 = .ok (.invokevirtual 100, 3) := dk_182 0 100 (dk_at dksX13_arrives_2 0 rfl rfl)
theorem dX13_arrives_51 : decode cX13_arrives 51 = .ok (.ifCond .eq 28, 3) := dk_153 0 28 (dk_at dksX13_arrives_2 3 rfl rfl)
theorem dX13_arrives_54 : decode cX13_arrives 54 = .ok (.aload_n 0, 1) := dk_42 (dk_at dksX13_arrives_2 6 rfl rfl)
theorem dX13_arrives_55 : decode cX13_arrives 55 = .ok (.getfield 3, 3) := dk_180 0 3 (dk_at dksX13_arrives_2 7 rfl rfl)
theorem dX13_arrives_58 : decode cX13_arrives 58 = .ok (.getfield 43, 3) := dk_180 0 43 (dk_at dksX13_arrives_2 10 rfl rfl)
theorem dX13_arrives_61 : decode cX13_arrives 61 = .ok (.bipush 100, 2) := dk_16 100 (dk_at dksX13_arrives_2 13 rfl rfl)
theorem dX13_arrives_63 : decode cX13_arrives 63 = .ok (.aload_n 1, 1) := dk_43 (dk_at dksX13_arrives_2 15 rfl rfl)
theorem dX13_arrives_64 : decode cX13_arrives 64 = .ok (.getfield 79, 3) := dk_180 0 79 (dk_at dksX13_arrives_2 16 rfl rfl)
theorem dX13_arrives_67 : decode cX13_arrives 67 = .ok (.imul, 1) := dk_104 (dk_at dksX13_arrives_2 19 rfl rfl)
theorem dX13_arrives_68 : decode cX13_arrives 68 = .ok (.iload_n 2, 1) := dk_28 (dk_at dksX13_arrives_2 20 rfl rfl)
theorem dX13_arrives_69 : decode cX13_arrives 69 = .ok (.iadd, 1) := dk_96 (dk_at dksX13_arrives_2 21 rfl rfl)
theorem dX13_arrives_70 : decode cX13_arrives 70 = .ok (.invokestatic 104, 3) := dk_184 0 104 (dk_at dksX13_arrives_3 0 rfl rfl)
theorem dX13_arrives_73 : decode cX13_arrives 73 = .ok (.invokeinterface 110 2, 5) := by decide +kernel
theorem dX13_arrives_78 : decode cX13_arrives 78 = .ok (.pop, 1) := dk_87 (dk_at dksX13_arrives_3 8 rfl rfl)
theorem dX13_arrives_79 : decode cX13_arrives 79 = .ok (.aload_n 0, 1) := dk_42 (dk_at dksX13_arrives_3 9 rfl rfl)
theorem dX13_arrives_80 : decode cX13_arrives 80 = .ok (.getfield 29, 3) := dk_180 0 29 (dk_at dksX13_arrives_3 10 rfl rfl)
theorem dX13_arrives_83 : decode cX13_arrives 83 = .ok (.invokeinterface 59 1, 5) := by decide +kernel
theorem dX13_arrives_88 : decode cX13_arrives 88 = .ok (.istore 5, 2) := dk_54 5 (dk_at dksX13_arrives_3 18 rfl rfl)
theorem dX13_arrives_90 : decode cX13_arrives 90 = .ok (.aload_n 0, 1) := dk_42 (dk_at dksX13_arrives_3 20 rfl rfl)
theorem dX13_arrives_91 : decode cX13_arrives 91 = .ok (.getfield 40, 3) := dk_180 0 40 (dk_at dksX13_arrives_3 21 rfl rfl)
theorem dX13_arrives_94 : decode cX13_arrives 94 = .ok (.iconst 2, 1) := dk_5 (dk_at dksX13_arrives_4 0 rfl rfl)
theorem dX13_arrives_95 : decode cX13_arrives 95 = .ok (.if_icmp .eq 15, 3) := dk_159 0 15 (dk_at dksX13_arrives_4 1 rfl rfl)
theorem dX13_arrives_98 : decode cX13_arrives 98 = .ok (.aload_n 0, 1) := dk_42 (dk_at dksX13_arrives_4 4 rfl rfl)
theorem dX13_arrives_99 : decode cX13_arrives 99 = .ok (.getfield 40, 3) := dk_180 0 40 (dk_at dksX13_arrives_4 5 rfl rfl)
theorem dX13_arrives_102 : decode cX13_arrives 102 = .ok (.iconst 1, 1) := dk_4 (dk_at dksX13_arrives_4 8 rfl rfl)
theorem dX13_arrives_103 : decode cX13_arrives 103 = .ok (.if_icmp .ne 11, 3) := dk_160 0 11 (dk_at dksX13_arrives_4 9 rfl rfl)
theorem dX13_arrives_106 : decode cX13_arrives 106 = .ok (.iload_n 3, 1) := dk_29 (dk_at dksX13_arrives_4 12 rfl rfl)
theorem dX13_arrives_107 : decode cX13_arrives 107 = .ok (.ifCond .ne 7, 3) := dk_154 0 7 (dk_at dksX13_arrives_4 13 rfl rfl)
theorem dX13_arrives_110 : decode cX13_arrives 110 = .ok (.iconst 1, 1) := dk_4 (dk_at dksX13_arrives_4 16 rfl rfl)
theorem dX13_arrives_111 : decode cX13_arrives 111 = .ok (.goto 4, 3) := dk_167 0 4 (dk_at dksX13_arrives_4 17 rfl rfl)
theorem dX13_arrives_114 : decode cX13_arrives 114 = .ok (.iconst 0, 1) := dk_3 (dk_at dksX13_arrives_4 20 rfl rfl)
theorem dX13_arrives_115 : decode cX13_arrives 115 = .ok (.istore 6, 2) := dk_54 6 (dk_at dksX13_arrives_4 21 rfl rfl)
theorem dX13_arrives_117 : decode cX13_arrives 117 = .ok (.iload 6, 2) := dk_21 6 (dk_at dksX13_arrives_5 0 rfl rfl)
theorem dX13_arrives_119 : decode cX13_arrives 119 = .ok (.ifCond .eq 12, 3) := dk_153 0 12 (dk_at dksX13_arrives_5 2 rfl rfl)
theorem dX13_arrives_122 : decode cX13_arrives 122 = .ok (.aload_n 1, 1) := dk_43 (dk_at dksX13_arrives_5 5 rfl rfl)
theorem dX13_arrives_123 : decode cX13_arrives 123 = .ok (.iload_n 2, 1) := dk_28 (dk_at dksX13_arrives_5 6 rfl rfl)
theorem dX13_arrives_124 : decode cX13_arrives 124 = .ok (.iconst (-1), 1) := dk_2 (dk_at dksX13_arrives_5 7 rfl rfl)
theorem dX13_arrives_125 : decode cX13_arrives 125 = .ok (.invokevirtual 114, 3) := dk_182 0 114 (dk_at dksX13_arrives_5 8 rfl rfl)
theorem dX13_arrives_128 : decode cX13_arrives 128 = .ok (.goto 4, 3) := dk_167 0 4 (dk_at dksX13_arrives_5 11 rfl rfl)
theorem dX13_arrives_131 : decode cX13_arrives 131 = .ok (.iconst (-1), 1) := dk_2 (dk_at dksX13_arrives_5 14 rfl rfl)
theorem dX13_arrives_132 : decode cX13_arrives 132 = .ok (.istore 7, 2) := dk_54 7 (dk_at dksX13_arrives_5 15 rfl rfl)
theorem dX13_arrives_134 : decode cX13_arrives 134 = .ok (.iload 7, 2) := dk_21 7 (dk_at dksX13_arrives_5 17 rfl rfl)
theorem dX13_arrives_136 : decode cX13_arrives 136 = .ok (.iconst (-1), 1) := dk_2 (dk_at dksX13_arrives_5 19 rfl rfl)
theorem dX13_arrives_137 : decode cX13_arrives 137 = .ok (.if_icmp .eq 45, 3) := dk_159 0 45 (dk_at dksX13_arrives_5 20 rfl rfl)
theorem dX13_arrives_140 : decode cX13_arrives 140 = .ok (.aload_n 0, 1) := dk_42 (dk_at dksX13_arrives_5 23 rfl rfl)
theorem dX13_arrives_141 : decode cX13_arrives 141 = .ok (.getfield 29, 3) := dk_180 0 29 (dk_at dksX13_arrives_6 0 rfl rfl)
theorem dX13_arrives_144 : decode cX13_arrives 144 = .ok (.iload 5, 2) := dk_21 5 (dk_at dksX13_arrives_6 3 rfl rfl)
theorem dX13_arrives_146 : decode cX13_arrives 146 = .ok (.iconst 2, 1) := dk_5 (dk_at dksX13_arrives_6 5 rfl rfl)
theorem dX13_arrives_147 : decode cX13_arrives 147 = .ok (.newarray .int, 2) := dk_188_10 (dk_at dksX13_arrives_6 6 rfl rfl)
theorem dX13_arrives_149 : decode cX13_arrives 149 = .ok (.dup, 1) := dk_89 (dk_at dksX13_arrives_6 8 rfl rfl)
theorem dX13_arrives_150 : decode cX13_arrives 150 = .ok (.iconst 0, 1) := dk_3 (dk_at dksX13_arrives_6 9 rfl rfl)
theorem dX13_arrives_151 : decode cX13_arrives 151 = .ok (.aload_n 1, 1) := dk_43 (dk_at dksX13_arrives_6 10 rfl rfl)
theorem dX13_arrives_152 : decode cX13_arrives 152 = .ok (.getfield 79, 3) := dk_180 0 79 (dk_at dksX13_arrives_6 11 rfl rfl)
theorem dX13_arrives_155 : decode cX13_arrives 155 = .ok (.iastore, 1) := dk_79 (dk_at dksX13_arrives_6 14 rfl rfl)
theorem dX13_arrives_156 : decode cX13_arrives 156 = .ok (.dup, 1) := dk_89 (dk_at dksX13_arrives_6 15 rfl rfl)
theorem dX13_arrives_157 : decode cX13_arrives 157 = .ok (.iconst 1, 1) := dk_4 (dk_at dksX13_arrives_6 16 rfl rfl)
theorem dX13_arrives_158 : decode cX13_arrives 158 = .ok (.iload 7, 2) := dk_21 7 (dk_at dksX13_arrives_6 17 rfl rfl)
theorem dX13_arrives_160 : decode cX13_arrives 160 = .ok (.iastore, 1) := dk_79 (dk_at dksX13_arrives_6 19 rfl rfl)
theorem dX13_arrives_161 : decode cX13_arrives 161 = .ok (.invokeinterface 118 3, 5) := by decide +kernel
theorem dX13_arrives_166 : decode cX13_arrives 166 = .ok (.aload_n 1, 1) := dk_43 (dk_at dksX13_arrives_7 5 rfl rfl)
theorem dX13_arrives_167 : decode cX13_arrives 167 = .ok (.iload_n 2, 1) := dk_28 (dk_at dksX13_arrives_7 6 rfl rfl)
theorem dX13_arrives_168 : decode cX13_arrives 168 = .ok (.aload_n 1, 1) := dk_43 (dk_at dksX13_arrives_7 7 rfl rfl)
theorem dX13_arrives_169 : decode cX13_arrives 169 = .ok (.iload 7, 2) := dk_21 7 (dk_at dksX13_arrives_7 8 rfl rfl)
theorem dX13_arrives_171 : decode cX13_arrives 171 = .ok (.invokevirtual 121, 3) := dk_182 0 121 (dk_at dksX13_arrives_7 10 rfl rfl)
theorem dX13_arrives_174 : decode cX13_arrives 174 = .ok (.invokevirtual 114, 3) := dk_182 0 114 (dk_at dksX13_arrives_7 13 rfl rfl)
theorem dX13_arrives_177 : decode cX13_arrives 177 = .ok (.istore 7, 2) := dk_54 7 (dk_at dksX13_arrives_7 16 rfl rfl)
theorem dX13_arrives_179 : decode cX13_arrives 179 = .ok (.goto (-45), 3) := dk_167 255 211 (dk_at dksX13_arrives_7 18 rfl rfl)
theorem dX13_arrives_182 : decode cX13_arrives 182 = .ok (.return_, 1) := dk_177 (dk_at dksX13_arrives_7 21 rfl rfl)
def fX13_arrives_b134 (e : Nat → Nat) (N : Nat) : Nat → Mm → Option Nat → Option Nat → Int32 → Int32 → Int32 → Rs (Unit)
  | 0, _, _, _, _, _, _ => none
  | F + 1, m, v0, v1, v2, v5, v7 => if v7 = (-1) then (rt_ () m) else (gr_ m v0 12 4 (fun x1 => na_ m 200 2 (fun x2 m1 => gi_ m1 v1 2 0 (fun x3 => bi_ m1 (some x2) 200 0 x3 (fun m2 => bi_ m2 (some x2) 200 1 v7 (fun m3 => ck_ m3 x1 13 (bd_ (fJ2_add_3 e N m3 x1 v5 (some x2)) (fun _ m4 => ck_ m4 v1 2 (bd_ (fX2_shownName e N m4 v1 v7) (fun x4 m5 => ck_ m5 v1 2 (bd_ (fX2_next e N m5 v1 v2 x4) (fun x5 m6 => fX13_arrives_b134 e N F m6 v0 v1 v2 v5 x5))))))))))))
def fX13_arrives_b132 (e : Nat → Nat) (N : Nat) (m : Mm) (v0 : Option Nat) (v1 : Option Nat) (v2 : Int32) (v5 : Int32) (s0 : Int32) : Rs (Unit) := fX13_arrives_b134 e N N m v0 v1 v2 v5 s0
def fX13_arrives_b115 (e : Nat → Nat) (N : Nat) (m : Mm) (v0 : Option Nat) (v1 : Option Nat) (v2 : Int32) (v5 : Int32) (s0 : Int32) : Rs (Unit) := if s0 = 0 then (fX13_arrives_b132 e N m v0 v1 v2 v5 (-1)) else (ck_ m v1 2 (bd_ (fX2_next e N m v1 v2 (-1)) (fun x1 m1 => fX13_arrives_b132 e N m1 v0 v1 v2 v5 x1)))
def fX13_arrives_b110 (e : Nat → Nat) (N : Nat) (m : Mm) (v0 : Option Nat) (v1 : Option Nat) (v2 : Int32) (v5 : Int32) : Rs (Unit) := fX13_arrives_b115 e N m v0 v1 v2 v5 1
def fX13_arrives_b114 (e : Nat → Nat) (N : Nat) (m : Mm) (v0 : Option Nat) (v1 : Option Nat) (v2 : Int32) (v5 : Int32) : Rs (Unit) := fX13_arrives_b115 e N m v0 v1 v2 v5 0
def fX13_arrives_b79 (e : Nat → Nat) (N : Nat) (m : Mm) (v0 : Option Nat) (v1 : Option Nat) (v2 : Int32) (v3 : Int32) : Rs (Unit) := gr_ m v0 12 4 (fun x1 => ck_ m x1 13 (bd_ (fJ2_size e N m x1) (fun x2 m1 => gi_ m1 v0 12 2 (fun x3 => if x3 = 2 then (fX13_arrives_b110 e N m1 v0 v1 v2 x2) else (gi_ m1 v0 12 2 (fun x4 => if x4 = 1 then (if v3 = 0 then (fX13_arrives_b110 e N m1 v0 v1 v2 x2) else (fX13_arrives_b114 e N m1 v0 v1 v2 x2)) else (fX13_arrives_b114 e N m1 v0 v1 v2 x2)))))))
def fX13_arrives_b17 (e : Nat → Nat) (N : Nat) (m : Mm) (v0 : Option Nat) (v1 : Option Nat) (v2 : Int32) (v3 : Int32) (s0 : Int32) : Rs (Unit) := if s0 = 0 then (fX13_arrives_b79 e N m v0 v1 v2 v3) else (gr_ m v0 12 0 (fun x1 => gr_ m v1 2 6 (fun x2 => ar_ m x2 205 v2 (fun x3 => bd_ (cs_ m x1 8 (fX9_applies e N m x1 v1 x3) (cs_ m x1 9 (fX10_applies e N m x1 v1 x3) (cs_ m x1 10 (fX11_applies_d14 e N m x1 v1 x3) (cs_ m x1 11 (fX12_applies_d14 e N m x1 v1 x3) none)))) (fun x4 m1 => if x4 = 0 then (fX13_arrives_b79 e N m1 v0 v1 v2 v3) else (gi_ m1 v0 12 1 (fun x9 => ck_ m1 v1 2 (bd_ (fX2_may e N m1 v1 x9 v2 0) (fun x10 m6 => if x10 = 0 then (fX13_arrives_b79 e N m6 v0 v1 v2 v3) else (gr_ m6 v0 12 5 (fun x11 => gr_ m6 x11 1 8 (fun x12 => gi_ m6 v1 2 0 (fun x13 => bd_ (fJ21_valueOf e N m6 ((100 * x13) + v2)) (fun x14 m7 => ck_ m7 x12 13 (bd_ (fJ2_add e N m7 x12 x14) (fun x15 m8 => fX13_arrives_b79 e N m8 v0 v1 v2 v3))))))))))))))))
def fX13_arrives_b12 (e : Nat → Nat) (N : Nat) (m : Mm) (v0 : Option Nat) (v1 : Option Nat) (v2 : Int32) (v3 : Int32) : Rs (Unit) := fX13_arrives_b17 e N m v0 v1 v2 v3 1
def fX13_arrives (e : Nat → Nat) (N : Nat) (m : Mm) (v0 : Option Nat) (v1 : Option Nat) (v2 : Int32) (v3 : Int32) : Rs (Unit) := gi_ m v0 12 2 (fun x1 => if x1 = 1 then (if 0 < v3 then (fX13_arrives_b12 e N m v0 v1 v2 v3) else (fX13_arrives_b17 e N m v0 v1 v2 v3 0)) else (fX13_arrives_b12 e N m v0 v1 v2 v3))
abbrev cX13_comes : ByteArray := prog_9_method_2_code
def yX13_comes : MethodName := ⟨RX13, "comes", "(LMasterTree$Master;II)V"⟩
def dkwX13_comes_7 : List UInt8 := [161, 0, 8, 21, 5, 167, 0, 5, 21, 7, 54, 5, 167, 255, 85, 177]
abbrev dktX13_comes_7 : List UInt8 := dkwX13_comes_7 ++ []
def dkwX13_comes_6 : List UInt8 := [192, 0, 34, 167, 0, 5, 25, 4, 58, 4, 21, 7, 2, 160, 0, 7, 2, 167, 0, 17, 21, 7, 16, 100]
abbrev dktX13_comes_6 : List UInt8 := dkwX13_comes_6 ++ dktX13_comes_7
def dkwX13_comes_5 : List UInt8 := [16, 100, 161, 0, 26, 42, 180, 0, 3, 180, 0, 69, 21, 7, 16, 100, 100, 185, 0, 72, 2, 0]
abbrev dktX13_comes_5 : List UInt8 := dkwX13_comes_5 ++ dktX13_comes_6
def dkwX13_comes_4 : List UInt8 := [129, 80, 21, 6, 153, 0, 18, 21, 7, 2, 160, 0, 12, 42, 25, 4, 21, 5, 29, 182, 0, 91, 21, 7]
abbrev dktX13_comes_4 : List UInt8 := dkwX13_comes_4 ++ dktX13_comes_5
def dkwX13_comes_3 : List UInt8 := [42, 180, 0, 22, 25, 4, 180, 0, 79, 92, 47, 21, 6, 153, 0, 10, 10, 21, 5, 121, 167, 0, 4, 9]
abbrev dktX13_comes_3 : List UInt8 := dkwX13_comes_3 ++ dktX13_comes_4
def dkwX13_comes_2 : List UInt8 := [54, 6, 21, 6, 153, 0, 17, 25, 4, 180, 0, 82, 21, 5, 50, 180, 0, 86, 167, 0, 4, 2, 54, 7]
abbrev dktX13_comes_2 : List UInt8 := dkwX13_comes_2 ++ dktX13_comes_3
def dkwX13_comes_1 : List UInt8 := [180, 0, 22, 25, 4, 180, 0, 79, 47, 21, 5, 123, 10, 127, 9, 148, 154, 0, 7, 4, 167, 0, 4, 3]
abbrev dktX13_comes_1 : List UInt8 := dkwX13_comes_1 ++ dktX13_comes_2
def dkwX13_comes_0 : List UInt8 := [43, 58, 4, 28, 54, 5, 21, 5, 2, 159, 0, 171, 25, 4, 21, 5, 182, 0, 75, 153, 0, 27, 42]
abbrev dktX13_comes_0 : List UInt8 := dkwX13_comes_0 ++ dktX13_comes_1
theorem dksX13_comes_0 : cX13_comes.data.toList.drop 0 = dktX13_comes_0 := by decide +kernel
theorem dksX13_comes_1 : cX13_comes.data.toList.drop 23 = dktX13_comes_1 := dk_seg dksX13_comes_0 23 rfl rfl
theorem dksX13_comes_2 : cX13_comes.data.toList.drop 47 = dktX13_comes_2 := dk_seg dksX13_comes_1 24 rfl rfl
theorem dksX13_comes_3 : cX13_comes.data.toList.drop 71 = dktX13_comes_3 := dk_seg dksX13_comes_2 24 rfl rfl
theorem dksX13_comes_4 : cX13_comes.data.toList.drop 95 = dktX13_comes_4 := dk_seg dksX13_comes_3 24 rfl rfl
theorem dksX13_comes_5 : cX13_comes.data.toList.drop 119 = dktX13_comes_5 := dk_seg dksX13_comes_4 24 rfl rfl
theorem dksX13_comes_6 : cX13_comes.data.toList.drop 141 = dktX13_comes_6 := dk_seg dksX13_comes_5 22 rfl rfl
theorem dksX13_comes_7 : cX13_comes.data.toList.drop 165 = dktX13_comes_7 := dk_seg dksX13_comes_6 24 rfl rfl
theorem dX13_comes_0 : decode cX13_comes 0 = .ok (.aload_n 1, 1) := dk_43 (dk_at dksX13_comes_0 0 rfl rfl)
theorem dX13_comes_1 : decode cX13_comes 1 = .ok (.astore 4, 2) := dk_58 4 (dk_at dksX13_comes_0 1 rfl rfl)
theorem dX13_comes_3 : decode cX13_comes 3 = .ok (.iload_n 2, 1) := dk_28 (dk_at dksX13_comes_0 3 rfl rfl)
theorem dX13_comes_4 : decode cX13_comes 4 = .ok (.istore 5, 2) := dk_54 5 (dk_at dksX13_comes_0 4 rfl rfl)
theorem dX13_comes_6 : decode cX13_comes 6 = .ok (.iload 5, 2) := dk_21 5 (dk_at dksX13_comes_0 6 rfl rfl)
theorem dX13_comes_8 : decode cX13_comes 8 = .ok (.iconst (-1), 1) := dk_2 (dk_at dksX13_comes_0 8 rfl rfl)
theorem dX13_comes_9 : decode cX13_comes 9 = .ok (.if_icmp .eq 171, 3) := dk_159 0 171 (dk_at dksX13_comes_0 9 rfl rfl)
theorem dX13_comes_12 : decode cX13_comes 12 = .ok (.aload 4, 2) := dk_25 4 (dk_at dksX13_comes_0 12 rfl rfl)
theorem dX13_comes_14 : decode cX13_comes 14 = .ok (.iload 5, 2) := dk_21 5 (dk_at dksX13_comes_0 14 rfl rfl)
theorem dX13_comes_16 : decode cX13_comes 16 = .ok (.invokevirtual 75, 3) := dk_182 0 75 (dk_at dksX13_comes_0 16 rfl rfl)
theorem dX13_comes_19 : decode cX13_comes 19 = .ok (.ifCond .eq 27, 3) := dk_153 0 27 (dk_at dksX13_comes_0 19 rfl rfl)
theorem dX13_comes_22 : decode cX13_comes 22 = .ok (.aload_n 0, 1) := dk_42 (dk_at dksX13_comes_0 22 rfl rfl)
theorem dX13_comes_23 : decode cX13_comes 23 = .ok (.getfield 22, 3) := dk_180 0 22 (dk_at dksX13_comes_1 0 rfl rfl)
theorem dX13_comes_26 : decode cX13_comes 26 = .ok (.aload 4, 2) := dk_25 4 (dk_at dksX13_comes_1 3 rfl rfl)
theorem dX13_comes_28 : decode cX13_comes 28 = .ok (.getfield 79, 3) := dk_180 0 79 (dk_at dksX13_comes_1 5 rfl rfl)
theorem dX13_comes_31 : decode cX13_comes 31 = .ok (.laload, 1) := dk_47 (dk_at dksX13_comes_1 8 rfl rfl)
theorem dX13_comes_32 : decode cX13_comes 32 = .ok (.iload 5, 2) := dk_21 5 (dk_at dksX13_comes_1 9 rfl rfl)
theorem dX13_comes_34 : decode cX13_comes 34 = .ok (.lshr, 1) := dk_123 (dk_at dksX13_comes_1 11 rfl rfl)
theorem dX13_comes_35 : decode cX13_comes 35 = .ok (.lconst 1, 1) := dk_10 (dk_at dksX13_comes_1 12 rfl rfl)
theorem dX13_comes_36 : decode cX13_comes 36 = .ok (.land, 1) := dk_127 (dk_at dksX13_comes_1 13 rfl rfl)
theorem dX13_comes_37 : decode cX13_comes 37 = .ok (.lconst 0, 1) := dk_9 (dk_at dksX13_comes_1 14 rfl rfl)
theorem dX13_comes_38 : decode cX13_comes 38 = .ok (.lcmp, 1) := dk_148 (dk_at dksX13_comes_1 15 rfl rfl)
theorem dX13_comes_39 : decode cX13_comes 39 = .ok (.ifCond .ne 7, 3) := dk_154 0 7 (dk_at dksX13_comes_1 16 rfl rfl)
theorem dX13_comes_42 : decode cX13_comes 42 = .ok (.iconst 1, 1) := dk_4 (dk_at dksX13_comes_1 19 rfl rfl)
theorem dX13_comes_43 : decode cX13_comes 43 = .ok (.goto 4, 3) := dk_167 0 4 (dk_at dksX13_comes_1 20 rfl rfl)
theorem dX13_comes_46 : decode cX13_comes 46 = .ok (.iconst 0, 1) := dk_3 (dk_at dksX13_comes_1 23 rfl rfl)
theorem dX13_comes_47 : decode cX13_comes 47 = .ok (.istore 6, 2) := dk_54 6 (dk_at dksX13_comes_2 0 rfl rfl)
theorem dX13_comes_49 : decode cX13_comes 49 = .ok (.iload 6, 2) := dk_21 6 (dk_at dksX13_comes_2 2 rfl rfl)
theorem dX13_comes_51 : decode cX13_comes 51 = .ok (.ifCond .eq 17, 3) := dk_153 0 17 (dk_at dksX13_comes_2 4 rfl rfl)
theorem dX13_comes_54 : decode cX13_comes 54 = .ok (.aload 4, 2) := dk_25 4 (dk_at dksX13_comes_2 7 rfl rfl)
theorem dX13_comes_56 : decode cX13_comes 56 = .ok (.getfield 82, 3) := dk_180 0 82 (dk_at dksX13_comes_2 9 rfl rfl)
theorem dX13_comes_59 : decode cX13_comes 59 = .ok (.iload 5, 2) := dk_21 5 (dk_at dksX13_comes_2 12 rfl rfl)
theorem dX13_comes_61 : decode cX13_comes 61 = .ok (.aaload, 1) := dk_50 (dk_at dksX13_comes_2 14 rfl rfl)
theorem dX13_comes_62 : decode cX13_comes 62 = .ok (.getfield 86, 3) := dk_180 0 86 (dk_at dksX13_comes_2 15 rfl rfl)
theorem dX13_comes_65 : decode cX13_comes 65 = .ok (.goto 4, 3) := dk_167 0 4 (dk_at dksX13_comes_2 18 rfl rfl)
theorem dX13_comes_68 : decode cX13_comes 68 = .ok (.iconst (-1), 1) := dk_2 (dk_at dksX13_comes_2 21 rfl rfl)
theorem dX13_comes_69 : decode cX13_comes 69 = .ok (.istore 7, 2) := dk_54 7 (dk_at dksX13_comes_2 22 rfl rfl)
theorem dX13_comes_71 : decode cX13_comes 71 = .ok (.aload_n 0, 1) := dk_42 (dk_at dksX13_comes_3 0 rfl rfl)
theorem dX13_comes_72 : decode cX13_comes 72 = .ok (.getfield 22, 3) := dk_180 0 22 (dk_at dksX13_comes_3 1 rfl rfl)
theorem dX13_comes_75 : decode cX13_comes 75 = .ok (.aload 4, 2) := dk_25 4 (dk_at dksX13_comes_3 4 rfl rfl)
theorem dX13_comes_77 : decode cX13_comes 77 = .ok (.getfield 79, 3) := dk_180 0 79 (dk_at dksX13_comes_3 6 rfl rfl)
theorem dX13_comes_80 : decode cX13_comes 80 = .ok (.dup2, 1) := dk_92 (dk_at dksX13_comes_3 9 rfl rfl)
theorem dX13_comes_81 : decode cX13_comes 81 = .ok (.laload, 1) := dk_47 (dk_at dksX13_comes_3 10 rfl rfl)
theorem dX13_comes_82 : decode cX13_comes 82 = .ok (.iload 6, 2) := dk_21 6 (dk_at dksX13_comes_3 11 rfl rfl)
theorem dX13_comes_84 : decode cX13_comes 84 = .ok (.ifCond .eq 10, 3) := dk_153 0 10 (dk_at dksX13_comes_3 13 rfl rfl)
theorem dX13_comes_87 : decode cX13_comes 87 = .ok (.lconst 1, 1) := dk_10 (dk_at dksX13_comes_3 16 rfl rfl)
theorem dX13_comes_88 : decode cX13_comes 88 = .ok (.iload 5, 2) := dk_21 5 (dk_at dksX13_comes_3 17 rfl rfl)
theorem dX13_comes_90 : decode cX13_comes 90 = .ok (.lshl, 1) := dk_121 (dk_at dksX13_comes_3 19 rfl rfl)
theorem dX13_comes_91 : decode cX13_comes 91 = .ok (.goto 4, 3) := dk_167 0 4 (dk_at dksX13_comes_3 20 rfl rfl)
theorem dX13_comes_94 : decode cX13_comes 94 = .ok (.lconst 0, 1) := dk_9 (dk_at dksX13_comes_3 23 rfl rfl)
theorem dX13_comes_95 : decode cX13_comes 95 = .ok (.lor, 1) := dk_129 (dk_at dksX13_comes_4 0 rfl rfl)
theorem dX13_comes_96 : decode cX13_comes 96 = .ok (.lastore, 1) := dk_80 (dk_at dksX13_comes_4 1 rfl rfl)
theorem dX13_comes_97 : decode cX13_comes 97 = .ok (.iload 6, 2) := dk_21 6 (dk_at dksX13_comes_4 2 rfl rfl)
theorem dX13_comes_99 : decode cX13_comes 99 = .ok (.ifCond .eq 18, 3) := dk_153 0 18 (dk_at dksX13_comes_4 4 rfl rfl)
theorem dX13_comes_102 : decode cX13_comes 102 = .ok (.iload 7, 2) := dk_21 7 (dk_at dksX13_comes_4 7 rfl rfl)
theorem dX13_comes_104 : decode cX13_comes 104 = .ok (.iconst (-1), 1) := dk_2 (dk_at dksX13_comes_4 9 rfl rfl)
theorem dX13_comes_105 : decode cX13_comes 105 = .ok (.if_icmp .ne 12, 3) := dk_160 0 12 (dk_at dksX13_comes_4 10 rfl rfl)
theorem dX13_comes_108 : decode cX13_comes 108 = .ok (.aload_n 0, 1) := dk_42 (dk_at dksX13_comes_4 13 rfl rfl)
theorem dX13_comes_109 : decode cX13_comes 109 = .ok (.aload 4, 2) := dk_25 4 (dk_at dksX13_comes_4 14 rfl rfl)
theorem dX13_comes_111 : decode cX13_comes 111 = .ok (.iload 5, 2) := dk_21 5 (dk_at dksX13_comes_4 16 rfl rfl)
theorem dX13_comes_113 : decode cX13_comes 113 = .ok (.iload_n 3, 1) := dk_29 (dk_at dksX13_comes_4 18 rfl rfl)
theorem dX13_comes_114 : decode cX13_comes 114 = .ok (.invokevirtual 91, 3) := dk_182 0 91 (dk_at dksX13_comes_4 19 rfl rfl)
theorem dX13_comes_117 : decode cX13_comes 117 = .ok (.iload 7, 2) := dk_21 7 (dk_at dksX13_comes_4 22 rfl rfl)
theorem dX13_comes_119 : decode cX13_comes 119 = .ok (.bipush 100, 2) := dk_16 100 (dk_at dksX13_comes_5 0 rfl rfl)
theorem dX13_comes_121 : decode cX13_comes 121 = .ok (.if_icmp .lt 26, 3) := dk_161 0 26 (dk_at dksX13_comes_5 2 rfl rfl)
theorem dX13_comes_124 : decode cX13_comes 124 = .ok (.aload_n 0, 1) := dk_42 (dk_at dksX13_comes_5 5 rfl rfl)
theorem dX13_comes_125 : decode cX13_comes 125 = .ok (.getfield 3, 3) := dk_180 0 3 (dk_at dksX13_comes_5 6 rfl rfl)
theorem dX13_comes_128 : decode cX13_comes 128 = .ok (.getfield 69, 3) := dk_180 0 69 (dk_at dksX13_comes_5 9 rfl rfl)
theorem dX13_comes_131 : decode cX13_comes 131 = .ok (.iload 7, 2) := dk_21 7 (dk_at dksX13_comes_5 12 rfl rfl)
theorem dX13_comes_133 : decode cX13_comes 133 = .ok (.bipush 100, 2) := dk_16 100 (dk_at dksX13_comes_5 14 rfl rfl)
theorem dX13_comes_135 : decode cX13_comes 135 = .ok (.isub, 1) := dk_100 (dk_at dksX13_comes_5 16 rfl rfl)
theorem dX13_comes_136 : decode cX13_comes 136 = .ok (.invokeinterface 72 2, 5) := by decide +kernel
theorem dX13_comes_141 : decode cX13_comes 141 = .ok (.checkcast 34, 3) := dk_192 0 34 (dk_at dksX13_comes_6 0 rfl rfl)
theorem dX13_comes_144 : decode cX13_comes 144 = .ok (.goto 5, 3) := dk_167 0 5 (dk_at dksX13_comes_6 3 rfl rfl)
theorem dX13_comes_147 : decode cX13_comes 147 = .ok (.aload 4, 2) := dk_25 4 (dk_at dksX13_comes_6 6 rfl rfl)
theorem dX13_comes_149 : decode cX13_comes 149 = .ok (.astore 4, 2) := dk_58 4 (dk_at dksX13_comes_6 8 rfl rfl)
theorem dX13_comes_151 : decode cX13_comes 151 = .ok (.iload 7, 2) := dk_21 7 (dk_at dksX13_comes_6 10 rfl rfl)
theorem dX13_comes_153 : decode cX13_comes 153 = .ok (.iconst (-1), 1) := dk_2 (dk_at dksX13_comes_6 12 rfl rfl)
theorem dX13_comes_154 : decode cX13_comes 154 = .ok (.if_icmp .ne 7, 3) := dk_160 0 7 (dk_at dksX13_comes_6 13 rfl rfl)
theorem dX13_comes_157 : decode cX13_comes 157 = .ok (.iconst (-1), 1) := dk_2 (dk_at dksX13_comes_6 16 rfl rfl)
theorem dX13_comes_158 : decode cX13_comes 158 = .ok (.goto 17, 3) := dk_167 0 17 (dk_at dksX13_comes_6 17 rfl rfl)
theorem dX13_comes_161 : decode cX13_comes 161 = .ok (.iload 7, 2) := dk_21 7 (dk_at dksX13_comes_6 20 rfl rfl)
theorem dX13_comes_163 : decode cX13_comes 163 = .ok (.bipush 100, 2) := dk_16 100 (dk_at dksX13_comes_6 22 rfl rfl)
theorem dX13_comes_165 : decode cX13_comes 165 = .ok (.if_icmp .lt 8, 3) := dk_161 0 8 (dk_at dksX13_comes_7 0 rfl rfl)
theorem dX13_comes_168 : decode cX13_comes 168 = .ok (.iload 5, 2) := dk_21 5 (dk_at dksX13_comes_7 3 rfl rfl)
theorem dX13_comes_170 : decode cX13_comes 170 = .ok (.goto 5, 3) := dk_167 0 5 (dk_at dksX13_comes_7 5 rfl rfl)
theorem dX13_comes_173 : decode cX13_comes 173 = .ok (.iload 7, 2) := dk_21 7 (dk_at dksX13_comes_7 8 rfl rfl)
theorem dX13_comes_175 : decode cX13_comes 175 = .ok (.istore 5, 2) := dk_54 5 (dk_at dksX13_comes_7 10 rfl rfl)
theorem dX13_comes_177 : decode cX13_comes 177 = .ok (.goto (-171), 3) := dk_167 255 85 (dk_at dksX13_comes_7 12 rfl rfl)
theorem dX13_comes_180 : decode cX13_comes 180 = .ok (.return_, 1) := dk_177 (dk_at dksX13_comes_7 15 rfl rfl)
def fX13_comes_b175 (e : Nat → Nat) (N : Nat) (k6 : Mm → Option Nat → Int32 → Option Nat → Int32 → Rs (Unit)) (m : Mm) (v0 : Option Nat) (v3 : Int32) (v4 : Option Nat) (s0 : Int32) : Rs (Unit) := k6 m v0 v3 v4 s0
def fX13_comes_b149 (e : Nat → Nat) (N : Nat) (k6 : Mm → Option Nat → Int32 → Option Nat → Int32 → Rs (Unit)) (m : Mm) (v0 : Option Nat) (v3 : Int32) (v5 : Int32) (v7 : Int32) (s0 : Option Nat) : Rs (Unit) := if v7 = (-1) then (fX13_comes_b175 e N k6 m v0 v3 s0 (-1)) else (if v7 < 100 then (fX13_comes_b175 e N k6 m v0 v3 s0 v7) else (fX13_comes_b175 e N k6 m v0 v3 s0 v5))
def fX13_comes_b117 (e : Nat → Nat) (N : Nat) (k6 : Mm → Option Nat → Int32 → Option Nat → Int32 → Rs (Unit)) (m : Mm) (v0 : Option Nat) (v3 : Int32) (v4 : Option Nat) (v5 : Int32) (v7 : Int32) : Rs (Unit) := if v7 < 100 then (fX13_comes_b149 e N k6 m v0 v3 v5 v7 v4) else (gr_ m v0 12 5 (fun x1 => gr_ m x1 1 2 (fun x2 => ck_ m x2 13 (bd_ (fJ2_get e N m x2 (v7 - 100)) (fun x3 m1 => cc_ m1 x3 [2] (fX13_comes_b149 e N k6 m1 v0 v3 v5 v7 x3))))))
def fX13_comes_b95 (e : Nat → Nat) (N : Nat) (k6 : Mm → Option Nat → Int32 → Option Nat → Int32 → Rs (Unit)) (m : Mm) (v0 : Option Nat) (v3 : Int32) (v4 : Option Nat) (v5 : Int32) (v6 : Int32) (v7 : Int32) (s0 : Option Nat) (s1 : Int32) (s2 : Int64) (s3 : Int64) : Rs (Unit) := bj_ m s0 203 s1 (s2 ||| s3) (fun m1 => if v6 = 0 then (fX13_comes_b117 e N k6 m1 v0 v3 v4 v5 v7) else (if v7 = (-1) then (ck_ m1 v0 12 (bd_ (fX13_arrives e N m1 v0 v4 v5 v3) (fun _ m2 => fX13_comes_b117 e N k6 m2 v0 v3 v4 v5 v7))) else (fX13_comes_b117 e N k6 m1 v0 v3 v4 v5 v7)))
def fX13_comes_b69 (e : Nat → Nat) (N : Nat) (k6 : Mm → Option Nat → Int32 → Option Nat → Int32 → Rs (Unit)) (m : Mm) (v0 : Option Nat) (v3 : Int32) (v4 : Option Nat) (v5 : Int32) (v6 : Int32) (s0 : Int32) : Rs (Unit) := gr_ m v0 12 3 (fun x1 => gi_ m v4 2 0 (fun x2 => aj_ m x1 203 x2 (fun x3 => if v6 = 0 then (fX13_comes_b95 e N k6 m v0 v3 v4 v5 v6 s0 x1 x2 x3 0) else (fX13_comes_b95 e N k6 m v0 v3 v4 v5 v6 s0 x1 x2 x3 (1 <<< ((v5 : Int32).toInt64 &&& 63))))))
def fX13_comes_b47 (e : Nat → Nat) (N : Nat) (k6 : Mm → Option Nat → Int32 → Option Nat → Int32 → Rs (Unit)) (m : Mm) (v0 : Option Nat) (v3 : Int32) (v4 : Option Nat) (v5 : Int32) (s0 : Int32) : Rs (Unit) := if s0 = 0 then (fX13_comes_b69 e N k6 m v0 v3 v4 v5 s0 (-1)) else (gr_ m v4 2 6 (fun x1 => ar_ m x1 205 v5 (fun x2 => gi_ m x2 3 6 (fun x3 => fX13_comes_b69 e N k6 m v0 v3 v4 v5 s0 x3))))
def fX13_comes_b46 (e : Nat → Nat) (N : Nat) (k6 : Mm → Option Nat → Int32 → Option Nat → Int32 → Rs (Unit)) (m : Mm) (v0 : Option Nat) (v3 : Int32) (v4 : Option Nat) (v5 : Int32) : Rs (Unit) := fX13_comes_b47 e N k6 m v0 v3 v4 v5 0
def fX13_comes_b6 (e : Nat → Nat) (N : Nat) : Nat → Mm → Option Nat → Int32 → Option Nat → Int32 → Rs (Unit)
  | 0, _, _, _, _, _ => none
  | F + 1, m, v0, v3, v4, v5 => if v5 = (-1) then (rt_ () m) else (ck_ m v4 2 (bd_ (fX2_isLive e N m v4 v5) (fun x1 m1 => if x1 = 0 then (fX13_comes_b46 e N (fX13_comes_b6 e N F) m1 v0 v3 v4 v5) else (gr_ m1 v0 12 3 (fun x2 => gi_ m1 v4 2 0 (fun x3 => aj_ m1 x2 203 x3 (fun x4 => if (lg_cmp ((x4 >>> ((v5 : Int32).toInt64 &&& 63)) &&& 1) 0) = 0 then (fX13_comes_b47 e N (fX13_comes_b6 e N F) m1 v0 v3 v4 v5 1) else (fX13_comes_b46 e N (fX13_comes_b6 e N F) m1 v0 v3 v4 v5))))))))
def fX13_comes (e : Nat → Nat) (N : Nat) (m : Mm) (v0 : Option Nat) (v1 : Option Nat) (v2 : Int32) (v3 : Int32) : Rs (Unit) := fX13_comes_b6 e N N m v0 v3 v1 v2
abbrev cX13_init : ByteArray := prog_9_method_1_code
def yX13_init : MethodName := ⟨RX13, "<init>", "(LMasterTree;LMasterTree$Master;II)V"⟩
def dkwX13_init_5 : List UInt8 := [185, 0, 72, 2, 0, 192, 0, 34, 25, 5, 4, 46, 4, 182, 0, 51, 167, 255, 194, 177]
abbrev dktX13_init_5 : List UInt8 := dkwX13_init_5 ++ []
def dkwX13_init_4 : List UInt8 := [4, 100, 185, 0, 63, 2, 0, 192, 0, 67, 58, 5, 42, 43, 180, 0, 69, 25, 5, 3, 46]
abbrev dktX13_init_4 : List UInt8 := dkwX13_init_4 ++ dktX13_init_5
def dkwX13_init_3 : List UInt8 := [180, 0, 29, 185, 0, 55, 1, 0, 154, 0, 56, 42, 180, 0, 29, 42, 180, 0, 29, 185, 0, 59, 1, 0]
abbrev dktX13_init_3 : List UInt8 := dkwX13_init_3 ++ dktX13_init_4
def dkwX13_init_2 : List UInt8 := [21, 4, 181, 0, 40, 43, 180, 0, 43, 185, 0, 46, 1, 0, 42, 44, 29, 3, 182, 0, 51, 42]
abbrev dktX13_init_2 : List UInt8 := dkwX13_init_2 ++ dktX13_init_3
def dkwX13_init_1 : List UInt8 := [181, 0, 22, 42, 187, 0, 26, 89, 183, 0, 28, 181, 0, 29, 42, 44, 180, 0, 33, 181, 0, 39, 42]
abbrev dktX13_init_1 : List UInt8 := dkwX13_init_1 ++ dktX13_init_2
def dkwX13_init_0 : List UInt8 := [42, 43, 181, 0, 3, 42, 183, 0, 9, 42, 42, 180, 0, 3, 182, 0, 15, 181, 0, 19, 42, 7, 188, 11]
abbrev dktX13_init_0 : List UInt8 := dkwX13_init_0 ++ dktX13_init_1
theorem dksX13_init_0 : cX13_init.data.toList.drop 0 = dktX13_init_0 := by decide +kernel
theorem dksX13_init_1 : cX13_init.data.toList.drop 24 = dktX13_init_1 := dk_seg dksX13_init_0 24 rfl rfl
theorem dksX13_init_2 : cX13_init.data.toList.drop 47 = dktX13_init_2 := dk_seg dksX13_init_1 23 rfl rfl
theorem dksX13_init_3 : cX13_init.data.toList.drop 69 = dktX13_init_3 := dk_seg dksX13_init_2 22 rfl rfl
theorem dksX13_init_4 : cX13_init.data.toList.drop 93 = dktX13_init_4 := dk_seg dksX13_init_3 24 rfl rfl
theorem dksX13_init_5 : cX13_init.data.toList.drop 114 = dktX13_init_5 := dk_seg dksX13_init_4 21 rfl rfl
theorem dX13_init_0 : decode cX13_init 0 = .ok (.aload_n 0, 1) := dk_42 (dk_at dksX13_init_0 0 rfl rfl)
theorem dX13_init_1 : decode cX13_init 1 = .ok (.aload_n 1, 1) := dk_43 (dk_at dksX13_init_0 1 rfl rfl)
theorem dX13_init_2 : decode cX13_init 2 = .ok (.putfield 3, 3) := dk_181 0 3 (dk_at dksX13_init_0 2 rfl rfl)
theorem dX13_init_5 : decode cX13_init 5 = .ok (.aload_n 0, 1) := dk_42 (dk_at dksX13_init_0 5 rfl rfl)
theorem dX13_init_6 : decode cX13_init 6 = .ok (.invokespecial 9, 3) := dk_183 0 9 (dk_at dksX13_init_0 6 rfl rfl)
theorem dX13_init_9 : decode cX13_init 9 = .ok (.aload_n 0, 1) := dk_42 (dk_at dksX13_init_0 9 rfl rfl)
theorem dX13_init_10 : decode cX13_init 10 = .ok (.aload_n 0, 1) := dk_42 (dk_at dksX13_init_0 10 rfl rfl)
theorem dX13_init_11 : decode cX13_init 11 = .ok (.getfield 3, 3) := dk_180 0 3 (dk_at dksX13_init_0 11 rfl rfl)
theorem dX13_init_14 : decode cX13_init 14 = .ok (.invokevirtual 15, 3) := dk_182 0 15 (dk_at dksX13_init_0 14 rfl rfl)
theorem dX13_init_17 : decode cX13_init 17 = .ok (.putfield 19, 3) := dk_181 0 19 (dk_at dksX13_init_0 17 rfl rfl)
theorem dX13_init_20 : decode cX13_init 20 = .ok (.aload_n 0, 1) := dk_42 (dk_at dksX13_init_0 20 rfl rfl)
theorem dX13_init_21 : decode cX13_init 21 = .ok (.iconst 4, 1) := dk_7 (dk_at dksX13_init_0 21 rfl rfl)
theorem dX13_init_22 : decode cX13_init 22 = .ok (.newarray .long, 2) := dk_188_11 (dk_at dksX13_init_0 22 rfl rfl)
theorem dX13_init_24 : decode cX13_init 24 = .ok (.putfield 22, 3) := dk_181 0 22 (dk_at dksX13_init_1 0 rfl rfl)
theorem dX13_init_27 : decode cX13_init 27 = .ok (.aload_n 0, 1) := dk_42 (dk_at dksX13_init_1 3 rfl rfl)
theorem dX13_init_28 : decode cX13_init 28 = .ok (.new 26, 3) := dk_187 0 26 (dk_at dksX13_init_1 4 rfl rfl)
theorem dX13_init_31 : decode cX13_init 31 = .ok (.dup, 1) := dk_89 (dk_at dksX13_init_1 7 rfl rfl)
theorem dX13_init_32 : decode cX13_init 32 = .ok (.invokespecial 28, 3) := dk_183 0 28 (dk_at dksX13_init_1 8 rfl rfl)
theorem dX13_init_35 : decode cX13_init 35 = .ok (.putfield 29, 3) := dk_181 0 29 (dk_at dksX13_init_1 11 rfl rfl)
theorem dX13_init_38 : decode cX13_init 38 = .ok (.aload_n 0, 1) := dk_42 (dk_at dksX13_init_1 14 rfl rfl)
theorem dX13_init_39 : decode cX13_init 39 = .ok (.aload_n 2, 1) := dk_44 (dk_at dksX13_init_1 15 rfl rfl)
theorem dX13_init_40 : decode cX13_init 40 = .ok (.getfield 33, 3) := dk_180 0 33 (dk_at dksX13_init_1 16 rfl rfl)
theorem dX13_init_43 : decode cX13_init 43 = .ok (.putfield 39, 3) := dk_181 0 39 (dk_at dksX13_init_1 19 rfl rfl)
theorem dX13_init_46 : decode cX13_init 46 = .ok (.aload_n 0, 1) := dk_42 (dk_at dksX13_init_1 22 rfl rfl)
theorem dX13_init_47 : decode cX13_init 47 = .ok (.iload 4, 2) := dk_21 4 (dk_at dksX13_init_2 0 rfl rfl)
theorem dX13_init_49 : decode cX13_init 49 = .ok (.putfield 40, 3) := dk_181 0 40 (dk_at dksX13_init_2 2 rfl rfl)
theorem dX13_init_52 : decode cX13_init 52 = .ok (.aload_n 1, 1) := dk_43 (dk_at dksX13_init_2 5 rfl rfl)
theorem dX13_init_53 : decode cX13_init 53 = .ok (.getfield 43, 3) := dk_180 0 43 (dk_at dksX13_init_2 6 rfl rfl)
theorem dX13_init_56 : decode cX13_init 56 = .ok (.invokeinterface 46 1, 5) := by decide +kernel
theorem dX13_init_61 : decode cX13_init 61 = .ok (.aload_n 0, 1) := dk_42 (dk_at dksX13_init_2 14 rfl rfl)
theorem dX13_init_62 : decode cX13_init 62 = .ok (.aload_n 2, 1) := dk_44 (dk_at dksX13_init_2 15 rfl rfl)
theorem dX13_init_63 : decode cX13_init 63 = .ok (.iload_n 3, 1) := dk_29 (dk_at dksX13_init_2 16 rfl rfl)
theorem dX13_init_64 : decode cX13_init 64 = .ok (.iconst 0, 1) := dk_3 (dk_at dksX13_init_2 17 rfl rfl)
theorem dX13_init_65 : decode cX13_init 65 = .ok (.invokevirtual 51, 3) := dk_182 0 51 (dk_at dksX13_init_2 18 rfl rfl)
theorem dX13_init_68 : decode cX13_init 68 = .ok (.aload_n 0, 1) := dk_42 (dk_at dksX13_init_2 21 rfl rfl)
theorem dX13_init_69 : decode cX13_init 69 = .ok (.getfield 29, 3) := dk_180 0 29 (dk_at dksX13_init_3 0 rfl rfl)
theorem dX13_init_72 : decode cX13_init 72 = .ok (.invokeinterface 55 1, 5) := by decide +kernel
theorem dX13_init_77 : decode cX13_init 77 = .ok (.ifCond .ne 56, 3) := dk_154 0 56 (dk_at dksX13_init_3 8 rfl rfl)
theorem dX13_init_80 : decode cX13_init 80 = .ok (.aload_n 0, 1) := dk_42 (dk_at dksX13_init_3 11 rfl rfl)
theorem dX13_init_81 : decode cX13_init 81 = .ok (.getfield 29, 3) := dk_180 0 29 (dk_at dksX13_init_3 12 rfl rfl)
theorem dX13_init_84 : decode cX13_init 84 = .ok (.aload_n 0, 1) := dk_42 (dk_at dksX13_init_3 15 rfl rfl)
theorem dX13_init_85 : decode cX13_init 85 = .ok (.getfield 29, 3) := dk_180 0 29 (dk_at dksX13_init_3 16 rfl rfl)
theorem dX13_init_88 : decode cX13_init 88 = .ok (.invokeinterface 59 1, 5) := by decide +kernel
theorem dX13_init_93 : decode cX13_init 93 = .ok (.iconst 1, 1) := dk_4 (dk_at dksX13_init_4 0 rfl rfl)
theorem dX13_init_94 : decode cX13_init 94 = .ok (.isub, 1) := dk_100 (dk_at dksX13_init_4 1 rfl rfl)
theorem dX13_init_95 : decode cX13_init 95 = .ok (.invokeinterface 63 2, 5) := by decide +kernel
theorem dX13_init_100 : decode cX13_init 100 = .ok (.checkcast 67, 3) := dk_192 0 67 (dk_at dksX13_init_4 7 rfl rfl)
theorem dX13_init_103 : decode cX13_init 103 = .ok (.astore 5, 2) := dk_58 5 (dk_at dksX13_init_4 10 rfl rfl)
theorem dX13_init_105 : decode cX13_init 105 = .ok (.aload_n 0, 1) := dk_42 (dk_at dksX13_init_4 12 rfl rfl)
theorem dX13_init_106 : decode cX13_init 106 = .ok (.aload_n 1, 1) := dk_43 (dk_at dksX13_init_4 13 rfl rfl)
theorem dX13_init_107 : decode cX13_init 107 = .ok (.getfield 69, 3) := dk_180 0 69 (dk_at dksX13_init_4 14 rfl rfl)
theorem dX13_init_110 : decode cX13_init 110 = .ok (.aload 5, 2) := dk_25 5 (dk_at dksX13_init_4 17 rfl rfl)
theorem dX13_init_112 : decode cX13_init 112 = .ok (.iconst 0, 1) := dk_3 (dk_at dksX13_init_4 19 rfl rfl)
theorem dX13_init_113 : decode cX13_init 113 = .ok (.iaload, 1) := dk_46 (dk_at dksX13_init_4 20 rfl rfl)
theorem dX13_init_114 : decode cX13_init 114 = .ok (.invokeinterface 72 2, 5) := by decide +kernel
theorem dX13_init_119 : decode cX13_init 119 = .ok (.checkcast 34, 3) := dk_192 0 34 (dk_at dksX13_init_5 5 rfl rfl)
theorem dX13_init_122 : decode cX13_init 122 = .ok (.aload 5, 2) := dk_25 5 (dk_at dksX13_init_5 8 rfl rfl)
theorem dX13_init_124 : decode cX13_init 124 = .ok (.iconst 1, 1) := dk_4 (dk_at dksX13_init_5 10 rfl rfl)
theorem dX13_init_125 : decode cX13_init 125 = .ok (.iaload, 1) := dk_46 (dk_at dksX13_init_5 11 rfl rfl)
theorem dX13_init_126 : decode cX13_init 126 = .ok (.iconst 1, 1) := dk_4 (dk_at dksX13_init_5 12 rfl rfl)
theorem dX13_init_127 : decode cX13_init 127 = .ok (.invokevirtual 51, 3) := dk_182 0 51 (dk_at dksX13_init_5 13 rfl rfl)
theorem dX13_init_130 : decode cX13_init 130 = .ok (.goto (-62), 3) := dk_167 255 194 (dk_at dksX13_init_5 16 rfl rfl)
theorem dX13_init_133 : decode cX13_init 133 = .ok (.return_, 1) := dk_177 (dk_at dksX13_init_5 19 rfl rfl)
def fX13_init_b68 (e : Nat → Nat) (N : Nat) : Nat → Mm → Option Nat → Option Nat → Rs (Unit ⊕ Nat)
  | 0, _, _, _ => none
  | F + 1, m, v0, v1 => gr_ m v0 12 4 (fun x1 => ck_ m x1 13 (bd_ (fJ2_isEmpty e N m x1) (fun x2 m1 => if x2 = 0 then (gr_ m1 v0 12 4 (fun x3 => gr_ m1 v0 12 4 (fun x4 => ck_ m1 x4 13 (bd_ (fJ2_size e N m1 x4) (fun x5 m2 => ck_ m2 x3 13 (bd_ (fJ2_remove e N m2 x3 (x5 - 1)) (fun x6 m3 => cc_ m3 x6 [200] (gr_ m3 v1 1 2 (fun x7 => ai_ m3 x6 200 0 (fun x8 => ck_ m3 x7 13 (bd_ (fJ2_get e N m3 x7 x8) (fun x9 m4 => cc_ m4 x9 [2] (ai_ m4 x6 200 1 (fun x10 => ck_ m4 v0 12 (bd_ (fX13_comes e N m4 v0 x9 x10 1) (fun _ m5 => fX13_init_b68 e N F m5 v0 v1)))))))))))))))) else (rt_ (.inl ()) m1))))
def fX13_init (e : Nat → Nat) (N : Nat) (m : Mm) (v0 : Option Nat) (v1 : Option Nat) (v2 : Option Nat) (v3 : Int32) (v4 : Int32) : Rs (Unit ⊕ Nat) := pr_ m v0 12 5 v1 (fun m1 => ok_ v0 (gr_ m1 v0 12 5 (fun x1 => ck_ m1 x1 1 (bd_ (fX1_filter e N m1 x1) (xf_ (fun x2 m2 => pr_ m2 v0 12 0 x2 (fun m3 => na_ m3 203 4 (fun x3 m4 => pr_ m4 v0 12 3 (some x3) (fun m5 => nw_ m5 13 3 (fun x4 m6 => bd_ (fJ2_init e N m6 (some x4)) (fun _ m7 => pr_ m7 v0 12 4 (some x4) (fun m8 => gi_ m8 v2 2 3 (fun x5 => pi_ m8 v0 12 1 x5 (fun m9 => pi_ m9 v0 12 2 v4 (fun m10 => gr_ m10 v1 1 8 (fun x6 => ck_ m10 x6 13 (bd_ (fJ2_clear e N m10 x6) (fun _ m11 => ck_ m11 v0 12 (bd_ (fX13_comes e N m11 v0 v2 v3 0) (fun _ m12 => fX13_init_b68 e N N m12 v0 v1))))))))))))))))))))
abbrev cX1_follow : ByteArray := prog_1_method_49_code
def yX1_follow : MethodName := ⟨RX1, "follow", "(III)I"⟩
def dkwX1_follow_1 : List UInt8 := [183, 1, 208, 87, 42, 180, 0, 72, 185, 0, 137, 1, 0, 172]
abbrev dktX1_follow_1 : List UInt8 := dkwX1_follow_1 ++ []
def dkwX1_follow_0 : List UInt8 := [42, 27, 28, 29, 182, 1, 177, 58, 4, 42, 182, 1, 181, 87, 187, 1, 206, 89, 42, 25, 4, 28, 29]
abbrev dktX1_follow_0 : List UInt8 := dkwX1_follow_0 ++ dktX1_follow_1
theorem dksX1_follow_0 : cX1_follow.data.toList.drop 0 = dktX1_follow_0 := by decide +kernel
theorem dksX1_follow_1 : cX1_follow.data.toList.drop 23 = dktX1_follow_1 := dk_seg dksX1_follow_0 23 rfl rfl
theorem dX1_follow_0 : decode cX1_follow 0 = .ok (.aload_n 0, 1) := dk_42 (dk_at dksX1_follow_0 0 rfl rfl)
theorem dX1_follow_1 : decode cX1_follow 1 = .ok (.iload_n 1, 1) := dk_27 (dk_at dksX1_follow_0 1 rfl rfl)
theorem dX1_follow_2 : decode cX1_follow 2 = .ok (.iload_n 2, 1) := dk_28 (dk_at dksX1_follow_0 2 rfl rfl)
theorem dX1_follow_3 : decode cX1_follow 3 = .ok (.iload_n 3, 1) := dk_29 (dk_at dksX1_follow_0 3 rfl rfl)
theorem dX1_follow_4 : decode cX1_follow 4 = .ok (.invokevirtual 433, 3) := dk_182 1 177 (dk_at dksX1_follow_0 4 rfl rfl)
theorem dX1_follow_7 : decode cX1_follow 7 = .ok (.astore 4, 2) := dk_58 4 (dk_at dksX1_follow_0 7 rfl rfl)
theorem dX1_follow_9 : decode cX1_follow 9 = .ok (.aload_n 0, 1) := dk_42 (dk_at dksX1_follow_0 9 rfl rfl)
theorem dX1_follow_10 : decode cX1_follow 10 = .ok (.invokevirtual 437, 3) := dk_182 1 181 (dk_at dksX1_follow_0 10 rfl rfl)
theorem dX1_follow_13 : decode cX1_follow 13 = .ok (.pop, 1) := dk_87 (dk_at dksX1_follow_0 13 rfl rfl)
theorem dX1_follow_14 : decode cX1_follow 14 = .ok (.new 462, 3) := dk_187 1 206 (dk_at dksX1_follow_0 14 rfl rfl)
theorem dX1_follow_17 : decode cX1_follow 17 = .ok (.dup, 1) := dk_89 (dk_at dksX1_follow_0 17 rfl rfl)
theorem dX1_follow_18 : decode cX1_follow 18 = .ok (.aload_n 0, 1) := dk_42 (dk_at dksX1_follow_0 18 rfl rfl)
theorem dX1_follow_19 : decode cX1_follow 19 = .ok (.aload 4, 2) := dk_25 4 (dk_at dksX1_follow_0 19 rfl rfl)
theorem dX1_follow_21 : decode cX1_follow 21 = .ok (.iload_n 2, 1) := dk_28 (dk_at dksX1_follow_0 21 rfl rfl)
theorem dX1_follow_22 : decode cX1_follow 22 = .ok (.iload_n 3, 1) := dk_29 (dk_at dksX1_follow_0 22 rfl rfl)
theorem dX1_follow_23 : decode cX1_follow 23 = .ok (.invokespecial 464, 3) := dk_183 1 208 (dk_at dksX1_follow_1 0 rfl rfl)
theorem dX1_follow_26 : decode cX1_follow 26 = .ok (.pop, 1) := dk_87 (dk_at dksX1_follow_1 3 rfl rfl)
theorem dX1_follow_27 : decode cX1_follow 27 = .ok (.aload_n 0, 1) := dk_42 (dk_at dksX1_follow_1 4 rfl rfl)
theorem dX1_follow_28 : decode cX1_follow 28 = .ok (.getfield 72, 3) := dk_180 0 72 (dk_at dksX1_follow_1 5 rfl rfl)
theorem dX1_follow_31 : decode cX1_follow 31 = .ok (.invokeinterface 137 1, 5) := by decide +kernel
theorem dX1_follow_36 : decode cX1_follow 36 = .ok (.ireturn, 1) := dk_172 (dk_at dksX1_follow_1 13 rfl rfl)
def fX1_follow (e : Nat → Nat) (N : Nat) (m : Mm) (v0 : Option Nat) (v1 : Int32) (v2 : Int32) (v3 : Int32) : Rs (Int32 ⊕ Nat) := ck_ m v0 1 (bd_ (fX1_searched e N m v0 v1 v2 v3) (xf_ (fun x1 m1 => ck_ m1 v0 1 (bd_ (fX1_filter e N m1 v0) (xf_ (fun x2 m2 => nw_ m2 12 6 (fun x3 m3 => bd_ (fX13_init e N m3 (some x3) v0 x1 v2 v3) (xf_ (fun _ m4 => gr_ m4 v0 1 8 (fun x4 => ck_ m4 x4 13 (bd_ (fJ2_size e N m4 x4) (fun x5 m5 => rt_ (.inl x5) m5))))))))))))
abbrev cX0_follow : ByteArray := method_26_code
def yX0_follow : MethodName := ⟨RX0, "follow", "(LMasterTree;III[J)I"⟩
def dkwX0_follow_1 : List UInt8 := [172]
abbrev dktX0_follow_1 : List UInt8 := dkwX0_follow_1 ++ []
def dkwX0_follow_0 : List UInt8 := [25, 4, 3, 42, 27, 28, 29, 182, 0, 92, 133, 80, 167, 0, 11, 58, 5, 4, 172, 58, 5, 5, 172, 3]
abbrev dktX0_follow_0 : List UInt8 := dkwX0_follow_0 ++ dktX0_follow_1
theorem dksX0_follow_0 : cX0_follow.data.toList.drop 0 = dktX0_follow_0 := by decide +kernel
theorem dksX0_follow_1 : cX0_follow.data.toList.drop 24 = dktX0_follow_1 := dk_seg dksX0_follow_0 24 rfl rfl
theorem dX0_follow_0 : decode cX0_follow 0 = .ok (.aload 4, 2) := dk_25 4 (dk_at dksX0_follow_0 0 rfl rfl)
theorem dX0_follow_2 : decode cX0_follow 2 = .ok (.iconst 0, 1) := dk_3 (dk_at dksX0_follow_0 2 rfl rfl)
theorem dX0_follow_3 : decode cX0_follow 3 = .ok (.aload_n 0, 1) := dk_42 (dk_at dksX0_follow_0 3 rfl rfl)
theorem dX0_follow_4 : decode cX0_follow 4 = .ok (.iload_n 1, 1) := dk_27 (dk_at dksX0_follow_0 4 rfl rfl)
theorem dX0_follow_5 : decode cX0_follow 5 = .ok (.iload_n 2, 1) := dk_28 (dk_at dksX0_follow_0 5 rfl rfl)
theorem dX0_follow_6 : decode cX0_follow 6 = .ok (.iload_n 3, 1) := dk_29 (dk_at dksX0_follow_0 6 rfl rfl)
theorem dX0_follow_7 : decode cX0_follow 7 = .ok (.invokevirtual 92, 3) := dk_182 0 92 (dk_at dksX0_follow_0 7 rfl rfl)
theorem dX0_follow_10 : decode cX0_follow 10 = .ok (.i2l, 1) := dk_133 (dk_at dksX0_follow_0 10 rfl rfl)
theorem dX0_follow_11 : decode cX0_follow 11 = .ok (.lastore, 1) := dk_80 (dk_at dksX0_follow_0 11 rfl rfl)
theorem dX0_follow_12 : decode cX0_follow 12 = .ok (.goto 11, 3) := dk_167 0 11 (dk_at dksX0_follow_0 12 rfl rfl)
theorem dX0_follow_15 : decode cX0_follow 15 = .ok (.astore 5, 2) := dk_58 5 (dk_at dksX0_follow_0 15 rfl rfl)
theorem dX0_follow_17 : decode cX0_follow 17 = .ok (.iconst 1, 1) := dk_4 (dk_at dksX0_follow_0 17 rfl rfl)
theorem dX0_follow_18 : decode cX0_follow 18 = .ok (.ireturn, 1) := dk_172 (dk_at dksX0_follow_0 18 rfl rfl)
theorem dX0_follow_19 : decode cX0_follow 19 = .ok (.astore 5, 2) := dk_58 5 (dk_at dksX0_follow_0 19 rfl rfl)
theorem dX0_follow_21 : decode cX0_follow 21 = .ok (.iconst 2, 1) := dk_5 (dk_at dksX0_follow_0 21 rfl rfl)
theorem dX0_follow_22 : decode cX0_follow 22 = .ok (.ireturn, 1) := dk_172 (dk_at dksX0_follow_0 22 rfl rfl)
theorem dX0_follow_23 : decode cX0_follow 23 = .ok (.iconst 0, 1) := dk_3 (dk_at dksX0_follow_0 23 rfl rfl)
theorem dX0_follow_24 : decode cX0_follow 24 = .ok (.ireturn, 1) := dk_172 (dk_at dksX0_follow_1 0 rfl rfl)
def fX0_follow (e : Nat → Nat) (N : Nat) (m : Mm) (v0 : Option Nat) (v1 : Int32) (v2 : Int32) (v3 : Int32) (v4 : Option Nat) : Rs (Int32) := ck_ m v0 1 (bd_ (fX1_follow e N m v0 v1 v2 v3) (ch_ (fun x1 m1 => bj_ m1 v4 203 0 ((x1 : Int32).toInt64) (fun m2 => rt_ 0 m2)) (fun i_ m0 => if i_ = 0 then rt_ 1 m0 else if i_ = 2 then rt_ 2 m0 else none)))
abbrev cX1_found : ByteArray := prog_1_method_50_code
def yX1_found : MethodName := ⟨RX1, "found", "(I)I"⟩
def dkwX1_found_1 : List UInt8 := [185, 0, 113, 2, 0, 192, 1, 194, 182, 1, 199, 172]
abbrev dktX1_found_1 : List UInt8 := dkwX1_found_1 ++ []
def dkwX1_found_0 : List UInt8 := [42, 180, 0, 72, 27, 42, 180, 0, 72, 185, 0, 137, 1, 0, 19, 1, 211, 184, 0, 109]
abbrev dktX1_found_0 : List UInt8 := dkwX1_found_0 ++ dktX1_found_1
theorem dksX1_found_0 : cX1_found.data.toList.drop 0 = dktX1_found_0 := by decide +kernel
theorem dksX1_found_1 : cX1_found.data.toList.drop 20 = dktX1_found_1 := dk_seg dksX1_found_0 20 rfl rfl
theorem dX1_found_0 : decode cX1_found 0 = .ok (.aload_n 0, 1) := dk_42 (dk_at dksX1_found_0 0 rfl rfl)
theorem dX1_found_1 : decode cX1_found 1 = .ok (.getfield 72, 3) := dk_180 0 72 (dk_at dksX1_found_0 1 rfl rfl)
theorem dX1_found_4 : decode cX1_found 4 = .ok (.iload_n 1, 1) := dk_27 (dk_at dksX1_found_0 4 rfl rfl)
theorem dX1_found_5 : decode cX1_found 5 = .ok (.aload_n 0, 1) := dk_42 (dk_at dksX1_found_0 5 rfl rfl)
theorem dX1_found_6 : decode cX1_found 6 = .ok (.getfield 72, 3) := dk_180 0 72 (dk_at dksX1_found_0 6 rfl rfl)
theorem dX1_found_9 : decode cX1_found 9 = .ok (.invokeinterface 137 1, 5) := by decide +kernel
theorem dX1_found_14 : decode cX1_found 14 = .ok (.ldc_w 467, 3) := dk_19 1 211 (dk_at dksX1_found_0 14 rfl rfl)
theorem dX1_found_17 : decode cX1_found 17 = .ok (.invokestatic 109, 3) := dk_184 0 109 (dk_at dksX1_found_0 17 rfl rfl)
theorem dX1_found_20 : decode cX1_found 20 = .ok (.invokeinterface 113 2, 5) := by decide +kernel
theorem dX1_found_25 : decode cX1_found 25 = .ok (.checkcast 450, 3) := dk_192 1 194 (dk_at dksX1_found_1 5 rfl rfl)
theorem dX1_found_28 : decode cX1_found 28 = .ok (.invokevirtual 455, 3) := dk_182 1 199 (dk_at dksX1_found_1 8 rfl rfl)
theorem dX1_found_31 : decode cX1_found 31 = .ok (.ireturn, 1) := dk_172 (dk_at dksX1_found_1 11 rfl rfl)
def fX1_found (e : Nat → Nat) (N : Nat) (m : Mm) (v0 : Option Nat) (v1 : Int32) : Rs (Int32 ⊕ Nat) := gr_ m v0 1 8 (fun x1 => gr_ m v0 1 8 (fun x2 => ck_ m x2 13 (bd_ (fJ2_size e N m x2) (fun x3 m1 => bd_ (fX1_place e N m1 v1 x3 (some (e (100 + 37)))) (xf_ (fun x4 m2 => ck_ m2 x1 13 (bd_ (fJ2_get e N m2 x1 x4) (fun x5 m3 => cc_ m3 x5 [27] (ck_ m3 x5 27 (bd_ (fJ21_intValue e N m3 x5) (fun x6 m4 => rt_ (.inl x6) m4)))))))))))
abbrev cX0_found : ByteArray := method_27_code
def yX0_found : MethodName := ⟨RX0, "found", "(LMasterTree;I[J)I"⟩
def dkwX0_found_0 : List UInt8 := [44, 3, 42, 27, 182, 0, 95, 133, 80, 167, 0, 6, 78, 4, 172, 3, 172]
abbrev dktX0_found_0 : List UInt8 := dkwX0_found_0 ++ []
theorem dksX0_found_0 : cX0_found.data.toList.drop 0 = dktX0_found_0 := by decide +kernel
theorem dX0_found_0 : decode cX0_found 0 = .ok (.aload_n 2, 1) := dk_44 (dk_at dksX0_found_0 0 rfl rfl)
theorem dX0_found_1 : decode cX0_found 1 = .ok (.iconst 0, 1) := dk_3 (dk_at dksX0_found_0 1 rfl rfl)
theorem dX0_found_2 : decode cX0_found 2 = .ok (.aload_n 0, 1) := dk_42 (dk_at dksX0_found_0 2 rfl rfl)
theorem dX0_found_3 : decode cX0_found 3 = .ok (.iload_n 1, 1) := dk_27 (dk_at dksX0_found_0 3 rfl rfl)
theorem dX0_found_4 : decode cX0_found 4 = .ok (.invokevirtual 95, 3) := dk_182 0 95 (dk_at dksX0_found_0 4 rfl rfl)
theorem dX0_found_7 : decode cX0_found 7 = .ok (.i2l, 1) := dk_133 (dk_at dksX0_found_0 7 rfl rfl)
theorem dX0_found_8 : decode cX0_found 8 = .ok (.lastore, 1) := dk_80 (dk_at dksX0_found_0 8 rfl rfl)
theorem dX0_found_9 : decode cX0_found 9 = .ok (.goto 6, 3) := dk_167 0 6 (dk_at dksX0_found_0 9 rfl rfl)
theorem dX0_found_12 : decode cX0_found 12 = .ok (.astore_n 3, 1) := dk_78 (dk_at dksX0_found_0 12 rfl rfl)
theorem dX0_found_13 : decode cX0_found 13 = .ok (.iconst 1, 1) := dk_4 (dk_at dksX0_found_0 13 rfl rfl)
theorem dX0_found_14 : decode cX0_found 14 = .ok (.ireturn, 1) := dk_172 (dk_at dksX0_found_0 14 rfl rfl)
theorem dX0_found_15 : decode cX0_found 15 = .ok (.iconst 0, 1) := dk_3 (dk_at dksX0_found_0 15 rfl rfl)
theorem dX0_found_16 : decode cX0_found 16 = .ok (.ireturn, 1) := dk_172 (dk_at dksX0_found_0 16 rfl rfl)
def fX0_found (e : Nat → Nat) (N : Nat) (m : Mm) (v0 : Option Nat) (v1 : Int32) (v2 : Option Nat) : Rs (Int32) := ck_ m v0 1 (bd_ (fX1_found e N m v0 v1) (ch_ (fun x1 m1 => bj_ m1 v2 203 0 ((x1 : Int32).toInt64) (fun m2 => rt_ 0 m2)) (fun i_ m0 => if i_ = 0 then rt_ 1 m0 else none)))
abbrev cX1_live : ByteArray := prog_1_method_51_code
def yX1_live : MethodName := ⟨RX1, "live", "(I)I"⟩
def dkwX1_live_0 : List UInt8 := [42, 27, 182, 0, 183, 182, 1, 213, 184, 1, 85, 172]
abbrev dktX1_live_0 : List UInt8 := dkwX1_live_0 ++ []
theorem dksX1_live_0 : cX1_live.data.toList.drop 0 = dktX1_live_0 := by decide +kernel
theorem dX1_live_0 : decode cX1_live 0 = .ok (.aload_n 0, 1) := dk_42 (dk_at dksX1_live_0 0 rfl rfl)
theorem dX1_live_1 : decode cX1_live 1 = .ok (.iload_n 1, 1) := dk_27 (dk_at dksX1_live_0 1 rfl rfl)
theorem dX1_live_2 : decode cX1_live 2 = .ok (.invokevirtual 183, 3) := dk_182 0 183 (dk_at dksX1_live_0 2 rfl rfl)
theorem dX1_live_5 : decode cX1_live 5 = .ok (.invokevirtual 469, 3) := dk_182 1 213 (dk_at dksX1_live_0 5 rfl rfl)
theorem dX1_live_8 : decode cX1_live 8 = .ok (.invokestatic 341, 3) := dk_184 1 85 (dk_at dksX1_live_0 8 rfl rfl)
theorem dX1_live_11 : decode cX1_live 11 = .ok (.ireturn, 1) := dk_172 (dk_at dksX1_live_0 11 rfl rfl)
def fX1_live (e : Nat → Nat) (N : Nat) (m : Mm) (v0 : Option Nat) (v1 : Int32) : Rs (Int32 ⊕ Nat) := ck_ m v0 1 (bd_ (fX1_at e N m v0 v1) (xf_ (fun x1 m1 => ck_ m1 x1 2 (bd_ (fX2_liveOnes e N m1 x1) (fun x2 m2 => bd_ (fJ28_bitCount e N m2 x2) (fun x3 m3 => rt_ (.inl x3) m3))))))
abbrev cX0_live : ByteArray := method_28_code
def yX0_live : MethodName := ⟨RX0, "live", "(LMasterTree;I[J)I"⟩
def dkwX0_live_0 : List UInt8 := [44, 3, 42, 27, 182, 0, 98, 133, 80, 167, 0, 6, 78, 4, 172, 3, 172]
abbrev dktX0_live_0 : List UInt8 := dkwX0_live_0 ++ []
theorem dksX0_live_0 : cX0_live.data.toList.drop 0 = dktX0_live_0 := by decide +kernel
theorem dX0_live_0 : decode cX0_live 0 = .ok (.aload_n 2, 1) := dk_44 (dk_at dksX0_live_0 0 rfl rfl)
theorem dX0_live_1 : decode cX0_live 1 = .ok (.iconst 0, 1) := dk_3 (dk_at dksX0_live_0 1 rfl rfl)
theorem dX0_live_2 : decode cX0_live 2 = .ok (.aload_n 0, 1) := dk_42 (dk_at dksX0_live_0 2 rfl rfl)
theorem dX0_live_3 : decode cX0_live 3 = .ok (.iload_n 1, 1) := dk_27 (dk_at dksX0_live_0 3 rfl rfl)
theorem dX0_live_4 : decode cX0_live 4 = .ok (.invokevirtual 98, 3) := dk_182 0 98 (dk_at dksX0_live_0 4 rfl rfl)
theorem dX0_live_7 : decode cX0_live 7 = .ok (.i2l, 1) := dk_133 (dk_at dksX0_live_0 7 rfl rfl)
theorem dX0_live_8 : decode cX0_live 8 = .ok (.lastore, 1) := dk_80 (dk_at dksX0_live_0 8 rfl rfl)
theorem dX0_live_9 : decode cX0_live 9 = .ok (.goto 6, 3) := dk_167 0 6 (dk_at dksX0_live_0 9 rfl rfl)
theorem dX0_live_12 : decode cX0_live 12 = .ok (.astore_n 3, 1) := dk_78 (dk_at dksX0_live_0 12 rfl rfl)
theorem dX0_live_13 : decode cX0_live 13 = .ok (.iconst 1, 1) := dk_4 (dk_at dksX0_live_0 13 rfl rfl)
theorem dX0_live_14 : decode cX0_live 14 = .ok (.ireturn, 1) := dk_172 (dk_at dksX0_live_0 14 rfl rfl)
theorem dX0_live_15 : decode cX0_live 15 = .ok (.iconst 0, 1) := dk_3 (dk_at dksX0_live_0 15 rfl rfl)
theorem dX0_live_16 : decode cX0_live 16 = .ok (.ireturn, 1) := dk_172 (dk_at dksX0_live_0 16 rfl rfl)
def fX0_live (e : Nat → Nat) (N : Nat) (m : Mm) (v0 : Option Nat) (v1 : Int32) (v2 : Option Nat) : Rs (Int32) := ck_ m v0 1 (bd_ (fX1_live e N m v0 v1) (ch_ (fun x1 m1 => bj_ m1 v2 203 0 ((x1 : Int32).toInt64) (fun m2 => rt_ 0 m2)) (fun i_ m0 => if i_ = 0 then rt_ 1 m0 else none)))
abbrev cX1_parentOf : ByteArray := prog_1_method_52_code
def yX1_parentOf : MethodName := ⟨RX1, "parentOf", "(II)I"⟩
def dkwX1_parentOf_0 : List UInt8 := [42, 27, 182, 0, 183, 78, 45, 28, 184, 0, 133, 87, 45, 28, 182, 1, 54, 172]
abbrev dktX1_parentOf_0 : List UInt8 := dkwX1_parentOf_0 ++ []
theorem dksX1_parentOf_0 : cX1_parentOf.data.toList.drop 0 = dktX1_parentOf_0 := by decide +kernel
theorem dX1_parentOf_0 : decode cX1_parentOf 0 = .ok (.aload_n 0, 1) := dk_42 (dk_at dksX1_parentOf_0 0 rfl rfl)
theorem dX1_parentOf_1 : decode cX1_parentOf 1 = .ok (.iload_n 1, 1) := dk_27 (dk_at dksX1_parentOf_0 1 rfl rfl)
theorem dX1_parentOf_2 : decode cX1_parentOf 2 = .ok (.invokevirtual 183, 3) := dk_182 0 183 (dk_at dksX1_parentOf_0 2 rfl rfl)
theorem dX1_parentOf_5 : decode cX1_parentOf 5 = .ok (.astore_n 3, 1) := dk_78 (dk_at dksX1_parentOf_0 5 rfl rfl)
theorem dX1_parentOf_6 : decode cX1_parentOf 6 = .ok (.aload_n 3, 1) := dk_45 (dk_at dksX1_parentOf_0 6 rfl rfl)
theorem dX1_parentOf_7 : decode cX1_parentOf 7 = .ok (.iload_n 2, 1) := dk_28 (dk_at dksX1_parentOf_0 7 rfl rfl)
theorem dX1_parentOf_8 : decode cX1_parentOf 8 = .ok (.invokestatic 133, 3) := dk_184 0 133 (dk_at dksX1_parentOf_0 8 rfl rfl)
theorem dX1_parentOf_11 : decode cX1_parentOf 11 = .ok (.pop, 1) := dk_87 (dk_at dksX1_parentOf_0 11 rfl rfl)
theorem dX1_parentOf_12 : decode cX1_parentOf 12 = .ok (.aload_n 3, 1) := dk_45 (dk_at dksX1_parentOf_0 12 rfl rfl)
theorem dX1_parentOf_13 : decode cX1_parentOf 13 = .ok (.iload_n 2, 1) := dk_28 (dk_at dksX1_parentOf_0 13 rfl rfl)
theorem dX1_parentOf_14 : decode cX1_parentOf 14 = .ok (.invokevirtual 310, 3) := dk_182 1 54 (dk_at dksX1_parentOf_0 14 rfl rfl)
theorem dX1_parentOf_17 : decode cX1_parentOf 17 = .ok (.ireturn, 1) := dk_172 (dk_at dksX1_parentOf_0 17 rfl rfl)
def fX1_parentOf (e : Nat → Nat) (N : Nat) (m : Mm) (v0 : Option Nat) (v1 : Int32) (v2 : Int32) : Rs (Int32 ⊕ Nat) := ck_ m v0 1 (bd_ (fX1_at e N m v0 v1) (xf_ (fun x1 m1 => bd_ (fX1_liveAt e N m1 x1 v2) (xf_ (fun x2 m2 => ck_ m2 x1 2 (bd_ (fX2_shownAt e N m2 x1 v2) (fun x3 m3 => rt_ (.inl x3) m3)))))))
abbrev cX0_parentOf : ByteArray := method_29_code
def yX0_parentOf : MethodName := ⟨RX0, "parentOf", "(LMasterTree;II[J)I"⟩
def dkwX0_parentOf_0 : List UInt8 := [45, 3, 42, 27, 28, 182, 0, 101, 133, 80, 167, 0, 7, 58, 4, 4, 172, 3, 172]
abbrev dktX0_parentOf_0 : List UInt8 := dkwX0_parentOf_0 ++ []
theorem dksX0_parentOf_0 : cX0_parentOf.data.toList.drop 0 = dktX0_parentOf_0 := by decide +kernel
theorem dX0_parentOf_0 : decode cX0_parentOf 0 = .ok (.aload_n 3, 1) := dk_45 (dk_at dksX0_parentOf_0 0 rfl rfl)
theorem dX0_parentOf_1 : decode cX0_parentOf 1 = .ok (.iconst 0, 1) := dk_3 (dk_at dksX0_parentOf_0 1 rfl rfl)
theorem dX0_parentOf_2 : decode cX0_parentOf 2 = .ok (.aload_n 0, 1) := dk_42 (dk_at dksX0_parentOf_0 2 rfl rfl)
theorem dX0_parentOf_3 : decode cX0_parentOf 3 = .ok (.iload_n 1, 1) := dk_27 (dk_at dksX0_parentOf_0 3 rfl rfl)
theorem dX0_parentOf_4 : decode cX0_parentOf 4 = .ok (.iload_n 2, 1) := dk_28 (dk_at dksX0_parentOf_0 4 rfl rfl)
theorem dX0_parentOf_5 : decode cX0_parentOf 5 = .ok (.invokevirtual 101, 3) := dk_182 0 101 (dk_at dksX0_parentOf_0 5 rfl rfl)
theorem dX0_parentOf_8 : decode cX0_parentOf 8 = .ok (.i2l, 1) := dk_133 (dk_at dksX0_parentOf_0 8 rfl rfl)
theorem dX0_parentOf_9 : decode cX0_parentOf 9 = .ok (.lastore, 1) := dk_80 (dk_at dksX0_parentOf_0 9 rfl rfl)
theorem dX0_parentOf_10 : decode cX0_parentOf 10 = .ok (.goto 7, 3) := dk_167 0 7 (dk_at dksX0_parentOf_0 10 rfl rfl)
theorem dX0_parentOf_13 : decode cX0_parentOf 13 = .ok (.astore 4, 2) := dk_58 4 (dk_at dksX0_parentOf_0 13 rfl rfl)
theorem dX0_parentOf_15 : decode cX0_parentOf 15 = .ok (.iconst 1, 1) := dk_4 (dk_at dksX0_parentOf_0 15 rfl rfl)
theorem dX0_parentOf_16 : decode cX0_parentOf 16 = .ok (.ireturn, 1) := dk_172 (dk_at dksX0_parentOf_0 16 rfl rfl)
theorem dX0_parentOf_17 : decode cX0_parentOf 17 = .ok (.iconst 0, 1) := dk_3 (dk_at dksX0_parentOf_0 17 rfl rfl)
theorem dX0_parentOf_18 : decode cX0_parentOf 18 = .ok (.ireturn, 1) := dk_172 (dk_at dksX0_parentOf_0 18 rfl rfl)
def fX0_parentOf (e : Nat → Nat) (N : Nat) (m : Mm) (v0 : Option Nat) (v1 : Int32) (v2 : Int32) (v3 : Option Nat) : Rs (Int32) := ck_ m v0 1 (bd_ (fX1_parentOf e N m v0 v1 v2) (ch_ (fun x1 m1 => bj_ m1 v3 203 0 ((x1 : Int32).toInt64) (fun m2 => rt_ 0 m2)) (fun i_ m0 => if i_ = 0 then rt_ 1 m0 else none)))
abbrev cX2_init : ByteArray := prog_21_method_1_code
def yX2_init : MethodName := ⟨RX2, "<init>", "(ILjava/util/List;Ljava/util/List;)V"⟩
def dkwX2_init_4 : List UInt8 := [3, 2, 79, 177]
abbrev dktX2_init_4 : List UInt8 := dkwX2_init_4 ++ []
def dkwX2_init_3 : List UInt8 := [42, 45, 181, 0, 51, 42, 180, 0, 20, 3, 187, 0, 18, 89, 3, 44, 183, 0, 54, 83, 42, 180, 0, 24]
abbrev dktX2_init_3 : List UInt8 := dkwX2_init_3 ++ dktX2_init_4
def dkwX2_init_2 : List UInt8 := [183, 0, 35, 181, 0, 36, 42, 16, 8, 188, 11, 181, 0, 40, 42, 27, 181, 0, 44, 42, 44, 181, 0, 48]
abbrev dktX2_init_2 : List UInt8 := dkwX2_init_2 ++ dktX2_init_3
def dkwX2_init_1 : List UInt8 := [42, 16, 48, 188, 10, 181, 0, 24, 42, 7, 7, 197, 0, 28, 2, 181, 0, 30, 42, 187, 0, 33, 89]
abbrev dktX2_init_1 : List UInt8 := dkwX2_init_1 ++ dktX2_init_2
def dkwX2_init_0 : List UInt8 := [42, 183, 0, 3, 42, 187, 0, 9, 89, 183, 0, 11, 181, 0, 12, 42, 16, 48, 189, 0, 18, 181, 0, 20]
abbrev dktX2_init_0 : List UInt8 := dkwX2_init_0 ++ dktX2_init_1
theorem dksX2_init_0 : cX2_init.data.toList.drop 0 = dktX2_init_0 := by decide +kernel
theorem dksX2_init_1 : cX2_init.data.toList.drop 24 = dktX2_init_1 := dk_seg dksX2_init_0 24 rfl rfl
theorem dksX2_init_2 : cX2_init.data.toList.drop 47 = dktX2_init_2 := dk_seg dksX2_init_1 23 rfl rfl
theorem dksX2_init_3 : cX2_init.data.toList.drop 71 = dktX2_init_3 := dk_seg dksX2_init_2 24 rfl rfl
theorem dksX2_init_4 : cX2_init.data.toList.drop 95 = dktX2_init_4 := dk_seg dksX2_init_3 24 rfl rfl
theorem dX2_init_0 : decode cX2_init 0 = .ok (.aload_n 0, 1) := dk_42 (dk_at dksX2_init_0 0 rfl rfl)
theorem dX2_init_1 : decode cX2_init 1 = .ok (.invokespecial 3, 3) := dk_183 0 3 (dk_at dksX2_init_0 1 rfl rfl)
theorem dX2_init_4 : decode cX2_init 4 = .ok (.aload_n 0, 1) := dk_42 (dk_at dksX2_init_0 4 rfl rfl)
theorem dX2_init_5 : decode cX2_init 5 = .ok (.new 9, 3) := dk_187 0 9 (dk_at dksX2_init_0 5 rfl rfl)
theorem dX2_init_8 : decode cX2_init 8 = .ok (.dup, 1) := dk_89 (dk_at dksX2_init_0 8 rfl rfl)
theorem dX2_init_9 : decode cX2_init 9 = .ok (.invokespecial 11, 3) := dk_183 0 11 (dk_at dksX2_init_0 9 rfl rfl)
theorem dX2_init_12 : decode cX2_init 12 = .ok (.putfield 12, 3) := dk_181 0 12 (dk_at dksX2_init_0 12 rfl rfl)
theorem dX2_init_15 : decode cX2_init 15 = .ok (.aload_n 0, 1) := dk_42 (dk_at dksX2_init_0 15 rfl rfl)
theorem dX2_init_16 : decode cX2_init 16 = .ok (.bipush 48, 2) := dk_16 48 (dk_at dksX2_init_0 16 rfl rfl)
theorem dX2_init_18 : decode cX2_init 18 = .ok (.anewarray 18, 3) := dk_189 0 18 (dk_at dksX2_init_0 18 rfl rfl)
theorem dX2_init_21 : decode cX2_init 21 = .ok (.putfield 20, 3) := dk_181 0 20 (dk_at dksX2_init_0 21 rfl rfl)
theorem dX2_init_24 : decode cX2_init 24 = .ok (.aload_n 0, 1) := dk_42 (dk_at dksX2_init_1 0 rfl rfl)
theorem dX2_init_25 : decode cX2_init 25 = .ok (.bipush 48, 2) := dk_16 48 (dk_at dksX2_init_1 1 rfl rfl)
theorem dX2_init_27 : decode cX2_init 27 = .ok (.newarray .int, 2) := dk_188_10 (dk_at dksX2_init_1 3 rfl rfl)
theorem dX2_init_29 : decode cX2_init 29 = .ok (.putfield 24, 3) := dk_181 0 24 (dk_at dksX2_init_1 5 rfl rfl)
theorem dX2_init_32 : decode cX2_init 32 = .ok (.aload_n 0, 1) := dk_42 (dk_at dksX2_init_1 8 rfl rfl)
theorem dX2_init_33 : decode cX2_init 33 = .ok (.iconst 4, 1) := dk_7 (dk_at dksX2_init_1 9 rfl rfl)
theorem dX2_init_34 : decode cX2_init 34 = .ok (.iconst 4, 1) := dk_7 (dk_at dksX2_init_1 10 rfl rfl)
theorem dX2_init_35 : decode cX2_init 35 = .ok (.multianewarray 28 2, 4) := by decide +kernel
theorem dX2_init_39 : decode cX2_init 39 = .ok (.putfield 30, 3) := dk_181 0 30 (dk_at dksX2_init_1 15 rfl rfl)
theorem dX2_init_42 : decode cX2_init 42 = .ok (.aload_n 0, 1) := dk_42 (dk_at dksX2_init_1 18 rfl rfl)
theorem dX2_init_43 : decode cX2_init 43 = .ok (.new 33, 3) := dk_187 0 33 (dk_at dksX2_init_1 19 rfl rfl)
theorem dX2_init_46 : decode cX2_init 46 = .ok (.dup, 1) := dk_89 (dk_at dksX2_init_1 22 rfl rfl)
theorem dX2_init_47 : decode cX2_init 47 = .ok (.invokespecial 35, 3) := dk_183 0 35 (dk_at dksX2_init_2 0 rfl rfl)
theorem dX2_init_50 : decode cX2_init 50 = .ok (.putfield 36, 3) := dk_181 0 36 (dk_at dksX2_init_2 3 rfl rfl)
theorem dX2_init_53 : decode cX2_init 53 = .ok (.aload_n 0, 1) := dk_42 (dk_at dksX2_init_2 6 rfl rfl)
theorem dX2_init_54 : decode cX2_init 54 = .ok (.bipush 8, 2) := dk_16 8 (dk_at dksX2_init_2 7 rfl rfl)
theorem dX2_init_56 : decode cX2_init 56 = .ok (.newarray .long, 2) := dk_188_11 (dk_at dksX2_init_2 9 rfl rfl)
theorem dX2_init_58 : decode cX2_init 58 = .ok (.putfield 40, 3) := dk_181 0 40 (dk_at dksX2_init_2 11 rfl rfl)
theorem dX2_init_61 : decode cX2_init 61 = .ok (.aload_n 0, 1) := dk_42 (dk_at dksX2_init_2 14 rfl rfl)
theorem dX2_init_62 : decode cX2_init 62 = .ok (.iload_n 1, 1) := dk_27 (dk_at dksX2_init_2 15 rfl rfl)
theorem dX2_init_63 : decode cX2_init 63 = .ok (.putfield 44, 3) := dk_181 0 44 (dk_at dksX2_init_2 16 rfl rfl)
theorem dX2_init_66 : decode cX2_init 66 = .ok (.aload_n 0, 1) := dk_42 (dk_at dksX2_init_2 19 rfl rfl)
theorem dX2_init_67 : decode cX2_init 67 = .ok (.aload_n 2, 1) := dk_44 (dk_at dksX2_init_2 20 rfl rfl)
theorem dX2_init_68 : decode cX2_init 68 = .ok (.putfield 48, 3) := dk_181 0 48 (dk_at dksX2_init_2 21 rfl rfl)
theorem dX2_init_71 : decode cX2_init 71 = .ok (.aload_n 0, 1) := dk_42 (dk_at dksX2_init_3 0 rfl rfl)
theorem dX2_init_72 : decode cX2_init 72 = .ok (.aload_n 3, 1) := dk_45 (dk_at dksX2_init_3 1 rfl rfl)
theorem dX2_init_73 : decode cX2_init 73 = .ok (.putfield 51, 3) := dk_181 0 51 (dk_at dksX2_init_3 2 rfl rfl)
theorem dX2_init_76 : decode cX2_init 76 = .ok (.aload_n 0, 1) := dk_42 (dk_at dksX2_init_3 5 rfl rfl)
theorem dX2_init_77 : decode cX2_init 77 = .ok (.getfield 20, 3) := dk_180 0 20 (dk_at dksX2_init_3 6 rfl rfl)
theorem dX2_init_80 : decode cX2_init 80 = .ok (.iconst 0, 1) := dk_3 (dk_at dksX2_init_3 9 rfl rfl)
theorem dX2_init_81 : decode cX2_init 81 = .ok (.new 18, 3) := dk_187 0 18 (dk_at dksX2_init_3 10 rfl rfl)
theorem dX2_init_84 : decode cX2_init 84 = .ok (.dup, 1) := dk_89 (dk_at dksX2_init_3 13 rfl rfl)
theorem dX2_init_85 : decode cX2_init 85 = .ok (.iconst 0, 1) := dk_3 (dk_at dksX2_init_3 14 rfl rfl)
theorem dX2_init_86 : decode cX2_init 86 = .ok (.aload_n 2, 1) := dk_44 (dk_at dksX2_init_3 15 rfl rfl)
theorem dX2_init_87 : decode cX2_init 87 = .ok (.invokespecial 54, 3) := dk_183 0 54 (dk_at dksX2_init_3 16 rfl rfl)
theorem dX2_init_90 : decode cX2_init 90 = .ok (.aastore, 1) := dk_83 (dk_at dksX2_init_3 19 rfl rfl)
theorem dX2_init_91 : decode cX2_init 91 = .ok (.aload_n 0, 1) := dk_42 (dk_at dksX2_init_3 20 rfl rfl)
theorem dX2_init_92 : decode cX2_init 92 = .ok (.getfield 24, 3) := dk_180 0 24 (dk_at dksX2_init_3 21 rfl rfl)
theorem dX2_init_95 : decode cX2_init 95 = .ok (.iconst 0, 1) := dk_3 (dk_at dksX2_init_4 0 rfl rfl)
theorem dX2_init_96 : decode cX2_init 96 = .ok (.iconst (-1), 1) := dk_2 (dk_at dksX2_init_4 1 rfl rfl)
theorem dX2_init_97 : decode cX2_init 97 = .ok (.iastore, 1) := dk_79 (dk_at dksX2_init_4 2 rfl rfl)
theorem dX2_init_98 : decode cX2_init 98 = .ok (.return_, 1) := dk_177 (dk_at dksX2_init_4 3 rfl rfl)
def fX2_init (e : Nat → Nat) (N : Nat) (m : Mm) (v0 : Option Nat) (v1 : Int32) (v2 : Option Nat) (v3 : Option Nat) : Rs (Unit) := ok_ v0 (nw_ m 13 3 (fun x1 m1 => bd_ (fJ2_init e N m1 (some x1)) (fun _ m2 => pr_ m2 v0 2 5 (some x1) (fun m3 => na_ m3 205 48 (fun x2 m4 => pr_ m4 v0 2 6 (some x2) (fun m5 => na_ m5 200 48 (fun x3 m6 => pr_ m6 v0 2 7 (some x3) (fun m7 => mn_ m7 (fun x4 m8 => pr_ m8 v0 2 8 (some x4) (fun m9 => nw_ m9 15 9 (fun x5 m10 => bd_ (fJ4_init e N m10 (some x5)) (fun _ m11 => pr_ m11 v0 2 10 (some x5) (fun m12 => na_ m12 203 8 (fun x6 m13 => pr_ m13 v0 2 11 (some x6) (fun m14 => pi_ m14 v0 2 0 v1 (fun m15 => pr_ m15 v0 2 1 v2 (fun m16 => pr_ m16 v0 2 2 v3 (fun m17 => gr_ m17 v0 2 6 (fun x7 => nw_ m17 3 9 (fun x8 m18 => bd_ (fX3_init e N m18 (some x8) 0 v2) (fun _ m19 => bk_ m19 (some x8) [3] (br_ m19 x7 205 0 (some x8) (fun m20 => gr_ m20 v0 2 7 (fun x9 => bi_ m20 x9 200 0 (-1) (fun m21 => rt_ () m21)))))))))))))))))))))))))
abbrev cX1_anew : ByteArray := prog_1_method_53_code
def yX1_anew : MethodName := ⟨RX1, "anew", "(LMasterTree$Master;)LMasterTree$Master;"⟩
def dkwX1_anew_5 : List UInt8 := [184, 1, 224, 44, 176]
abbrev dktX1_anew_5 : List UInt8 := dkwX1_anew_5 ++ []
def dkwX1_anew_4 : List UInt8 := [44, 180, 0, 128, 25, 4, 180, 0, 33, 50, 182, 1, 220, 167, 255, 177, 43, 180, 1, 122, 44, 180, 1, 65]
abbrev dktX1_anew_4 : List UInt8 := dkwX1_anew_4 ++ dktX1_anew_5
def dkwX1_anew_3 : List UInt8 := [187, 1, 7, 89, 25, 4, 180, 0, 33, 42, 180, 0, 53, 183, 1, 217, 83, 25, 4, 180, 0, 21, 25, 4]
abbrev dktX1_anew_3 : List UInt8 := dkwX1_anew_3 ++ dktX1_anew_4
def dkwX1_anew_2 : List UInt8 := [58, 4, 44, 180, 0, 128, 25, 4, 180, 0, 33, 50, 199, 0, 29, 44, 180, 0, 128, 25, 4, 180, 0, 33]
abbrev dktX1_anew_2 : List UInt8 := dkwX1_anew_2 ++ dktX1_anew_3
def dkwX1_anew_1 : List UInt8 := [185, 0, 3, 1, 0, 78, 45, 185, 0, 9, 1, 0, 153, 0, 76, 45, 185, 0, 15, 1, 0, 192, 0, 19]
abbrev dktX1_anew_1 : List UInt8 := dkwX1_anew_1 ++ dktX1_anew_2
def dkwX1_anew_0 : List UInt8 := [187, 0, 75, 89, 43, 180, 0, 125, 42, 180, 0, 53, 42, 180, 0, 57, 183, 0, 77, 77, 43, 180, 1, 122]
abbrev dktX1_anew_0 : List UInt8 := dkwX1_anew_0 ++ dktX1_anew_1
theorem dksX1_anew_0 : cX1_anew.data.toList.drop 0 = dktX1_anew_0 := by decide +kernel
theorem dksX1_anew_1 : cX1_anew.data.toList.drop 24 = dktX1_anew_1 := dk_seg dksX1_anew_0 24 rfl rfl
theorem dksX1_anew_2 : cX1_anew.data.toList.drop 48 = dktX1_anew_2 := dk_seg dksX1_anew_1 24 rfl rfl
theorem dksX1_anew_3 : cX1_anew.data.toList.drop 72 = dktX1_anew_3 := dk_seg dksX1_anew_2 24 rfl rfl
theorem dksX1_anew_4 : cX1_anew.data.toList.drop 96 = dktX1_anew_4 := dk_seg dksX1_anew_3 24 rfl rfl
theorem dksX1_anew_5 : cX1_anew.data.toList.drop 120 = dktX1_anew_5 := dk_seg dksX1_anew_4 24 rfl rfl
theorem dX1_anew_0 : decode cX1_anew 0 = .ok (.new 75, 3) := dk_187 0 75 (dk_at dksX1_anew_0 0 rfl rfl)
theorem dX1_anew_3 : decode cX1_anew 3 = .ok (.dup, 1) := dk_89 (dk_at dksX1_anew_0 3 rfl rfl)
theorem dX1_anew_4 : decode cX1_anew 4 = .ok (.aload_n 1, 1) := dk_43 (dk_at dksX1_anew_0 4 rfl rfl)
theorem dX1_anew_5 : decode cX1_anew 5 = .ok (.getfield 125, 3) := dk_180 0 125 (dk_at dksX1_anew_0 5 rfl rfl)
theorem dX1_anew_8 : decode cX1_anew 8 = .ok (.aload_n 0, 1) := dk_42 (dk_at dksX1_anew_0 8 rfl rfl)
theorem dX1_anew_9 : decode cX1_anew 9 = .ok (.getfield 53, 3) := dk_180 0 53 (dk_at dksX1_anew_0 9 rfl rfl)
theorem dX1_anew_12 : decode cX1_anew 12 = .ok (.aload_n 0, 1) := dk_42 (dk_at dksX1_anew_0 12 rfl rfl)
theorem dX1_anew_13 : decode cX1_anew 13 = .ok (.getfield 57, 3) := dk_180 0 57 (dk_at dksX1_anew_0 13 rfl rfl)
theorem dX1_anew_16 : decode cX1_anew 16 = .ok (.invokespecial 77, 3) := dk_183 0 77 (dk_at dksX1_anew_0 16 rfl rfl)
theorem dX1_anew_19 : decode cX1_anew 19 = .ok (.astore_n 2, 1) := dk_77 (dk_at dksX1_anew_0 19 rfl rfl)
theorem dX1_anew_20 : decode cX1_anew 20 = .ok (.aload_n 1, 1) := dk_43 (dk_at dksX1_anew_0 20 rfl rfl)
theorem dX1_anew_21 : decode cX1_anew 21 = .ok (.getfield 378, 3) := dk_180 1 122 (dk_at dksX1_anew_0 21 rfl rfl)
theorem dX1_anew_24 : decode cX1_anew 24 = .ok (.invokeinterface 3 1, 5) := by decide +kernel
theorem dX1_anew_29 : decode cX1_anew 29 = .ok (.astore_n 3, 1) := dk_78 (dk_at dksX1_anew_1 5 rfl rfl)
theorem dX1_anew_30 : decode cX1_anew 30 = .ok (.aload_n 3, 1) := dk_45 (dk_at dksX1_anew_1 6 rfl rfl)
theorem dX1_anew_31 : decode cX1_anew 31 = .ok (.invokeinterface 9 1, 5) := by decide +kernel
theorem dX1_anew_36 : decode cX1_anew 36 = .ok (.ifCond .eq 76, 3) := dk_153 0 76 (dk_at dksX1_anew_1 12 rfl rfl)
theorem dX1_anew_39 : decode cX1_anew 39 = .ok (.aload_n 3, 1) := dk_45 (dk_at dksX1_anew_1 15 rfl rfl)
theorem dX1_anew_40 : decode cX1_anew 40 = .ok (.invokeinterface 15 1, 5) := by decide +kernel
theorem dX1_anew_45 : decode cX1_anew 45 = .ok (.checkcast 19, 3) := dk_192 0 19 (dk_at dksX1_anew_1 21 rfl rfl)
theorem dX1_anew_48 : decode cX1_anew 48 = .ok (.astore 4, 2) := dk_58 4 (dk_at dksX1_anew_2 0 rfl rfl)
theorem dX1_anew_50 : decode cX1_anew 50 = .ok (.aload_n 2, 1) := dk_44 (dk_at dksX1_anew_2 2 rfl rfl)
theorem dX1_anew_51 : decode cX1_anew 51 = .ok (.getfield 128, 3) := dk_180 0 128 (dk_at dksX1_anew_2 3 rfl rfl)
theorem dX1_anew_54 : decode cX1_anew 54 = .ok (.aload 4, 2) := dk_25 4 (dk_at dksX1_anew_2 6 rfl rfl)
theorem dX1_anew_56 : decode cX1_anew 56 = .ok (.getfield 33, 3) := dk_180 0 33 (dk_at dksX1_anew_2 8 rfl rfl)
theorem dX1_anew_59 : decode cX1_anew 59 = .ok (.aaload, 1) := dk_50 (dk_at dksX1_anew_2 11 rfl rfl)
theorem dX1_anew_60 : decode cX1_anew 60 = .ok (.ifnonnull 29, 3) := dk_199 0 29 (dk_at dksX1_anew_2 12 rfl rfl)
theorem dX1_anew_63 : decode cX1_anew 63 = .ok (.aload_n 2, 1) := dk_44 (dk_at dksX1_anew_2 15 rfl rfl)
theorem dX1_anew_64 : decode cX1_anew 64 = .ok (.getfield 128, 3) := dk_180 0 128 (dk_at dksX1_anew_2 16 rfl rfl)
theorem dX1_anew_67 : decode cX1_anew 67 = .ok (.aload 4, 2) := dk_25 4 (dk_at dksX1_anew_2 19 rfl rfl)
theorem dX1_anew_69 : decode cX1_anew 69 = .ok (.getfield 33, 3) := dk_180 0 33 (dk_at dksX1_anew_2 21 rfl rfl)
theorem dX1_anew_72 : decode cX1_anew 72 = .ok (.new 263, 3) := dk_187 1 7 (dk_at dksX1_anew_3 0 rfl rfl)
theorem dX1_anew_75 : decode cX1_anew 75 = .ok (.dup, 1) := dk_89 (dk_at dksX1_anew_3 3 rfl rfl)
theorem dX1_anew_76 : decode cX1_anew 76 = .ok (.aload 4, 2) := dk_25 4 (dk_at dksX1_anew_3 4 rfl rfl)
theorem dX1_anew_78 : decode cX1_anew 78 = .ok (.getfield 33, 3) := dk_180 0 33 (dk_at dksX1_anew_3 6 rfl rfl)
theorem dX1_anew_81 : decode cX1_anew 81 = .ok (.aload_n 0, 1) := dk_42 (dk_at dksX1_anew_3 9 rfl rfl)
theorem dX1_anew_82 : decode cX1_anew 82 = .ok (.getfield 53, 3) := dk_180 0 53 (dk_at dksX1_anew_3 10 rfl rfl)
theorem dX1_anew_85 : decode cX1_anew 85 = .ok (.invokespecial 473, 3) := dk_183 1 217 (dk_at dksX1_anew_3 13 rfl rfl)
theorem dX1_anew_88 : decode cX1_anew 88 = .ok (.aastore, 1) := dk_83 (dk_at dksX1_anew_3 16 rfl rfl)
theorem dX1_anew_89 : decode cX1_anew 89 = .ok (.aload 4, 2) := dk_25 4 (dk_at dksX1_anew_3 17 rfl rfl)
theorem dX1_anew_91 : decode cX1_anew 91 = .ok (.getfield 21, 3) := dk_180 0 21 (dk_at dksX1_anew_3 19 rfl rfl)
theorem dX1_anew_94 : decode cX1_anew 94 = .ok (.aload 4, 2) := dk_25 4 (dk_at dksX1_anew_3 22 rfl rfl)
theorem dX1_anew_96 : decode cX1_anew 96 = .ok (.aload_n 2, 1) := dk_44 (dk_at dksX1_anew_4 0 rfl rfl)
theorem dX1_anew_97 : decode cX1_anew 97 = .ok (.getfield 128, 3) := dk_180 0 128 (dk_at dksX1_anew_4 1 rfl rfl)
theorem dX1_anew_100 : decode cX1_anew 100 = .ok (.aload 4, 2) := dk_25 4 (dk_at dksX1_anew_4 4 rfl rfl)
theorem dX1_anew_102 : decode cX1_anew 102 = .ok (.getfield 33, 3) := dk_180 0 33 (dk_at dksX1_anew_4 6 rfl rfl)
theorem dX1_anew_105 : decode cX1_anew 105 = .ok (.aaload, 1) := dk_50 (dk_at dksX1_anew_4 9 rfl rfl)
theorem dX1_anew_106 : decode cX1_anew 106 = .ok (.invokevirtual 476, 3) := dk_182 1 220 (dk_at dksX1_anew_4 10 rfl rfl)
theorem dX1_anew_109 : decode cX1_anew 109 = .ok (.goto (-79), 3) := dk_167 255 177 (dk_at dksX1_anew_4 13 rfl rfl)
theorem dX1_anew_112 : decode cX1_anew 112 = .ok (.aload_n 1, 1) := dk_43 (dk_at dksX1_anew_4 16 rfl rfl)
theorem dX1_anew_113 : decode cX1_anew 113 = .ok (.getfield 378, 3) := dk_180 1 122 (dk_at dksX1_anew_4 17 rfl rfl)
theorem dX1_anew_116 : decode cX1_anew 116 = .ok (.aload_n 2, 1) := dk_44 (dk_at dksX1_anew_4 20 rfl rfl)
theorem dX1_anew_117 : decode cX1_anew 117 = .ok (.getfield 321, 3) := dk_180 1 65 (dk_at dksX1_anew_4 21 rfl rfl)
theorem dX1_anew_120 : decode cX1_anew 120 = .ok (.invokestatic 480, 3) := dk_184 1 224 (dk_at dksX1_anew_5 0 rfl rfl)
theorem dX1_anew_123 : decode cX1_anew 123 = .ok (.aload_n 2, 1) := dk_44 (dk_at dksX1_anew_5 3 rfl rfl)
theorem dX1_anew_124 : decode cX1_anew 124 = .ok (.areturn, 1) := dk_176 (dk_at dksX1_anew_5 4 rfl rfl)
def fX1_anew_b89 (e : Nat → Nat) (N : Nat) (k30 : Mm → Option Nat → Option Nat → Option Nat → Option Nat → Rs (Option Nat)) (m : Mm) (v0 : Option Nat) (v1 : Option Nat) (v2 : Option Nat) (v3 : Option Nat) (v4 : Option Nat) : Rs (Option Nat) := gr_ m v4 7 3 (fun x1 => gr_ m v2 2 6 (fun x2 => gi_ m v4 7 4 (fun x3 => ar_ m x2 205 x3 (fun x4 => bd_ (cs_ m x1 403 (fX14_does e N m x1 v4 x4) (cs_ m x1 404 (fX20_does e N m x1 v4 x4) (cs_ m x1 405 (fX18_does e N m x1 v4 x4) (cs_ m x1 406 (fX21_does e N m x1 v4 x4) (cs_ m x1 407 (fX16_does e N m x1 v4 x4) (cs_ m x1 408 (fX17_does e N m x1 v4 x4) (cs_ m x1 409 (fX19_does e N m x1 v4 x4) (cs_ m x1 410 (fX22_does e N m x1 v4 x4) (cs_ m x1 411 (fX15_does e N m x1 v4 x4) none))))))))) (fun _ m1 => k30 m1 v0 v1 v2 v3)))))
def fX1_anew_b30 (e : Nat → Nat) (N : Nat) : Nat → Mm → Option Nat → Option Nat → Option Nat → Option Nat → Rs (Option Nat)
  | 0, _, _, _, _, _ => none
  | F + 1, m, v0, v1, v2, v3 => ck_ m v3 14 (bd_ (fJ34_hasNext e N m v3) (fun x1 m1 => if x1 = 0 then (gr_ m1 v1 2 5 (fun x2 => gr_ m1 v2 2 7 (fun x3 => bd_ (fX1_findsParents e N m1 x2 x3) (fun _ m2 => rt_ v2 m2)))) else (ck_ m1 v3 14 (bd_ (fJ34_next e N m1 v3) (fun x4 m3 => cc_ m3 x4 [7] (gr_ m3 v2 2 6 (fun x5 => gi_ m3 x4 7 4 (fun x6 => ar_ m3 x5 205 x6 (fun x7 => if x7 = none then (gr_ m3 v2 2 6 (fun x8 => gi_ m3 x4 7 4 (fun x9 => nw_ m3 3 9 (fun x10 m4 => gi_ m4 x4 7 4 (fun x11 => gr_ m4 v0 1 0 (fun x12 => bd_ (fX3_init e N m4 (some x10) x11 x12) (fun _ m5 => bk_ m5 (some x10) [3] (br_ m5 x8 205 x9 (some x10) (fun m6 => fX1_anew_b89 e N (fX1_anew_b30 e N F) m6 v0 v1 v2 v3 x4))))))))) else (fX1_anew_b89 e N (fX1_anew_b30 e N F) m3 v0 v1 v2 v3 x4))))))))))
def fX1_anew (e : Nat → Nat) (N : Nat) (m : Mm) (v0 : Option Nat) (v1 : Option Nat) : Rs (Option Nat) := nw_ m 2 12 (fun x1 m1 => gi_ m1 v1 2 0 (fun x2 => gr_ m1 v0 1 0 (fun x3 => gr_ m1 v0 1 1 (fun x4 => bd_ (fX2_init e N m1 (some x1) x2 x3 x4) (fun _ m2 => gr_ m2 v1 2 5 (fun x5 => ck_ m2 x5 13 (bd_ (fJ2_iterator e N m2 x5) (fun x6 m3 => fX1_anew_b30 e N N m3 v0 v1 (some x1) x6))))))))
abbrev cX1_parentAnew : ByteArray := prog_1_method_54_code
def yX1_parentAnew : MethodName := ⟨RX1, "parentAnew", "(II)I"⟩
def dkwX1_parentAnew_0 : List UInt8 := [42, 27, 182, 0, 183, 78, 45, 28, 184, 0, 133, 87, 42, 45, 182, 1, 228, 28, 182, 1, 54, 172]
abbrev dktX1_parentAnew_0 : List UInt8 := dkwX1_parentAnew_0 ++ []
theorem dksX1_parentAnew_0 : cX1_parentAnew.data.toList.drop 0 = dktX1_parentAnew_0 := by decide +kernel
theorem dX1_parentAnew_0 : decode cX1_parentAnew 0 = .ok (.aload_n 0, 1) := dk_42 (dk_at dksX1_parentAnew_0 0 rfl rfl)
theorem dX1_parentAnew_1 : decode cX1_parentAnew 1 = .ok (.iload_n 1, 1) := dk_27 (dk_at dksX1_parentAnew_0 1 rfl rfl)
theorem dX1_parentAnew_2 : decode cX1_parentAnew 2 = .ok (.invokevirtual 183, 3) := dk_182 0 183 (dk_at dksX1_parentAnew_0 2 rfl rfl)
theorem dX1_parentAnew_5 : decode cX1_parentAnew 5 = .ok (.astore_n 3, 1) := dk_78 (dk_at dksX1_parentAnew_0 5 rfl rfl)
theorem dX1_parentAnew_6 : decode cX1_parentAnew 6 = .ok (.aload_n 3, 1) := dk_45 (dk_at dksX1_parentAnew_0 6 rfl rfl)
theorem dX1_parentAnew_7 : decode cX1_parentAnew 7 = .ok (.iload_n 2, 1) := dk_28 (dk_at dksX1_parentAnew_0 7 rfl rfl)
theorem dX1_parentAnew_8 : decode cX1_parentAnew 8 = .ok (.invokestatic 133, 3) := dk_184 0 133 (dk_at dksX1_parentAnew_0 8 rfl rfl)
theorem dX1_parentAnew_11 : decode cX1_parentAnew 11 = .ok (.pop, 1) := dk_87 (dk_at dksX1_parentAnew_0 11 rfl rfl)
theorem dX1_parentAnew_12 : decode cX1_parentAnew 12 = .ok (.aload_n 0, 1) := dk_42 (dk_at dksX1_parentAnew_0 12 rfl rfl)
theorem dX1_parentAnew_13 : decode cX1_parentAnew 13 = .ok (.aload_n 3, 1) := dk_45 (dk_at dksX1_parentAnew_0 13 rfl rfl)
theorem dX1_parentAnew_14 : decode cX1_parentAnew 14 = .ok (.invokevirtual 484, 3) := dk_182 1 228 (dk_at dksX1_parentAnew_0 14 rfl rfl)
theorem dX1_parentAnew_17 : decode cX1_parentAnew 17 = .ok (.iload_n 2, 1) := dk_28 (dk_at dksX1_parentAnew_0 17 rfl rfl)
theorem dX1_parentAnew_18 : decode cX1_parentAnew 18 = .ok (.invokevirtual 310, 3) := dk_182 1 54 (dk_at dksX1_parentAnew_0 18 rfl rfl)
theorem dX1_parentAnew_21 : decode cX1_parentAnew 21 = .ok (.ireturn, 1) := dk_172 (dk_at dksX1_parentAnew_0 21 rfl rfl)
def fX1_parentAnew (e : Nat → Nat) (N : Nat) (m : Mm) (v0 : Option Nat) (v1 : Int32) (v2 : Int32) : Rs (Int32 ⊕ Nat) := ck_ m v0 1 (bd_ (fX1_at e N m v0 v1) (xf_ (fun x1 m1 => bd_ (fX1_liveAt e N m1 x1 v2) (xf_ (fun x2 m2 => ck_ m2 v0 1 (bd_ (fX1_anew e N m2 v0 x1) (fun x3 m3 => ck_ m3 x3 2 (bd_ (fX2_shownAt e N m3 x3 v2) (fun x4 m4 => rt_ (.inl x4) m4)))))))))
abbrev cX0_parentAnew : ByteArray := method_30_code
def yX0_parentAnew : MethodName := ⟨RX0, "parentAnew", "(LMasterTree;II[J)I"⟩
def dkwX0_parentAnew_0 : List UInt8 := [45, 3, 42, 27, 28, 182, 0, 104, 133, 80, 167, 0, 7, 58, 4, 4, 172, 3, 172]
abbrev dktX0_parentAnew_0 : List UInt8 := dkwX0_parentAnew_0 ++ []
theorem dksX0_parentAnew_0 : cX0_parentAnew.data.toList.drop 0 = dktX0_parentAnew_0 := by decide +kernel
theorem dX0_parentAnew_0 : decode cX0_parentAnew 0 = .ok (.aload_n 3, 1) := dk_45 (dk_at dksX0_parentAnew_0 0 rfl rfl)
theorem dX0_parentAnew_1 : decode cX0_parentAnew 1 = .ok (.iconst 0, 1) := dk_3 (dk_at dksX0_parentAnew_0 1 rfl rfl)
theorem dX0_parentAnew_2 : decode cX0_parentAnew 2 = .ok (.aload_n 0, 1) := dk_42 (dk_at dksX0_parentAnew_0 2 rfl rfl)
theorem dX0_parentAnew_3 : decode cX0_parentAnew 3 = .ok (.iload_n 1, 1) := dk_27 (dk_at dksX0_parentAnew_0 3 rfl rfl)
theorem dX0_parentAnew_4 : decode cX0_parentAnew 4 = .ok (.iload_n 2, 1) := dk_28 (dk_at dksX0_parentAnew_0 4 rfl rfl)
theorem dX0_parentAnew_5 : decode cX0_parentAnew 5 = .ok (.invokevirtual 104, 3) := dk_182 0 104 (dk_at dksX0_parentAnew_0 5 rfl rfl)
theorem dX0_parentAnew_8 : decode cX0_parentAnew 8 = .ok (.i2l, 1) := dk_133 (dk_at dksX0_parentAnew_0 8 rfl rfl)
theorem dX0_parentAnew_9 : decode cX0_parentAnew 9 = .ok (.lastore, 1) := dk_80 (dk_at dksX0_parentAnew_0 9 rfl rfl)
theorem dX0_parentAnew_10 : decode cX0_parentAnew 10 = .ok (.goto 7, 3) := dk_167 0 7 (dk_at dksX0_parentAnew_0 10 rfl rfl)
theorem dX0_parentAnew_13 : decode cX0_parentAnew 13 = .ok (.astore 4, 2) := dk_58 4 (dk_at dksX0_parentAnew_0 13 rfl rfl)
theorem dX0_parentAnew_15 : decode cX0_parentAnew 15 = .ok (.iconst 1, 1) := dk_4 (dk_at dksX0_parentAnew_0 15 rfl rfl)
theorem dX0_parentAnew_16 : decode cX0_parentAnew 16 = .ok (.ireturn, 1) := dk_172 (dk_at dksX0_parentAnew_0 16 rfl rfl)
theorem dX0_parentAnew_17 : decode cX0_parentAnew 17 = .ok (.iconst 0, 1) := dk_3 (dk_at dksX0_parentAnew_0 17 rfl rfl)
theorem dX0_parentAnew_18 : decode cX0_parentAnew 18 = .ok (.ireturn, 1) := dk_172 (dk_at dksX0_parentAnew_0 18 rfl rfl)
def fX0_parentAnew (e : Nat → Nat) (N : Nat) (m : Mm) (v0 : Option Nat) (v1 : Int32) (v2 : Int32) (v3 : Option Nat) : Rs (Int32) := ck_ m v0 1 (bd_ (fX1_parentAnew e N m v0 v1 v2) (ch_ (fun x1 m1 => bj_ m1 v3 203 0 ((x1 : Int32).toInt64) (fun m2 => rt_ 0 m2)) (fun i_ m0 => if i_ = 0 then rt_ 1 m0 else none)))
abbrev cX1_nameOf : ByteArray := prog_1_method_55_code
def yX1_nameOf : MethodName := ⟨RX1, "nameOf", "(II)I"⟩
def dkwX1_nameOf_0 : List UInt8 := [42, 27, 182, 0, 183, 78, 45, 28, 184, 0, 133, 87, 45, 28, 182, 1, 59, 172]
abbrev dktX1_nameOf_0 : List UInt8 := dkwX1_nameOf_0 ++ []
theorem dksX1_nameOf_0 : cX1_nameOf.data.toList.drop 0 = dktX1_nameOf_0 := by decide +kernel
theorem dX1_nameOf_0 : decode cX1_nameOf 0 = .ok (.aload_n 0, 1) := dk_42 (dk_at dksX1_nameOf_0 0 rfl rfl)
theorem dX1_nameOf_1 : decode cX1_nameOf 1 = .ok (.iload_n 1, 1) := dk_27 (dk_at dksX1_nameOf_0 1 rfl rfl)
theorem dX1_nameOf_2 : decode cX1_nameOf 2 = .ok (.invokevirtual 183, 3) := dk_182 0 183 (dk_at dksX1_nameOf_0 2 rfl rfl)
theorem dX1_nameOf_5 : decode cX1_nameOf 5 = .ok (.astore_n 3, 1) := dk_78 (dk_at dksX1_nameOf_0 5 rfl rfl)
theorem dX1_nameOf_6 : decode cX1_nameOf 6 = .ok (.aload_n 3, 1) := dk_45 (dk_at dksX1_nameOf_0 6 rfl rfl)
theorem dX1_nameOf_7 : decode cX1_nameOf 7 = .ok (.iload_n 2, 1) := dk_28 (dk_at dksX1_nameOf_0 7 rfl rfl)
theorem dX1_nameOf_8 : decode cX1_nameOf 8 = .ok (.invokestatic 133, 3) := dk_184 0 133 (dk_at dksX1_nameOf_0 8 rfl rfl)
theorem dX1_nameOf_11 : decode cX1_nameOf 11 = .ok (.pop, 1) := dk_87 (dk_at dksX1_nameOf_0 11 rfl rfl)
theorem dX1_nameOf_12 : decode cX1_nameOf 12 = .ok (.aload_n 3, 1) := dk_45 (dk_at dksX1_nameOf_0 12 rfl rfl)
theorem dX1_nameOf_13 : decode cX1_nameOf 13 = .ok (.iload_n 2, 1) := dk_28 (dk_at dksX1_nameOf_0 13 rfl rfl)
theorem dX1_nameOf_14 : decode cX1_nameOf 14 = .ok (.invokevirtual 315, 3) := dk_182 1 59 (dk_at dksX1_nameOf_0 14 rfl rfl)
theorem dX1_nameOf_17 : decode cX1_nameOf 17 = .ok (.ireturn, 1) := dk_172 (dk_at dksX1_nameOf_0 17 rfl rfl)
def fX1_nameOf (e : Nat → Nat) (N : Nat) (m : Mm) (v0 : Option Nat) (v1 : Int32) (v2 : Int32) : Rs (Int32 ⊕ Nat) := ck_ m v0 1 (bd_ (fX1_at e N m v0 v1) (xf_ (fun x1 m1 => bd_ (fX1_liveAt e N m1 x1 v2) (xf_ (fun x2 m2 => ck_ m2 x1 2 (bd_ (fX2_shownName e N m2 x1 v2) (fun x3 m3 => rt_ (.inl x3) m3)))))))
abbrev cX0_nameOf : ByteArray := method_31_code
def yX0_nameOf : MethodName := ⟨RX0, "nameOf", "(LMasterTree;II[J)I"⟩
def dkwX0_nameOf_0 : List UInt8 := [45, 3, 42, 27, 28, 182, 0, 107, 133, 80, 167, 0, 7, 58, 4, 4, 172, 3, 172]
abbrev dktX0_nameOf_0 : List UInt8 := dkwX0_nameOf_0 ++ []
theorem dksX0_nameOf_0 : cX0_nameOf.data.toList.drop 0 = dktX0_nameOf_0 := by decide +kernel
theorem dX0_nameOf_0 : decode cX0_nameOf 0 = .ok (.aload_n 3, 1) := dk_45 (dk_at dksX0_nameOf_0 0 rfl rfl)
theorem dX0_nameOf_1 : decode cX0_nameOf 1 = .ok (.iconst 0, 1) := dk_3 (dk_at dksX0_nameOf_0 1 rfl rfl)
theorem dX0_nameOf_2 : decode cX0_nameOf 2 = .ok (.aload_n 0, 1) := dk_42 (dk_at dksX0_nameOf_0 2 rfl rfl)
theorem dX0_nameOf_3 : decode cX0_nameOf 3 = .ok (.iload_n 1, 1) := dk_27 (dk_at dksX0_nameOf_0 3 rfl rfl)
theorem dX0_nameOf_4 : decode cX0_nameOf 4 = .ok (.iload_n 2, 1) := dk_28 (dk_at dksX0_nameOf_0 4 rfl rfl)
theorem dX0_nameOf_5 : decode cX0_nameOf 5 = .ok (.invokevirtual 107, 3) := dk_182 0 107 (dk_at dksX0_nameOf_0 5 rfl rfl)
theorem dX0_nameOf_8 : decode cX0_nameOf 8 = .ok (.i2l, 1) := dk_133 (dk_at dksX0_nameOf_0 8 rfl rfl)
theorem dX0_nameOf_9 : decode cX0_nameOf 9 = .ok (.lastore, 1) := dk_80 (dk_at dksX0_nameOf_0 9 rfl rfl)
theorem dX0_nameOf_10 : decode cX0_nameOf 10 = .ok (.goto 7, 3) := dk_167 0 7 (dk_at dksX0_nameOf_0 10 rfl rfl)
theorem dX0_nameOf_13 : decode cX0_nameOf 13 = .ok (.astore 4, 2) := dk_58 4 (dk_at dksX0_nameOf_0 13 rfl rfl)
theorem dX0_nameOf_15 : decode cX0_nameOf 15 = .ok (.iconst 1, 1) := dk_4 (dk_at dksX0_nameOf_0 15 rfl rfl)
theorem dX0_nameOf_16 : decode cX0_nameOf 16 = .ok (.ireturn, 1) := dk_172 (dk_at dksX0_nameOf_0 16 rfl rfl)
theorem dX0_nameOf_17 : decode cX0_nameOf 17 = .ok (.iconst 0, 1) := dk_3 (dk_at dksX0_nameOf_0 17 rfl rfl)
theorem dX0_nameOf_18 : decode cX0_nameOf 18 = .ok (.ireturn, 1) := dk_172 (dk_at dksX0_nameOf_0 18 rfl rfl)
def fX0_nameOf (e : Nat → Nat) (N : Nat) (m : Mm) (v0 : Option Nat) (v1 : Int32) (v2 : Int32) (v3 : Option Nat) : Rs (Int32) := ck_ m v0 1 (bd_ (fX1_nameOf e N m v0 v1 v2) (ch_ (fun x1 m1 => bj_ m1 v3 203 0 ((x1 : Int32).toInt64) (fun m2 => rt_ 0 m2)) (fun i_ m0 => if i_ = 0 then rt_ 1 m0 else none)))
abbrev cX1_isIndex : ByteArray := prog_1_method_12_code
def yX1_isIndex : MethodName := ⟨RX1, "isIndex", "(I)V"⟩
def dkwX1_isIndex_1 : List UInt8 := [18, 158, 182, 0, 91, 182, 0, 100, 183, 0, 104, 191, 177]
abbrev dktX1_isIndex_1 : List UInt8 := dkwX1_isIndex_1 ++ []
def dkwX1_isIndex_0 : List UInt8 := [26, 156, 0, 35, 187, 0, 84, 89, 187, 0, 86, 89, 183, 0, 88, 18, 156, 182, 0, 91, 26, 182, 0, 97]
abbrev dktX1_isIndex_0 : List UInt8 := dkwX1_isIndex_0 ++ dktX1_isIndex_1
theorem dksX1_isIndex_0 : cX1_isIndex.data.toList.drop 0 = dktX1_isIndex_0 := by decide +kernel
theorem dksX1_isIndex_1 : cX1_isIndex.data.toList.drop 24 = dktX1_isIndex_1 := dk_seg dksX1_isIndex_0 24 rfl rfl
theorem dX1_isIndex_0 : decode cX1_isIndex 0 = .ok (.iload_n 0, 1) := dk_26 (dk_at dksX1_isIndex_0 0 rfl rfl)
theorem dX1_isIndex_1 : decode cX1_isIndex 1 = .ok (.ifCond .ge 35, 3) := dk_156 0 35 (dk_at dksX1_isIndex_0 1 rfl rfl)
theorem dX1_isIndex_4 : decode cX1_isIndex 4 = .ok (.new 84, 3) := dk_187 0 84 (dk_at dksX1_isIndex_0 4 rfl rfl)
theorem dX1_isIndex_7 : decode cX1_isIndex 7 = .ok (.dup, 1) := dk_89 (dk_at dksX1_isIndex_0 7 rfl rfl)
theorem dX1_isIndex_8 : decode cX1_isIndex 8 = .ok (.new 86, 3) := dk_187 0 86 (dk_at dksX1_isIndex_0 8 rfl rfl)
theorem dX1_isIndex_11 : decode cX1_isIndex 11 = .ok (.dup, 1) := dk_89 (dk_at dksX1_isIndex_0 11 rfl rfl)
theorem dX1_isIndex_12 : decode cX1_isIndex 12 = .ok (.invokespecial 88, 3) := dk_183 0 88 (dk_at dksX1_isIndex_0 12 rfl rfl)
theorem dX1_isIndex_15 : decode cX1_isIndex 15 = .ok (.ldc 156, 2) := dk_18 156 (dk_at dksX1_isIndex_0 15 rfl rfl)
theorem dX1_isIndex_17 : decode cX1_isIndex 17 = .ok (.invokevirtual 91, 3) := dk_182 0 91 (dk_at dksX1_isIndex_0 17 rfl rfl)
theorem dX1_isIndex_20 : decode cX1_isIndex 20 = .ok (.iload_n 0, 1) := dk_26 (dk_at dksX1_isIndex_0 20 rfl rfl)
theorem dX1_isIndex_21 : decode cX1_isIndex 21 = .ok (.invokevirtual 97, 3) := dk_182 0 97 (dk_at dksX1_isIndex_0 21 rfl rfl)
theorem dX1_isIndex_24 : decode cX1_isIndex 24 = .ok (.ldc 158, 2) := dk_18 158 (dk_at dksX1_isIndex_1 0 rfl rfl)
theorem dX1_isIndex_26 : decode cX1_isIndex 26 = .ok (.invokevirtual 91, 3) := dk_182 0 91 (dk_at dksX1_isIndex_1 2 rfl rfl)
theorem dX1_isIndex_29 : decode cX1_isIndex 29 = .ok (.invokevirtual 100, 3) := dk_182 0 100 (dk_at dksX1_isIndex_1 5 rfl rfl)
theorem dX1_isIndex_32 : decode cX1_isIndex 32 = .ok (.invokespecial 104, 3) := dk_183 0 104 (dk_at dksX1_isIndex_1 8 rfl rfl)
theorem dX1_isIndex_35 : decode cX1_isIndex 35 = .ok (.athrow, 1) := dk_191 (dk_at dksX1_isIndex_1 11 rfl rfl)
theorem dX1_isIndex_36 : decode cX1_isIndex 36 = .ok (.return_, 1) := dk_177 (dk_at dksX1_isIndex_1 12 rfl rfl)
def fX1_isIndex (e : Nat → Nat) (N : Nat) (m : Mm) (v0 : Int32) : Rs (Unit ⊕ Nat) := if v0 < 0 then (nx_ m 0 (fun x1 m1 => nw_ m1 30 4 (fun x2 m2 => bd_ (fJ16_init e N m2 (some x2)) (fun _ m3 => ck_ m3 (some x2) 30 (bd_ (fJ16_append e N m3 (some x2) (some (e (100 + 38)))) (fun x3 m4 => ck_ m4 x3 30 (bd_ (fJ16_append_2 e N m4 x3 v0) (fun x4 m5 => ck_ m5 x4 30 (bd_ (fJ16_append e N m5 x4 (some (e (100 + 39)))) (fun x5 m6 => ck_ m6 x5 30 (bd_ (fJ16_toString e N m6 x5) (fun x6 m7 => xi_ m7 x1 0 (fun m8 => at_ m8 (some x1) 0 (.inr 0)))))))))))))) else (rt_ (.inl ()) m)
abbrev cX1_valueAt : ByteArray := prog_1_method_56_code
def yX1_valueAt : MethodName := ⟨RX1, "valueAt", "(IIII)I"⟩
def dkwX1_valueAt_3 : List UInt8 := [54, 9, 21, 7, 21, 4, 160, 0, 6, 21, 9, 172, 132, 7, 1, 167, 255, 218, 2, 172]
abbrev dktX1_valueAt_3 : List UInt8 := dkwX1_valueAt_3 ++ []
def dkwX1_valueAt_2 : List UInt8 := [25, 8, 185, 0, 9, 1, 0, 153, 0, 34, 25, 8, 185, 0, 15, 1, 0, 192, 1, 194, 182, 1, 199]
abbrev dktX1_valueAt_2 : List UInt8 := dkwX1_valueAt_2 ++ dktX1_valueAt_3
def dkwX1_valueAt_1 : List UInt8 := [184, 1, 232, 3, 54, 7, 25, 6, 29, 182, 1, 26, 185, 1, 236, 1, 0, 185, 1, 240, 1, 0, 58, 8]
abbrev dktX1_valueAt_1 : List UInt8 := dkwX1_valueAt_1 ++ dktX1_valueAt_2
def dkwX1_valueAt_0 : List UInt8 := [42, 27, 182, 0, 183, 58, 5, 25, 5, 28, 184, 0, 133, 58, 6, 42, 29, 182, 0, 191, 87, 21, 4]
abbrev dktX1_valueAt_0 : List UInt8 := dkwX1_valueAt_0 ++ dktX1_valueAt_1
theorem dksX1_valueAt_0 : cX1_valueAt.data.toList.drop 0 = dktX1_valueAt_0 := by decide +kernel
theorem dksX1_valueAt_1 : cX1_valueAt.data.toList.drop 23 = dktX1_valueAt_1 := dk_seg dksX1_valueAt_0 23 rfl rfl
theorem dksX1_valueAt_2 : cX1_valueAt.data.toList.drop 47 = dktX1_valueAt_2 := dk_seg dksX1_valueAt_1 24 rfl rfl
theorem dksX1_valueAt_3 : cX1_valueAt.data.toList.drop 70 = dktX1_valueAt_3 := dk_seg dksX1_valueAt_2 23 rfl rfl
theorem dX1_valueAt_0 : decode cX1_valueAt 0 = .ok (.aload_n 0, 1) := dk_42 (dk_at dksX1_valueAt_0 0 rfl rfl)
theorem dX1_valueAt_1 : decode cX1_valueAt 1 = .ok (.iload_n 1, 1) := dk_27 (dk_at dksX1_valueAt_0 1 rfl rfl)
theorem dX1_valueAt_2 : decode cX1_valueAt 2 = .ok (.invokevirtual 183, 3) := dk_182 0 183 (dk_at dksX1_valueAt_0 2 rfl rfl)
theorem dX1_valueAt_5 : decode cX1_valueAt 5 = .ok (.astore 5, 2) := dk_58 5 (dk_at dksX1_valueAt_0 5 rfl rfl)
theorem dX1_valueAt_7 : decode cX1_valueAt 7 = .ok (.aload 5, 2) := dk_25 5 (dk_at dksX1_valueAt_0 7 rfl rfl)
theorem dX1_valueAt_9 : decode cX1_valueAt 9 = .ok (.iload_n 2, 1) := dk_28 (dk_at dksX1_valueAt_0 9 rfl rfl)
theorem dX1_valueAt_10 : decode cX1_valueAt 10 = .ok (.invokestatic 133, 3) := dk_184 0 133 (dk_at dksX1_valueAt_0 10 rfl rfl)
theorem dX1_valueAt_13 : decode cX1_valueAt 13 = .ok (.astore 6, 2) := dk_58 6 (dk_at dksX1_valueAt_0 13 rfl rfl)
theorem dX1_valueAt_15 : decode cX1_valueAt 15 = .ok (.aload_n 0, 1) := dk_42 (dk_at dksX1_valueAt_0 15 rfl rfl)
theorem dX1_valueAt_16 : decode cX1_valueAt 16 = .ok (.iload_n 3, 1) := dk_29 (dk_at dksX1_valueAt_0 16 rfl rfl)
theorem dX1_valueAt_17 : decode cX1_valueAt 17 = .ok (.invokevirtual 191, 3) := dk_182 0 191 (dk_at dksX1_valueAt_0 17 rfl rfl)
theorem dX1_valueAt_20 : decode cX1_valueAt 20 = .ok (.pop, 1) := dk_87 (dk_at dksX1_valueAt_0 20 rfl rfl)
theorem dX1_valueAt_21 : decode cX1_valueAt 21 = .ok (.iload 4, 2) := dk_21 4 (dk_at dksX1_valueAt_0 21 rfl rfl)
theorem dX1_valueAt_23 : decode cX1_valueAt 23 = .ok (.invokestatic 488, 3) := dk_184 1 232 (dk_at dksX1_valueAt_1 0 rfl rfl)
theorem dX1_valueAt_26 : decode cX1_valueAt 26 = .ok (.iconst 0, 1) := dk_3 (dk_at dksX1_valueAt_1 3 rfl rfl)
theorem dX1_valueAt_27 : decode cX1_valueAt 27 = .ok (.istore 7, 2) := dk_54 7 (dk_at dksX1_valueAt_1 4 rfl rfl)
theorem dX1_valueAt_29 : decode cX1_valueAt 29 = .ok (.aload 6, 2) := dk_25 6 (dk_at dksX1_valueAt_1 6 rfl rfl)
theorem dX1_valueAt_31 : decode cX1_valueAt 31 = .ok (.iload_n 3, 1) := dk_29 (dk_at dksX1_valueAt_1 8 rfl rfl)
theorem dX1_valueAt_32 : decode cX1_valueAt 32 = .ok (.invokevirtual 282, 3) := dk_182 1 26 (dk_at dksX1_valueAt_1 9 rfl rfl)
theorem dX1_valueAt_35 : decode cX1_valueAt 35 = .ok (.invokeinterface 492 1, 5) := by decide +kernel
theorem dX1_valueAt_40 : decode cX1_valueAt 40 = .ok (.invokeinterface 496 1, 5) := by decide +kernel
theorem dX1_valueAt_45 : decode cX1_valueAt 45 = .ok (.astore 8, 2) := dk_58 8 (dk_at dksX1_valueAt_1 22 rfl rfl)
theorem dX1_valueAt_47 : decode cX1_valueAt 47 = .ok (.aload 8, 2) := dk_25 8 (dk_at dksX1_valueAt_2 0 rfl rfl)
theorem dX1_valueAt_49 : decode cX1_valueAt 49 = .ok (.invokeinterface 9 1, 5) := by decide +kernel
theorem dX1_valueAt_54 : decode cX1_valueAt 54 = .ok (.ifCond .eq 34, 3) := dk_153 0 34 (dk_at dksX1_valueAt_2 7 rfl rfl)
theorem dX1_valueAt_57 : decode cX1_valueAt 57 = .ok (.aload 8, 2) := dk_25 8 (dk_at dksX1_valueAt_2 10 rfl rfl)
theorem dX1_valueAt_59 : decode cX1_valueAt 59 = .ok (.invokeinterface 15 1, 5) := by decide +kernel
theorem dX1_valueAt_64 : decode cX1_valueAt 64 = .ok (.checkcast 450, 3) := dk_192 1 194 (dk_at dksX1_valueAt_2 17 rfl rfl)
theorem dX1_valueAt_67 : decode cX1_valueAt 67 = .ok (.invokevirtual 455, 3) := dk_182 1 199 (dk_at dksX1_valueAt_2 20 rfl rfl)
theorem dX1_valueAt_70 : decode cX1_valueAt 70 = .ok (.istore 9, 2) := dk_54 9 (dk_at dksX1_valueAt_3 0 rfl rfl)
theorem dX1_valueAt_72 : decode cX1_valueAt 72 = .ok (.iload 7, 2) := dk_21 7 (dk_at dksX1_valueAt_3 2 rfl rfl)
theorem dX1_valueAt_74 : decode cX1_valueAt 74 = .ok (.iload 4, 2) := dk_21 4 (dk_at dksX1_valueAt_3 4 rfl rfl)
theorem dX1_valueAt_76 : decode cX1_valueAt 76 = .ok (.if_icmp .ne 6, 3) := dk_160 0 6 (dk_at dksX1_valueAt_3 6 rfl rfl)
theorem dX1_valueAt_79 : decode cX1_valueAt 79 = .ok (.iload 9, 2) := dk_21 9 (dk_at dksX1_valueAt_3 9 rfl rfl)
theorem dX1_valueAt_81 : decode cX1_valueAt 81 = .ok (.ireturn, 1) := dk_172 (dk_at dksX1_valueAt_3 11 rfl rfl)
theorem dX1_valueAt_82 : decode cX1_valueAt 82 = .ok (.iinc 7 1, 3) := dk_132 7 1 (dk_at dksX1_valueAt_3 12 rfl rfl)
theorem dX1_valueAt_85 : decode cX1_valueAt 85 = .ok (.goto (-38), 3) := dk_167 255 218 (dk_at dksX1_valueAt_3 15 rfl rfl)
theorem dX1_valueAt_88 : decode cX1_valueAt 88 = .ok (.iconst (-1), 1) := dk_2 (dk_at dksX1_valueAt_3 18 rfl rfl)
theorem dX1_valueAt_89 : decode cX1_valueAt 89 = .ok (.ireturn, 1) := dk_172 (dk_at dksX1_valueAt_3 19 rfl rfl)
def fX1_valueAt_b47 (e : Nat → Nat) (N : Nat) : Nat → Mm → Int32 → Int32 → Option Nat → Rs (Int32 ⊕ Nat)
  | 0, _, _, _, _ => none
  | F + 1, m, v4, v7, v8 => ck_ m v8 26 (bd_ (fJ42_hasNext e N m v8) (fun x1 m1 => if x1 = 0 then (rt_ (.inl (-1)) m1) else (ck_ m1 v8 26 (bd_ (fJ42_next e N m1 v8) (fun x2 m2 => cc_ m2 x2 [27] (ck_ m2 x2 27 (bd_ (fJ21_intValue e N m2 x2) (fun x3 m3 => if v7 = v4 then (rt_ (.inl x3) m3) else (fX1_valueAt_b47 e N F m3 v4 (v7 + 1) v8)))))))))
def fX1_valueAt (e : Nat → Nat) (N : Nat) (m : Mm) (v0 : Option Nat) (v1 : Int32) (v2 : Int32) (v3 : Int32) (v4 : Int32) : Rs (Int32 ⊕ Nat) := ck_ m v0 1 (bd_ (fX1_at e N m v0 v1) (xf_ (fun x1 m1 => bd_ (fX1_liveAt e N m1 x1 v2) (xf_ (fun x2 m2 => ck_ m2 v0 1 (bd_ (fX1_attributeAt e N m2 v0 v3) (xf_ (fun x3 m3 => bd_ (fX1_isIndex e N m3 v4) (xf_ (fun _ m4 => ck_ m4 x2 3 (bd_ (fX3_valuesOf e N m4 x2 v3) (fun x4 m5 => ck_ m5 x4 21 (bd_ (fJ3_values_t21 e N m5 x4) (fun x5 m6 => ck_ m6 x5 25 (bd_ (fJ46_iterator e N m6 x5) (fun x6 m7 => fX1_valueAt_b47 e N N m7 v4 0 x6))))))))))))))))
theorem wX12_applies_d5_b17 {l : Launch} {g : GG} {E : Me_} (C : Cx_ l g E "MasterTree$Not" cX12_applies 3 25) (hret : (eT_ E).sig.returnType = (Option.some Jvm.ClassFile.FieldType.boolean)) (h0 : ∀ x ∈ (eC_ E).exceptionTable.toList, False) (hin : (eT_ E).name = "applies") (N : Nat) : ∀ (m : Mm) (s0 : Int32) (k n : Nat), Sm_ l g E 3 en_i (fX12_applies_d5_b17 (gE_ g) N m s0) k n 17 [] [vi_ s0] m := by
  intro m s0 k n
  unfold fX12_applies_d5_b17
  exact x_zret C hret rfl dX12_applies_17
theorem wX12_applies_d5 {l : Launch} {g : GG} {E : Me_} (C : Cx_ l g E "MasterTree$Not" cX12_applies 3 25) (hret : (eT_ E).sig.returnType = (Option.some Jvm.ClassFile.FieldType.boolean)) (h0 : ∀ x ∈ (eC_ E).exceptionTable.toList, False) (hin : (eT_ E).name = "applies") (N : Nat) : ∀ (m : Mm) (v0 : Option Nat) (v1 : Option Nat) (v2 : Option Nat) (k n : Nat), Sm_ l g E 3 en_i (fX12_applies_d5 (gE_ g) N m v0 v1 v2) k n 0 [(0, vr_ v0), (1, vr_ v1), (2, vr_ v2)] [] m := by
  intro m v0 v1 v2 k n
  unfold fX12_applies_d5
  refine s_aload_n C rfl 0 rfl dX12_applies_0 1 rfl ?_
  refine x_gr C 10 (RX12, TX12, 1) rfl 0 (Nat.le_of_ble_eq_true rfl) q2666 (Or.inl rfl) rfl 11 rfl dX12_applies_1 4 rfl (fun x1 => ?_)
  refine s_aload_n C rfl 1 rfl dX12_applies_4 5 rfl ?_
  refine s_aload_n C rfl 2 rfl dX12_applies_5 6 rfl ?_
  refine x_wi [] 9 (fun kk_ => ?_) (fun x2 m1 k1 n1 => ?_)
  · refine x_csr (kd := 8) (fun hb_ hb0_ => ?_) ?_
    · exact x_callA (enc := en_i) (owner := "MasterTree$Filter") C 19 2 [vr_ v1, vr_ v2] 8 (ctX9_applies C.2.2.2.2.2.2.2.2.1 N m x1 v1 v2) hb_ hb0_ rfl rfl q2834 q2797 q2801 q2802 q139 q2803 q2796 ⟨by decide +kernel, by decide +kernel, by decide +kernel⟩ (Nat.le_of_ble_eq_true rfl) (Nat.le_of_ble_eq_true rfl) rfl (Nat.le_of_ble_eq_true rfl) dX12_applies_6 9 rfl rfl hen_i (kk_i kk_) (kx_n he_i)
    refine x_csr (kd := 9) (fun hb_ hb0_ => ?_) ?_
    · exact x_callA (enc := en_i) (owner := "MasterTree$Filter") C 13 2 [vr_ v1, vr_ v2] 9 (ctX10_applies C.2.2.2.2.2.2.2.2.1 N m x1 v1 v2) hb_ hb0_ rfl rfl q2834 q2797 q2798 q2799 q140 q2800 q2796 ⟨by decide +kernel, by decide +kernel, by decide +kernel⟩ (Nat.le_of_ble_eq_true rfl) (Nat.le_of_ble_eq_true rfl) rfl (Nat.le_of_ble_eq_true rfl) dX12_applies_6 9 rfl rfl hen_i (kk_i kk_) (kx_n he_i)
    refine x_csr (kd := 10) (fun hb_ hb0_ => ?_) ?_
    · exact x_callA (enc := en_i) (owner := "MasterTree$Filter") C 24 2 [vr_ v1, vr_ v2] 10 (ctX11_applies_d4 C.2.2.2.2.2.2.2.2.1 N m x1 v1 v2) hb_ hb0_ rfl rfl q2834 q2797 q2828 q2829 q141 q2830 q2796 ⟨by decide +kernel, by decide +kernel, by decide +kernel⟩ (Nat.le_of_ble_eq_true rfl) (Nat.le_of_ble_eq_true rfl) rfl (Nat.le_of_ble_eq_true rfl) dX12_applies_6 9 rfl rfl hen_i (kk_i kk_) (kx_n he_i)
    refine x_csr (kd := 11) (fun hb_ hb0_ => ?_) ?_
    · exact x_callA (enc := en_i) (owner := "MasterTree$Filter") C 24 2 [vr_ v1, vr_ v2] 11 (ctX12_applies_d4 C.2.2.2.2.2.2.2.2.1 N m x1 v1 v2) hb_ hb0_ rfl rfl q2834 q2797 q2835 q2832 q142 q2833 q2796 ⟨by decide +kernel, by decide +kernel, by decide +kernel⟩ (Nat.le_of_ble_eq_true rfl) (Nat.le_of_ble_eq_true rfl) rfl (Nat.le_of_ble_eq_true rfl) dX12_applies_6 9 rfl rfl hen_i (kk_i kk_) (kx_n he_i)
    exact Sm_bn
  refine s_if_ne C dX12_applies_9 16 rfl 12 rfl (fun c_ => ?_) (fun c_ => ?_)
  · refine s_iconst C 1 rfl dX12_applies_12 13 rfl ?_
    refine s_goto C (off := 4) 17 dX12_applies_13 rfl ?_
    refine Sm_sub [] rfl ?_
    exact wX12_applies_d5_b17 C hret h0 hin N _ _ _ _
  · refine s_iconst C 0 rfl dX12_applies_16 17 rfl ?_
    refine Sm_sub [] rfl ?_
    exact wX12_applies_d5_b17 C hret h0 hin N _ _ _ _
theorem hdX12_applies_d5 : ((⟨"MasterTree$Not", "applies", "(LMasterTree$Master;LMasterTree$Entry;)Z"⟩ : MethodName)).cls ≠ "java/lang/invoke/MethodHandle" ∧ ((⟨"MasterTree$Not", "applies", "(LMasterTree$Master;LMasterTree$Entry;)Z"⟩ : MethodName)).cls ≠ "java/lang/invoke/VarHandle" ∧ (parseMethodDescriptor ((⟨"MasterTree$Not", "applies", "(LMasterTree$Master;LMasterTree$Entry;)Z"⟩ : MethodName)).desc).map (fun d => d.parameters.length) = some 2 := ⟨by decide +kernel, by decide +kernel, by decide +kernel⟩
theorem ctX12_applies_d5 {l : Launch} {g : GG} (hst : l.stackTraces = false) (N : Nat) (m : Mm) (v0 : Option Nat) (v1 : Option Nat) (v2 : Option Nat) : ∀ v m' k n, fX12_applies_d5 (gE_ g) N m v0 v1 v2 = some (v, m', k, n) → Ct_ l g (⟨"MasterTree$Not", "applies", "(LMasterTree$Master;LMasterTree$Entry;)Z"⟩ : MethodName) (ws_ (⟨"MasterTree$Not", "applies", "(LMasterTree$Master;LMasterTree$Entry;)Z"⟩ : MethodName) cX12_applies 3 (Option.some Jvm.ClassFile.FieldType.boolean)) 25 [vr_ v0, vr_ v1, vr_ v2] m (en_i v) m' k n :=
  Ct_of (by decide +kernel) rfl hst (Nat.le_of_ble_eq_true rfl) rfl (fun E C hret h0 hin => wX12_applies_d5 C hret h0 hin N m v0 v1 v2 0 0)
theorem wX11_applies_d6_b68 {l : Launch} {g : GG} {E : Me_} (C : Cx_ l g E "MasterTree$Combined" cX11_applies 3 26) (hret : (eT_ E).sig.returnType = (Option.some Jvm.ClassFile.FieldType.boolean)) (h0 : ∀ x ∈ (eC_ E).exceptionTable.toList, False) (hin : (eT_ E).name = "applies") (N : Nat) : ∀ (m : Mm) (s0 : Int32) (k n : Nat), Sm_ l g E 3 en_i (fX11_applies_d6_b68 (gE_ g) N m s0) k n 68 [] [vi_ s0] m := by
  intro m s0 k n
  unfold fX11_applies_d6_b68
  exact x_zret C hret rfl dX11_applies_68
theorem wX11_applies_d6_b35 {l : Launch} {g : GG} {E : Me_} (C : Cx_ l g E "MasterTree$Combined" cX11_applies 3 26) (hret : (eT_ E).sig.returnType = (Option.some Jvm.ClassFile.FieldType.boolean)) (h0 : ∀ x ∈ (eC_ E).exceptionTable.toList, False) (hin : (eT_ E).name = "applies") (N : Nat) : ∀ (m : Mm) (k n : Nat), Sm_ l g E 3 en_i (fX11_applies_d6_b35 (gE_ g) N m) k n 35 [] [] m := by
  intro m k n
  unfold fX11_applies_d6_b35
  refine s_iconst C 0 rfl dX11_applies_35 36 rfl ?_
  refine s_goto C (off := 32) 68 dX11_applies_36 rfl ?_
  exact wX11_applies_d6_b68 C hret h0 hin N _ _ _ _
theorem wX11_applies_d6_b63 {l : Launch} {g : GG} {E : Me_} (C : Cx_ l g E "MasterTree$Combined" cX11_applies 3 26) (hret : (eT_ E).sig.returnType = (Option.some Jvm.ClassFile.FieldType.boolean)) (h0 : ∀ x ∈ (eC_ E).exceptionTable.toList, False) (hin : (eT_ E).name = "applies") (N : Nat) : ∀ (m : Mm) (k n : Nat), Sm_ l g E 3 en_i (fX11_applies_d6_b63 (gE_ g) N m) k n 63 [] [] m := by
  intro m k n
  unfold fX11_applies_d6_b63
  refine s_iconst C 1 rfl dX11_applies_63 64 rfl ?_
  refine s_goto C (off := 4) 68 dX11_applies_64 rfl ?_
  exact wX11_applies_d6_b68 C hret h0 hin N _ _ _ _
theorem wX11_applies_d6 {l : Launch} {g : GG} {E : Me_} (C : Cx_ l g E "MasterTree$Combined" cX11_applies 3 26) (hret : (eT_ E).sig.returnType = (Option.some Jvm.ClassFile.FieldType.boolean)) (h0 : ∀ x ∈ (eC_ E).exceptionTable.toList, False) (hin : (eT_ E).name = "applies") (N : Nat) : ∀ (m : Mm) (v0 : Option Nat) (v1 : Option Nat) (v2 : Option Nat) (k n : Nat), Sm_ l g E 3 en_i (fX11_applies_d6 (gE_ g) N m v0 v1 v2) k n 0 [(0, vr_ v0), (1, vr_ v1), (2, vr_ v2)] [] m := by
  intro m v0 v1 v2 k n
  unfold fX11_applies_d6
  refine s_aload_n C rfl 0 rfl dX11_applies_0 1 rfl ?_
  refine x_gi C 9 (RX11, TX11, 3) rfl 2 (Nat.le_of_ble_eq_true rfl) q2642 (Or.inl rfl) rfl 10 rfl dX11_applies_1 4 rfl (fun x1 => ?_)
  refine s_if_eq C dX11_applies_4 39 rfl 7 rfl (fun c_ => ?_) (fun c_ => ?_)
  · refine s_aload_n C rfl 0 rfl dX11_applies_39 40 rfl ?_
    refine x_gr C 9 (RX11, TX11, 3) rfl 0 (Nat.le_of_ble_eq_true rfl) q2640 (Or.inl rfl) rfl 10 rfl dX11_applies_40 43 rfl (fun x2 => ?_)
    refine s_aload_n C rfl 1 rfl dX11_applies_43 44 rfl ?_
    refine s_aload_n C rfl 2 rfl dX11_applies_44 45 rfl ?_
    refine x_wi [] 48 (fun kk_ => ?_) (fun x3 m1 k1 n1 => ?_)
    · refine x_csr (kd := 8) (fun hb_ hb0_ => ?_) ?_
      · exact x_callA (enc := en_i) (owner := "MasterTree$Filter") C 19 2 [vr_ v1, vr_ v2] 8 (ctX9_applies C.2.2.2.2.2.2.2.2.1 N m x2 v1 v2) hb_ hb0_ rfl rfl q2831 q2797 q2801 q2802 q139 q2803 q2796 ⟨by decide +kernel, by decide +kernel, by decide +kernel⟩ (Nat.le_of_ble_eq_true rfl) (Nat.le_of_ble_eq_true rfl) rfl (Nat.le_of_ble_eq_true rfl) dX11_applies_45 48 rfl rfl hen_i (kk_i kk_) (kx_n he_i)
      refine x_csr (kd := 9) (fun hb_ hb0_ => ?_) ?_
      · exact x_callA (enc := en_i) (owner := "MasterTree$Filter") C 13 2 [vr_ v1, vr_ v2] 9 (ctX10_applies C.2.2.2.2.2.2.2.2.1 N m x2 v1 v2) hb_ hb0_ rfl rfl q2831 q2797 q2798 q2799 q140 q2800 q2796 ⟨by decide +kernel, by decide +kernel, by decide +kernel⟩ (Nat.le_of_ble_eq_true rfl) (Nat.le_of_ble_eq_true rfl) rfl (Nat.le_of_ble_eq_true rfl) dX11_applies_45 48 rfl rfl hen_i (kk_i kk_) (kx_n he_i)
      refine x_csr (kd := 10) (fun hb_ hb0_ => ?_) ?_
      · exact x_callA (enc := en_i) (owner := "MasterTree$Filter") C 25 2 [vr_ v1, vr_ v2] 10 (ctX11_applies_d5 C.2.2.2.2.2.2.2.2.1 N m x2 v1 v2) hb_ hb0_ rfl rfl q2831 q2797 q2828 q2829 q141 q2830 q2796 ⟨by decide +kernel, by decide +kernel, by decide +kernel⟩ (Nat.le_of_ble_eq_true rfl) (Nat.le_of_ble_eq_true rfl) rfl (Nat.le_of_ble_eq_true rfl) dX11_applies_45 48 rfl rfl hen_i (kk_i kk_) (kx_n he_i)
      refine x_csr (kd := 11) (fun hb_ hb0_ => ?_) ?_
      · exact x_callA (enc := en_i) (owner := "MasterTree$Filter") C 25 2 [vr_ v1, vr_ v2] 11 (ctX12_applies_d5 C.2.2.2.2.2.2.2.2.1 N m x2 v1 v2) hb_ hb0_ rfl rfl q2831 q2797 q2835 q2832 q142 q2833 q2796 ⟨by decide +kernel, by decide +kernel, by decide +kernel⟩ (Nat.le_of_ble_eq_true rfl) (Nat.le_of_ble_eq_true rfl) rfl (Nat.le_of_ble_eq_true rfl) dX11_applies_45 48 rfl rfl hen_i (kk_i kk_) (kx_n he_i)
      exact Sm_bn
    refine s_if_ne C dX11_applies_48 63 rfl 51 rfl (fun c_ => ?_) (fun c_ => ?_)
    · refine s_aload_n C rfl 0 rfl dX11_applies_51 52 rfl ?_
      refine x_gr C 9 (RX11, TX11, 3) rfl 1 (Nat.le_of_ble_eq_true rfl) q2641 (Or.inl rfl) rfl 10 rfl dX11_applies_52 55 rfl (fun x8 => ?_)
      refine s_aload_n C rfl 1 rfl dX11_applies_55 56 rfl ?_
      refine s_aload_n C rfl 2 rfl dX11_applies_56 57 rfl ?_
      refine x_wi [] 60 (fun kk_ => ?_) (fun x9 m6 k1 n1 => ?_)
      · refine x_csr (kd := 8) (fun hb_ hb0_ => ?_) ?_
        · exact x_callA (enc := en_i) (owner := "MasterTree$Filter") C 19 2 [vr_ v1, vr_ v2] 8 (ctX9_applies C.2.2.2.2.2.2.2.2.1 N m1 x8 v1 v2) hb_ hb0_ rfl rfl q2831 q2797 q2801 q2802 q139 q2803 q2796 ⟨by decide +kernel, by decide +kernel, by decide +kernel⟩ (Nat.le_of_ble_eq_true rfl) (Nat.le_of_ble_eq_true rfl) rfl (Nat.le_of_ble_eq_true rfl) dX11_applies_57 60 rfl rfl hen_i (kk_i kk_) (kx_n he_i)
        refine x_csr (kd := 9) (fun hb_ hb0_ => ?_) ?_
        · exact x_callA (enc := en_i) (owner := "MasterTree$Filter") C 13 2 [vr_ v1, vr_ v2] 9 (ctX10_applies C.2.2.2.2.2.2.2.2.1 N m1 x8 v1 v2) hb_ hb0_ rfl rfl q2831 q2797 q2798 q2799 q140 q2800 q2796 ⟨by decide +kernel, by decide +kernel, by decide +kernel⟩ (Nat.le_of_ble_eq_true rfl) (Nat.le_of_ble_eq_true rfl) rfl (Nat.le_of_ble_eq_true rfl) dX11_applies_57 60 rfl rfl hen_i (kk_i kk_) (kx_n he_i)
        refine x_csr (kd := 10) (fun hb_ hb0_ => ?_) ?_
        · exact x_callA (enc := en_i) (owner := "MasterTree$Filter") C 25 2 [vr_ v1, vr_ v2] 10 (ctX11_applies_d5 C.2.2.2.2.2.2.2.2.1 N m1 x8 v1 v2) hb_ hb0_ rfl rfl q2831 q2797 q2828 q2829 q141 q2830 q2796 ⟨by decide +kernel, by decide +kernel, by decide +kernel⟩ (Nat.le_of_ble_eq_true rfl) (Nat.le_of_ble_eq_true rfl) rfl (Nat.le_of_ble_eq_true rfl) dX11_applies_57 60 rfl rfl hen_i (kk_i kk_) (kx_n he_i)
        refine x_csr (kd := 11) (fun hb_ hb0_ => ?_) ?_
        · exact x_callA (enc := en_i) (owner := "MasterTree$Filter") C 25 2 [vr_ v1, vr_ v2] 11 (ctX12_applies_d5 C.2.2.2.2.2.2.2.2.1 N m1 x8 v1 v2) hb_ hb0_ rfl rfl q2831 q2797 q2835 q2832 q142 q2833 q2796 ⟨by decide +kernel, by decide +kernel, by decide +kernel⟩ (Nat.le_of_ble_eq_true rfl) (Nat.le_of_ble_eq_true rfl) rfl (Nat.le_of_ble_eq_true rfl) dX11_applies_57 60 rfl rfl hen_i (kk_i kk_) (kx_n he_i)
        exact Sm_bn
      refine s_if_eq C dX11_applies_60 67 rfl 63 rfl (fun c_ => ?_) (fun c_ => ?_)
      · refine s_iconst C 0 rfl dX11_applies_67 68 rfl ?_
        refine Sm_sub [] rfl ?_
        exact wX11_applies_d6_b68 C hret h0 hin N _ _ _ _
      · refine Sm_sub [] rfl ?_
        exact wX11_applies_d6_b63 C hret h0 hin N _ _ _
    · refine Sm_sub [] rfl ?_
      exact wX11_applies_d6_b63 C hret h0 hin N _ _ _
  · refine s_aload_n C rfl 0 rfl dX11_applies_7 8 rfl ?_
    refine x_gr C 9 (RX11, TX11, 3) rfl 0 (Nat.le_of_ble_eq_true rfl) q2640 (Or.inl rfl) rfl 10 rfl dX11_applies_8 11 rfl (fun x14 => ?_)
    refine s_aload_n C rfl 1 rfl dX11_applies_11 12 rfl ?_
    refine s_aload_n C rfl 2 rfl dX11_applies_12 13 rfl ?_
    refine x_wi [] 16 (fun kk_ => ?_) (fun x15 m11 k1 n1 => ?_)
    · refine x_csr (kd := 8) (fun hb_ hb0_ => ?_) ?_
      · exact x_callA (enc := en_i) (owner := "MasterTree$Filter") C 19 2 [vr_ v1, vr_ v2] 8 (ctX9_applies C.2.2.2.2.2.2.2.2.1 N m x14 v1 v2) hb_ hb0_ rfl rfl q2831 q2797 q2801 q2802 q139 q2803 q2796 ⟨by decide +kernel, by decide +kernel, by decide +kernel⟩ (Nat.le_of_ble_eq_true rfl) (Nat.le_of_ble_eq_true rfl) rfl (Nat.le_of_ble_eq_true rfl) dX11_applies_13 16 rfl rfl hen_i (kk_i kk_) (kx_n he_i)
      refine x_csr (kd := 9) (fun hb_ hb0_ => ?_) ?_
      · exact x_callA (enc := en_i) (owner := "MasterTree$Filter") C 13 2 [vr_ v1, vr_ v2] 9 (ctX10_applies C.2.2.2.2.2.2.2.2.1 N m x14 v1 v2) hb_ hb0_ rfl rfl q2831 q2797 q2798 q2799 q140 q2800 q2796 ⟨by decide +kernel, by decide +kernel, by decide +kernel⟩ (Nat.le_of_ble_eq_true rfl) (Nat.le_of_ble_eq_true rfl) rfl (Nat.le_of_ble_eq_true rfl) dX11_applies_13 16 rfl rfl hen_i (kk_i kk_) (kx_n he_i)
      refine x_csr (kd := 10) (fun hb_ hb0_ => ?_) ?_
      · exact x_callA (enc := en_i) (owner := "MasterTree$Filter") C 25 2 [vr_ v1, vr_ v2] 10 (ctX11_applies_d5 C.2.2.2.2.2.2.2.2.1 N m x14 v1 v2) hb_ hb0_ rfl rfl q2831 q2797 q2828 q2829 q141 q2830 q2796 ⟨by decide +kernel, by decide +kernel, by decide +kernel⟩ (Nat.le_of_ble_eq_true rfl) (Nat.le_of_ble_eq_true rfl) rfl (Nat.le_of_ble_eq_true rfl) dX11_applies_13 16 rfl rfl hen_i (kk_i kk_) (kx_n he_i)
      refine x_csr (kd := 11) (fun hb_ hb0_ => ?_) ?_
      · exact x_callA (enc := en_i) (owner := "MasterTree$Filter") C 25 2 [vr_ v1, vr_ v2] 11 (ctX12_applies_d5 C.2.2.2.2.2.2.2.2.1 N m x14 v1 v2) hb_ hb0_ rfl rfl q2831 q2797 q2835 q2832 q142 q2833 q2796 ⟨by decide +kernel, by decide +kernel, by decide +kernel⟩ (Nat.le_of_ble_eq_true rfl) (Nat.le_of_ble_eq_true rfl) rfl (Nat.le_of_ble_eq_true rfl) dX11_applies_13 16 rfl rfl hen_i (kk_i kk_) (kx_n he_i)
      exact Sm_bn
    refine s_if_eq C dX11_applies_16 35 rfl 19 rfl (fun c_ => ?_) (fun c_ => ?_)
    · refine Sm_sub [] rfl ?_
      exact wX11_applies_d6_b35 C hret h0 hin N _ _ _
    · refine s_aload_n C rfl 0 rfl dX11_applies_19 20 rfl ?_
      refine x_gr C 9 (RX11, TX11, 3) rfl 1 (Nat.le_of_ble_eq_true rfl) q2641 (Or.inl rfl) rfl 10 rfl dX11_applies_20 23 rfl (fun x20 => ?_)
      refine s_aload_n C rfl 1 rfl dX11_applies_23 24 rfl ?_
      refine s_aload_n C rfl 2 rfl dX11_applies_24 25 rfl ?_
      refine x_wi [] 28 (fun kk_ => ?_) (fun x21 m16 k1 n1 => ?_)
      · refine x_csr (kd := 8) (fun hb_ hb0_ => ?_) ?_
        · exact x_callA (enc := en_i) (owner := "MasterTree$Filter") C 19 2 [vr_ v1, vr_ v2] 8 (ctX9_applies C.2.2.2.2.2.2.2.2.1 N m11 x20 v1 v2) hb_ hb0_ rfl rfl q2831 q2797 q2801 q2802 q139 q2803 q2796 ⟨by decide +kernel, by decide +kernel, by decide +kernel⟩ (Nat.le_of_ble_eq_true rfl) (Nat.le_of_ble_eq_true rfl) rfl (Nat.le_of_ble_eq_true rfl) dX11_applies_25 28 rfl rfl hen_i (kk_i kk_) (kx_n he_i)
        refine x_csr (kd := 9) (fun hb_ hb0_ => ?_) ?_
        · exact x_callA (enc := en_i) (owner := "MasterTree$Filter") C 13 2 [vr_ v1, vr_ v2] 9 (ctX10_applies C.2.2.2.2.2.2.2.2.1 N m11 x20 v1 v2) hb_ hb0_ rfl rfl q2831 q2797 q2798 q2799 q140 q2800 q2796 ⟨by decide +kernel, by decide +kernel, by decide +kernel⟩ (Nat.le_of_ble_eq_true rfl) (Nat.le_of_ble_eq_true rfl) rfl (Nat.le_of_ble_eq_true rfl) dX11_applies_25 28 rfl rfl hen_i (kk_i kk_) (kx_n he_i)
        refine x_csr (kd := 10) (fun hb_ hb0_ => ?_) ?_
        · exact x_callA (enc := en_i) (owner := "MasterTree$Filter") C 25 2 [vr_ v1, vr_ v2] 10 (ctX11_applies_d5 C.2.2.2.2.2.2.2.2.1 N m11 x20 v1 v2) hb_ hb0_ rfl rfl q2831 q2797 q2828 q2829 q141 q2830 q2796 ⟨by decide +kernel, by decide +kernel, by decide +kernel⟩ (Nat.le_of_ble_eq_true rfl) (Nat.le_of_ble_eq_true rfl) rfl (Nat.le_of_ble_eq_true rfl) dX11_applies_25 28 rfl rfl hen_i (kk_i kk_) (kx_n he_i)
        refine x_csr (kd := 11) (fun hb_ hb0_ => ?_) ?_
        · exact x_callA (enc := en_i) (owner := "MasterTree$Filter") C 25 2 [vr_ v1, vr_ v2] 11 (ctX12_applies_d5 C.2.2.2.2.2.2.2.2.1 N m11 x20 v1 v2) hb_ hb0_ rfl rfl q2831 q2797 q2835 q2832 q142 q2833 q2796 ⟨by decide +kernel, by decide +kernel, by decide +kernel⟩ (Nat.le_of_ble_eq_true rfl) (Nat.le_of_ble_eq_true rfl) rfl (Nat.le_of_ble_eq_true rfl) dX11_applies_25 28 rfl rfl hen_i (kk_i kk_) (kx_n he_i)
        exact Sm_bn
      refine s_if_eq C dX11_applies_28 35 rfl 31 rfl (fun c_ => ?_) (fun c_ => ?_)
      · refine Sm_sub [] rfl ?_
        exact wX11_applies_d6_b35 C hret h0 hin N _ _ _
      · refine s_iconst C 1 rfl dX11_applies_31 32 rfl ?_
        refine s_goto C (off := 36) 68 dX11_applies_32 rfl ?_
        refine Sm_sub [] rfl ?_
        exact wX11_applies_d6_b68 C hret h0 hin N _ _ _ _
theorem hdX11_applies_d6 : ((⟨"MasterTree$Combined", "applies", "(LMasterTree$Master;LMasterTree$Entry;)Z"⟩ : MethodName)).cls ≠ "java/lang/invoke/MethodHandle" ∧ ((⟨"MasterTree$Combined", "applies", "(LMasterTree$Master;LMasterTree$Entry;)Z"⟩ : MethodName)).cls ≠ "java/lang/invoke/VarHandle" ∧ (parseMethodDescriptor ((⟨"MasterTree$Combined", "applies", "(LMasterTree$Master;LMasterTree$Entry;)Z"⟩ : MethodName)).desc).map (fun d => d.parameters.length) = some 2 := ⟨by decide +kernel, by decide +kernel, by decide +kernel⟩
theorem ctX11_applies_d6 {l : Launch} {g : GG} (hst : l.stackTraces = false) (N : Nat) (m : Mm) (v0 : Option Nat) (v1 : Option Nat) (v2 : Option Nat) : ∀ v m' k n, fX11_applies_d6 (gE_ g) N m v0 v1 v2 = some (v, m', k, n) → Ct_ l g (⟨"MasterTree$Combined", "applies", "(LMasterTree$Master;LMasterTree$Entry;)Z"⟩ : MethodName) (ws_ (⟨"MasterTree$Combined", "applies", "(LMasterTree$Master;LMasterTree$Entry;)Z"⟩ : MethodName) cX11_applies 3 (Option.some Jvm.ClassFile.FieldType.boolean)) 26 [vr_ v0, vr_ v1, vr_ v2] m (en_i v) m' k n :=
  Ct_of (by decide +kernel) rfl hst (Nat.le_of_ble_eq_true rfl) rfl (fun E C hret h0 hin => wX11_applies_d6 C hret h0 hin N m v0 v1 v2 0 0)
theorem wX12_applies_d6_b17 {l : Launch} {g : GG} {E : Me_} (C : Cx_ l g E "MasterTree$Not" cX12_applies 3 26) (hret : (eT_ E).sig.returnType = (Option.some Jvm.ClassFile.FieldType.boolean)) (h0 : ∀ x ∈ (eC_ E).exceptionTable.toList, False) (hin : (eT_ E).name = "applies") (N : Nat) : ∀ (m : Mm) (s0 : Int32) (k n : Nat), Sm_ l g E 3 en_i (fX12_applies_d6_b17 (gE_ g) N m s0) k n 17 [] [vi_ s0] m := by
  intro m s0 k n
  unfold fX12_applies_d6_b17
  exact x_zret C hret rfl dX12_applies_17
theorem wX12_applies_d6 {l : Launch} {g : GG} {E : Me_} (C : Cx_ l g E "MasterTree$Not" cX12_applies 3 26) (hret : (eT_ E).sig.returnType = (Option.some Jvm.ClassFile.FieldType.boolean)) (h0 : ∀ x ∈ (eC_ E).exceptionTable.toList, False) (hin : (eT_ E).name = "applies") (N : Nat) : ∀ (m : Mm) (v0 : Option Nat) (v1 : Option Nat) (v2 : Option Nat) (k n : Nat), Sm_ l g E 3 en_i (fX12_applies_d6 (gE_ g) N m v0 v1 v2) k n 0 [(0, vr_ v0), (1, vr_ v1), (2, vr_ v2)] [] m := by
  intro m v0 v1 v2 k n
  unfold fX12_applies_d6
  refine s_aload_n C rfl 0 rfl dX12_applies_0 1 rfl ?_
  refine x_gr C 10 (RX12, TX12, 1) rfl 0 (Nat.le_of_ble_eq_true rfl) q2666 (Or.inl rfl) rfl 11 rfl dX12_applies_1 4 rfl (fun x1 => ?_)
  refine s_aload_n C rfl 1 rfl dX12_applies_4 5 rfl ?_
  refine s_aload_n C rfl 2 rfl dX12_applies_5 6 rfl ?_
  refine x_wi [] 9 (fun kk_ => ?_) (fun x2 m1 k1 n1 => ?_)
  · refine x_csr (kd := 8) (fun hb_ hb0_ => ?_) ?_
    · exact x_callA (enc := en_i) (owner := "MasterTree$Filter") C 19 2 [vr_ v1, vr_ v2] 8 (ctX9_applies C.2.2.2.2.2.2.2.2.1 N m x1 v1 v2) hb_ hb0_ rfl rfl q2834 q2797 q2801 q2802 q139 q2803 q2796 ⟨by decide +kernel, by decide +kernel, by decide +kernel⟩ (Nat.le_of_ble_eq_true rfl) (Nat.le_of_ble_eq_true rfl) rfl (Nat.le_of_ble_eq_true rfl) dX12_applies_6 9 rfl rfl hen_i (kk_i kk_) (kx_n he_i)
    refine x_csr (kd := 9) (fun hb_ hb0_ => ?_) ?_
    · exact x_callA (enc := en_i) (owner := "MasterTree$Filter") C 13 2 [vr_ v1, vr_ v2] 9 (ctX10_applies C.2.2.2.2.2.2.2.2.1 N m x1 v1 v2) hb_ hb0_ rfl rfl q2834 q2797 q2798 q2799 q140 q2800 q2796 ⟨by decide +kernel, by decide +kernel, by decide +kernel⟩ (Nat.le_of_ble_eq_true rfl) (Nat.le_of_ble_eq_true rfl) rfl (Nat.le_of_ble_eq_true rfl) dX12_applies_6 9 rfl rfl hen_i (kk_i kk_) (kx_n he_i)
    refine x_csr (kd := 10) (fun hb_ hb0_ => ?_) ?_
    · exact x_callA (enc := en_i) (owner := "MasterTree$Filter") C 25 2 [vr_ v1, vr_ v2] 10 (ctX11_applies_d5 C.2.2.2.2.2.2.2.2.1 N m x1 v1 v2) hb_ hb0_ rfl rfl q2834 q2797 q2828 q2829 q141 q2830 q2796 ⟨by decide +kernel, by decide +kernel, by decide +kernel⟩ (Nat.le_of_ble_eq_true rfl) (Nat.le_of_ble_eq_true rfl) rfl (Nat.le_of_ble_eq_true rfl) dX12_applies_6 9 rfl rfl hen_i (kk_i kk_) (kx_n he_i)
    refine x_csr (kd := 11) (fun hb_ hb0_ => ?_) ?_
    · exact x_callA (enc := en_i) (owner := "MasterTree$Filter") C 25 2 [vr_ v1, vr_ v2] 11 (ctX12_applies_d5 C.2.2.2.2.2.2.2.2.1 N m x1 v1 v2) hb_ hb0_ rfl rfl q2834 q2797 q2835 q2832 q142 q2833 q2796 ⟨by decide +kernel, by decide +kernel, by decide +kernel⟩ (Nat.le_of_ble_eq_true rfl) (Nat.le_of_ble_eq_true rfl) rfl (Nat.le_of_ble_eq_true rfl) dX12_applies_6 9 rfl rfl hen_i (kk_i kk_) (kx_n he_i)
    exact Sm_bn
  refine s_if_ne C dX12_applies_9 16 rfl 12 rfl (fun c_ => ?_) (fun c_ => ?_)
  · refine s_iconst C 1 rfl dX12_applies_12 13 rfl ?_
    refine s_goto C (off := 4) 17 dX12_applies_13 rfl ?_
    refine Sm_sub [] rfl ?_
    exact wX12_applies_d6_b17 C hret h0 hin N _ _ _ _
  · refine s_iconst C 0 rfl dX12_applies_16 17 rfl ?_
    refine Sm_sub [] rfl ?_
    exact wX12_applies_d6_b17 C hret h0 hin N _ _ _ _
theorem hdX12_applies_d6 : ((⟨"MasterTree$Not", "applies", "(LMasterTree$Master;LMasterTree$Entry;)Z"⟩ : MethodName)).cls ≠ "java/lang/invoke/MethodHandle" ∧ ((⟨"MasterTree$Not", "applies", "(LMasterTree$Master;LMasterTree$Entry;)Z"⟩ : MethodName)).cls ≠ "java/lang/invoke/VarHandle" ∧ (parseMethodDescriptor ((⟨"MasterTree$Not", "applies", "(LMasterTree$Master;LMasterTree$Entry;)Z"⟩ : MethodName)).desc).map (fun d => d.parameters.length) = some 2 := ⟨by decide +kernel, by decide +kernel, by decide +kernel⟩
theorem ctX12_applies_d6 {l : Launch} {g : GG} (hst : l.stackTraces = false) (N : Nat) (m : Mm) (v0 : Option Nat) (v1 : Option Nat) (v2 : Option Nat) : ∀ v m' k n, fX12_applies_d6 (gE_ g) N m v0 v1 v2 = some (v, m', k, n) → Ct_ l g (⟨"MasterTree$Not", "applies", "(LMasterTree$Master;LMasterTree$Entry;)Z"⟩ : MethodName) (ws_ (⟨"MasterTree$Not", "applies", "(LMasterTree$Master;LMasterTree$Entry;)Z"⟩ : MethodName) cX12_applies 3 (Option.some Jvm.ClassFile.FieldType.boolean)) 26 [vr_ v0, vr_ v1, vr_ v2] m (en_i v) m' k n :=
  Ct_of (by decide +kernel) rfl hst (Nat.le_of_ble_eq_true rfl) rfl (fun E C hret h0 hin => wX12_applies_d6 C hret h0 hin N m v0 v1 v2 0 0)
theorem wX11_applies_d7_b68 {l : Launch} {g : GG} {E : Me_} (C : Cx_ l g E "MasterTree$Combined" cX11_applies 3 27) (hret : (eT_ E).sig.returnType = (Option.some Jvm.ClassFile.FieldType.boolean)) (h0 : ∀ x ∈ (eC_ E).exceptionTable.toList, False) (hin : (eT_ E).name = "applies") (N : Nat) : ∀ (m : Mm) (s0 : Int32) (k n : Nat), Sm_ l g E 3 en_i (fX11_applies_d7_b68 (gE_ g) N m s0) k n 68 [] [vi_ s0] m := by
  intro m s0 k n
  unfold fX11_applies_d7_b68
  exact x_zret C hret rfl dX11_applies_68
theorem wX11_applies_d7_b35 {l : Launch} {g : GG} {E : Me_} (C : Cx_ l g E "MasterTree$Combined" cX11_applies 3 27) (hret : (eT_ E).sig.returnType = (Option.some Jvm.ClassFile.FieldType.boolean)) (h0 : ∀ x ∈ (eC_ E).exceptionTable.toList, False) (hin : (eT_ E).name = "applies") (N : Nat) : ∀ (m : Mm) (k n : Nat), Sm_ l g E 3 en_i (fX11_applies_d7_b35 (gE_ g) N m) k n 35 [] [] m := by
  intro m k n
  unfold fX11_applies_d7_b35
  refine s_iconst C 0 rfl dX11_applies_35 36 rfl ?_
  refine s_goto C (off := 32) 68 dX11_applies_36 rfl ?_
  exact wX11_applies_d7_b68 C hret h0 hin N _ _ _ _
theorem wX11_applies_d7_b63 {l : Launch} {g : GG} {E : Me_} (C : Cx_ l g E "MasterTree$Combined" cX11_applies 3 27) (hret : (eT_ E).sig.returnType = (Option.some Jvm.ClassFile.FieldType.boolean)) (h0 : ∀ x ∈ (eC_ E).exceptionTable.toList, False) (hin : (eT_ E).name = "applies") (N : Nat) : ∀ (m : Mm) (k n : Nat), Sm_ l g E 3 en_i (fX11_applies_d7_b63 (gE_ g) N m) k n 63 [] [] m := by
  intro m k n
  unfold fX11_applies_d7_b63
  refine s_iconst C 1 rfl dX11_applies_63 64 rfl ?_
  refine s_goto C (off := 4) 68 dX11_applies_64 rfl ?_
  exact wX11_applies_d7_b68 C hret h0 hin N _ _ _ _
theorem wX11_applies_d7 {l : Launch} {g : GG} {E : Me_} (C : Cx_ l g E "MasterTree$Combined" cX11_applies 3 27) (hret : (eT_ E).sig.returnType = (Option.some Jvm.ClassFile.FieldType.boolean)) (h0 : ∀ x ∈ (eC_ E).exceptionTable.toList, False) (hin : (eT_ E).name = "applies") (N : Nat) : ∀ (m : Mm) (v0 : Option Nat) (v1 : Option Nat) (v2 : Option Nat) (k n : Nat), Sm_ l g E 3 en_i (fX11_applies_d7 (gE_ g) N m v0 v1 v2) k n 0 [(0, vr_ v0), (1, vr_ v1), (2, vr_ v2)] [] m := by
  intro m v0 v1 v2 k n
  unfold fX11_applies_d7
  refine s_aload_n C rfl 0 rfl dX11_applies_0 1 rfl ?_
  refine x_gi C 9 (RX11, TX11, 3) rfl 2 (Nat.le_of_ble_eq_true rfl) q2642 (Or.inl rfl) rfl 10 rfl dX11_applies_1 4 rfl (fun x1 => ?_)
  refine s_if_eq C dX11_applies_4 39 rfl 7 rfl (fun c_ => ?_) (fun c_ => ?_)
  · refine s_aload_n C rfl 0 rfl dX11_applies_39 40 rfl ?_
    refine x_gr C 9 (RX11, TX11, 3) rfl 0 (Nat.le_of_ble_eq_true rfl) q2640 (Or.inl rfl) rfl 10 rfl dX11_applies_40 43 rfl (fun x2 => ?_)
    refine s_aload_n C rfl 1 rfl dX11_applies_43 44 rfl ?_
    refine s_aload_n C rfl 2 rfl dX11_applies_44 45 rfl ?_
    refine x_wi [] 48 (fun kk_ => ?_) (fun x3 m1 k1 n1 => ?_)
    · refine x_csr (kd := 8) (fun hb_ hb0_ => ?_) ?_
      · exact x_callA (enc := en_i) (owner := "MasterTree$Filter") C 19 2 [vr_ v1, vr_ v2] 8 (ctX9_applies C.2.2.2.2.2.2.2.2.1 N m x2 v1 v2) hb_ hb0_ rfl rfl q2831 q2797 q2801 q2802 q139 q2803 q2796 ⟨by decide +kernel, by decide +kernel, by decide +kernel⟩ (Nat.le_of_ble_eq_true rfl) (Nat.le_of_ble_eq_true rfl) rfl (Nat.le_of_ble_eq_true rfl) dX11_applies_45 48 rfl rfl hen_i (kk_i kk_) (kx_n he_i)
      refine x_csr (kd := 9) (fun hb_ hb0_ => ?_) ?_
      · exact x_callA (enc := en_i) (owner := "MasterTree$Filter") C 13 2 [vr_ v1, vr_ v2] 9 (ctX10_applies C.2.2.2.2.2.2.2.2.1 N m x2 v1 v2) hb_ hb0_ rfl rfl q2831 q2797 q2798 q2799 q140 q2800 q2796 ⟨by decide +kernel, by decide +kernel, by decide +kernel⟩ (Nat.le_of_ble_eq_true rfl) (Nat.le_of_ble_eq_true rfl) rfl (Nat.le_of_ble_eq_true rfl) dX11_applies_45 48 rfl rfl hen_i (kk_i kk_) (kx_n he_i)
      refine x_csr (kd := 10) (fun hb_ hb0_ => ?_) ?_
      · exact x_callA (enc := en_i) (owner := "MasterTree$Filter") C 26 2 [vr_ v1, vr_ v2] 10 (ctX11_applies_d6 C.2.2.2.2.2.2.2.2.1 N m x2 v1 v2) hb_ hb0_ rfl rfl q2831 q2797 q2828 q2829 q141 q2830 q2796 ⟨by decide +kernel, by decide +kernel, by decide +kernel⟩ (Nat.le_of_ble_eq_true rfl) (Nat.le_of_ble_eq_true rfl) rfl (Nat.le_of_ble_eq_true rfl) dX11_applies_45 48 rfl rfl hen_i (kk_i kk_) (kx_n he_i)
      refine x_csr (kd := 11) (fun hb_ hb0_ => ?_) ?_
      · exact x_callA (enc := en_i) (owner := "MasterTree$Filter") C 26 2 [vr_ v1, vr_ v2] 11 (ctX12_applies_d6 C.2.2.2.2.2.2.2.2.1 N m x2 v1 v2) hb_ hb0_ rfl rfl q2831 q2797 q2835 q2832 q142 q2833 q2796 ⟨by decide +kernel, by decide +kernel, by decide +kernel⟩ (Nat.le_of_ble_eq_true rfl) (Nat.le_of_ble_eq_true rfl) rfl (Nat.le_of_ble_eq_true rfl) dX11_applies_45 48 rfl rfl hen_i (kk_i kk_) (kx_n he_i)
      exact Sm_bn
    refine s_if_ne C dX11_applies_48 63 rfl 51 rfl (fun c_ => ?_) (fun c_ => ?_)
    · refine s_aload_n C rfl 0 rfl dX11_applies_51 52 rfl ?_
      refine x_gr C 9 (RX11, TX11, 3) rfl 1 (Nat.le_of_ble_eq_true rfl) q2641 (Or.inl rfl) rfl 10 rfl dX11_applies_52 55 rfl (fun x8 => ?_)
      refine s_aload_n C rfl 1 rfl dX11_applies_55 56 rfl ?_
      refine s_aload_n C rfl 2 rfl dX11_applies_56 57 rfl ?_
      refine x_wi [] 60 (fun kk_ => ?_) (fun x9 m6 k1 n1 => ?_)
      · refine x_csr (kd := 8) (fun hb_ hb0_ => ?_) ?_
        · exact x_callA (enc := en_i) (owner := "MasterTree$Filter") C 19 2 [vr_ v1, vr_ v2] 8 (ctX9_applies C.2.2.2.2.2.2.2.2.1 N m1 x8 v1 v2) hb_ hb0_ rfl rfl q2831 q2797 q2801 q2802 q139 q2803 q2796 ⟨by decide +kernel, by decide +kernel, by decide +kernel⟩ (Nat.le_of_ble_eq_true rfl) (Nat.le_of_ble_eq_true rfl) rfl (Nat.le_of_ble_eq_true rfl) dX11_applies_57 60 rfl rfl hen_i (kk_i kk_) (kx_n he_i)
        refine x_csr (kd := 9) (fun hb_ hb0_ => ?_) ?_
        · exact x_callA (enc := en_i) (owner := "MasterTree$Filter") C 13 2 [vr_ v1, vr_ v2] 9 (ctX10_applies C.2.2.2.2.2.2.2.2.1 N m1 x8 v1 v2) hb_ hb0_ rfl rfl q2831 q2797 q2798 q2799 q140 q2800 q2796 ⟨by decide +kernel, by decide +kernel, by decide +kernel⟩ (Nat.le_of_ble_eq_true rfl) (Nat.le_of_ble_eq_true rfl) rfl (Nat.le_of_ble_eq_true rfl) dX11_applies_57 60 rfl rfl hen_i (kk_i kk_) (kx_n he_i)
        refine x_csr (kd := 10) (fun hb_ hb0_ => ?_) ?_
        · exact x_callA (enc := en_i) (owner := "MasterTree$Filter") C 26 2 [vr_ v1, vr_ v2] 10 (ctX11_applies_d6 C.2.2.2.2.2.2.2.2.1 N m1 x8 v1 v2) hb_ hb0_ rfl rfl q2831 q2797 q2828 q2829 q141 q2830 q2796 ⟨by decide +kernel, by decide +kernel, by decide +kernel⟩ (Nat.le_of_ble_eq_true rfl) (Nat.le_of_ble_eq_true rfl) rfl (Nat.le_of_ble_eq_true rfl) dX11_applies_57 60 rfl rfl hen_i (kk_i kk_) (kx_n he_i)
        refine x_csr (kd := 11) (fun hb_ hb0_ => ?_) ?_
        · exact x_callA (enc := en_i) (owner := "MasterTree$Filter") C 26 2 [vr_ v1, vr_ v2] 11 (ctX12_applies_d6 C.2.2.2.2.2.2.2.2.1 N m1 x8 v1 v2) hb_ hb0_ rfl rfl q2831 q2797 q2835 q2832 q142 q2833 q2796 ⟨by decide +kernel, by decide +kernel, by decide +kernel⟩ (Nat.le_of_ble_eq_true rfl) (Nat.le_of_ble_eq_true rfl) rfl (Nat.le_of_ble_eq_true rfl) dX11_applies_57 60 rfl rfl hen_i (kk_i kk_) (kx_n he_i)
        exact Sm_bn
      refine s_if_eq C dX11_applies_60 67 rfl 63 rfl (fun c_ => ?_) (fun c_ => ?_)
      · refine s_iconst C 0 rfl dX11_applies_67 68 rfl ?_
        refine Sm_sub [] rfl ?_
        exact wX11_applies_d7_b68 C hret h0 hin N _ _ _ _
      · refine Sm_sub [] rfl ?_
        exact wX11_applies_d7_b63 C hret h0 hin N _ _ _
    · refine Sm_sub [] rfl ?_
      exact wX11_applies_d7_b63 C hret h0 hin N _ _ _
  · refine s_aload_n C rfl 0 rfl dX11_applies_7 8 rfl ?_
    refine x_gr C 9 (RX11, TX11, 3) rfl 0 (Nat.le_of_ble_eq_true rfl) q2640 (Or.inl rfl) rfl 10 rfl dX11_applies_8 11 rfl (fun x14 => ?_)
    refine s_aload_n C rfl 1 rfl dX11_applies_11 12 rfl ?_
    refine s_aload_n C rfl 2 rfl dX11_applies_12 13 rfl ?_
    refine x_wi [] 16 (fun kk_ => ?_) (fun x15 m11 k1 n1 => ?_)
    · refine x_csr (kd := 8) (fun hb_ hb0_ => ?_) ?_
      · exact x_callA (enc := en_i) (owner := "MasterTree$Filter") C 19 2 [vr_ v1, vr_ v2] 8 (ctX9_applies C.2.2.2.2.2.2.2.2.1 N m x14 v1 v2) hb_ hb0_ rfl rfl q2831 q2797 q2801 q2802 q139 q2803 q2796 ⟨by decide +kernel, by decide +kernel, by decide +kernel⟩ (Nat.le_of_ble_eq_true rfl) (Nat.le_of_ble_eq_true rfl) rfl (Nat.le_of_ble_eq_true rfl) dX11_applies_13 16 rfl rfl hen_i (kk_i kk_) (kx_n he_i)
      refine x_csr (kd := 9) (fun hb_ hb0_ => ?_) ?_
      · exact x_callA (enc := en_i) (owner := "MasterTree$Filter") C 13 2 [vr_ v1, vr_ v2] 9 (ctX10_applies C.2.2.2.2.2.2.2.2.1 N m x14 v1 v2) hb_ hb0_ rfl rfl q2831 q2797 q2798 q2799 q140 q2800 q2796 ⟨by decide +kernel, by decide +kernel, by decide +kernel⟩ (Nat.le_of_ble_eq_true rfl) (Nat.le_of_ble_eq_true rfl) rfl (Nat.le_of_ble_eq_true rfl) dX11_applies_13 16 rfl rfl hen_i (kk_i kk_) (kx_n he_i)
      refine x_csr (kd := 10) (fun hb_ hb0_ => ?_) ?_
      · exact x_callA (enc := en_i) (owner := "MasterTree$Filter") C 26 2 [vr_ v1, vr_ v2] 10 (ctX11_applies_d6 C.2.2.2.2.2.2.2.2.1 N m x14 v1 v2) hb_ hb0_ rfl rfl q2831 q2797 q2828 q2829 q141 q2830 q2796 ⟨by decide +kernel, by decide +kernel, by decide +kernel⟩ (Nat.le_of_ble_eq_true rfl) (Nat.le_of_ble_eq_true rfl) rfl (Nat.le_of_ble_eq_true rfl) dX11_applies_13 16 rfl rfl hen_i (kk_i kk_) (kx_n he_i)
      refine x_csr (kd := 11) (fun hb_ hb0_ => ?_) ?_
      · exact x_callA (enc := en_i) (owner := "MasterTree$Filter") C 26 2 [vr_ v1, vr_ v2] 11 (ctX12_applies_d6 C.2.2.2.2.2.2.2.2.1 N m x14 v1 v2) hb_ hb0_ rfl rfl q2831 q2797 q2835 q2832 q142 q2833 q2796 ⟨by decide +kernel, by decide +kernel, by decide +kernel⟩ (Nat.le_of_ble_eq_true rfl) (Nat.le_of_ble_eq_true rfl) rfl (Nat.le_of_ble_eq_true rfl) dX11_applies_13 16 rfl rfl hen_i (kk_i kk_) (kx_n he_i)
      exact Sm_bn
    refine s_if_eq C dX11_applies_16 35 rfl 19 rfl (fun c_ => ?_) (fun c_ => ?_)
    · refine Sm_sub [] rfl ?_
      exact wX11_applies_d7_b35 C hret h0 hin N _ _ _
    · refine s_aload_n C rfl 0 rfl dX11_applies_19 20 rfl ?_
      refine x_gr C 9 (RX11, TX11, 3) rfl 1 (Nat.le_of_ble_eq_true rfl) q2641 (Or.inl rfl) rfl 10 rfl dX11_applies_20 23 rfl (fun x20 => ?_)
      refine s_aload_n C rfl 1 rfl dX11_applies_23 24 rfl ?_
      refine s_aload_n C rfl 2 rfl dX11_applies_24 25 rfl ?_
      refine x_wi [] 28 (fun kk_ => ?_) (fun x21 m16 k1 n1 => ?_)
      · refine x_csr (kd := 8) (fun hb_ hb0_ => ?_) ?_
        · exact x_callA (enc := en_i) (owner := "MasterTree$Filter") C 19 2 [vr_ v1, vr_ v2] 8 (ctX9_applies C.2.2.2.2.2.2.2.2.1 N m11 x20 v1 v2) hb_ hb0_ rfl rfl q2831 q2797 q2801 q2802 q139 q2803 q2796 ⟨by decide +kernel, by decide +kernel, by decide +kernel⟩ (Nat.le_of_ble_eq_true rfl) (Nat.le_of_ble_eq_true rfl) rfl (Nat.le_of_ble_eq_true rfl) dX11_applies_25 28 rfl rfl hen_i (kk_i kk_) (kx_n he_i)
        refine x_csr (kd := 9) (fun hb_ hb0_ => ?_) ?_
        · exact x_callA (enc := en_i) (owner := "MasterTree$Filter") C 13 2 [vr_ v1, vr_ v2] 9 (ctX10_applies C.2.2.2.2.2.2.2.2.1 N m11 x20 v1 v2) hb_ hb0_ rfl rfl q2831 q2797 q2798 q2799 q140 q2800 q2796 ⟨by decide +kernel, by decide +kernel, by decide +kernel⟩ (Nat.le_of_ble_eq_true rfl) (Nat.le_of_ble_eq_true rfl) rfl (Nat.le_of_ble_eq_true rfl) dX11_applies_25 28 rfl rfl hen_i (kk_i kk_) (kx_n he_i)
        refine x_csr (kd := 10) (fun hb_ hb0_ => ?_) ?_
        · exact x_callA (enc := en_i) (owner := "MasterTree$Filter") C 26 2 [vr_ v1, vr_ v2] 10 (ctX11_applies_d6 C.2.2.2.2.2.2.2.2.1 N m11 x20 v1 v2) hb_ hb0_ rfl rfl q2831 q2797 q2828 q2829 q141 q2830 q2796 ⟨by decide +kernel, by decide +kernel, by decide +kernel⟩ (Nat.le_of_ble_eq_true rfl) (Nat.le_of_ble_eq_true rfl) rfl (Nat.le_of_ble_eq_true rfl) dX11_applies_25 28 rfl rfl hen_i (kk_i kk_) (kx_n he_i)
        refine x_csr (kd := 11) (fun hb_ hb0_ => ?_) ?_
        · exact x_callA (enc := en_i) (owner := "MasterTree$Filter") C 26 2 [vr_ v1, vr_ v2] 11 (ctX12_applies_d6 C.2.2.2.2.2.2.2.2.1 N m11 x20 v1 v2) hb_ hb0_ rfl rfl q2831 q2797 q2835 q2832 q142 q2833 q2796 ⟨by decide +kernel, by decide +kernel, by decide +kernel⟩ (Nat.le_of_ble_eq_true rfl) (Nat.le_of_ble_eq_true rfl) rfl (Nat.le_of_ble_eq_true rfl) dX11_applies_25 28 rfl rfl hen_i (kk_i kk_) (kx_n he_i)
        exact Sm_bn
      refine s_if_eq C dX11_applies_28 35 rfl 31 rfl (fun c_ => ?_) (fun c_ => ?_)
      · refine Sm_sub [] rfl ?_
        exact wX11_applies_d7_b35 C hret h0 hin N _ _ _
      · refine s_iconst C 1 rfl dX11_applies_31 32 rfl ?_
        refine s_goto C (off := 36) 68 dX11_applies_32 rfl ?_
        refine Sm_sub [] rfl ?_
        exact wX11_applies_d7_b68 C hret h0 hin N _ _ _ _
theorem hdX11_applies_d7 : ((⟨"MasterTree$Combined", "applies", "(LMasterTree$Master;LMasterTree$Entry;)Z"⟩ : MethodName)).cls ≠ "java/lang/invoke/MethodHandle" ∧ ((⟨"MasterTree$Combined", "applies", "(LMasterTree$Master;LMasterTree$Entry;)Z"⟩ : MethodName)).cls ≠ "java/lang/invoke/VarHandle" ∧ (parseMethodDescriptor ((⟨"MasterTree$Combined", "applies", "(LMasterTree$Master;LMasterTree$Entry;)Z"⟩ : MethodName)).desc).map (fun d => d.parameters.length) = some 2 := ⟨by decide +kernel, by decide +kernel, by decide +kernel⟩
theorem ctX11_applies_d7 {l : Launch} {g : GG} (hst : l.stackTraces = false) (N : Nat) (m : Mm) (v0 : Option Nat) (v1 : Option Nat) (v2 : Option Nat) : ∀ v m' k n, fX11_applies_d7 (gE_ g) N m v0 v1 v2 = some (v, m', k, n) → Ct_ l g (⟨"MasterTree$Combined", "applies", "(LMasterTree$Master;LMasterTree$Entry;)Z"⟩ : MethodName) (ws_ (⟨"MasterTree$Combined", "applies", "(LMasterTree$Master;LMasterTree$Entry;)Z"⟩ : MethodName) cX11_applies 3 (Option.some Jvm.ClassFile.FieldType.boolean)) 27 [vr_ v0, vr_ v1, vr_ v2] m (en_i v) m' k n :=
  Ct_of (by decide +kernel) rfl hst (Nat.le_of_ble_eq_true rfl) rfl (fun E C hret h0 hin => wX11_applies_d7 C hret h0 hin N m v0 v1 v2 0 0)
theorem wX12_applies_d7_b17 {l : Launch} {g : GG} {E : Me_} (C : Cx_ l g E "MasterTree$Not" cX12_applies 3 27) (hret : (eT_ E).sig.returnType = (Option.some Jvm.ClassFile.FieldType.boolean)) (h0 : ∀ x ∈ (eC_ E).exceptionTable.toList, False) (hin : (eT_ E).name = "applies") (N : Nat) : ∀ (m : Mm) (s0 : Int32) (k n : Nat), Sm_ l g E 3 en_i (fX12_applies_d7_b17 (gE_ g) N m s0) k n 17 [] [vi_ s0] m := by
  intro m s0 k n
  unfold fX12_applies_d7_b17
  exact x_zret C hret rfl dX12_applies_17
theorem wX12_applies_d7 {l : Launch} {g : GG} {E : Me_} (C : Cx_ l g E "MasterTree$Not" cX12_applies 3 27) (hret : (eT_ E).sig.returnType = (Option.some Jvm.ClassFile.FieldType.boolean)) (h0 : ∀ x ∈ (eC_ E).exceptionTable.toList, False) (hin : (eT_ E).name = "applies") (N : Nat) : ∀ (m : Mm) (v0 : Option Nat) (v1 : Option Nat) (v2 : Option Nat) (k n : Nat), Sm_ l g E 3 en_i (fX12_applies_d7 (gE_ g) N m v0 v1 v2) k n 0 [(0, vr_ v0), (1, vr_ v1), (2, vr_ v2)] [] m := by
  intro m v0 v1 v2 k n
  unfold fX12_applies_d7
  refine s_aload_n C rfl 0 rfl dX12_applies_0 1 rfl ?_
  refine x_gr C 10 (RX12, TX12, 1) rfl 0 (Nat.le_of_ble_eq_true rfl) q2666 (Or.inl rfl) rfl 11 rfl dX12_applies_1 4 rfl (fun x1 => ?_)
  refine s_aload_n C rfl 1 rfl dX12_applies_4 5 rfl ?_
  refine s_aload_n C rfl 2 rfl dX12_applies_5 6 rfl ?_
  refine x_wi [] 9 (fun kk_ => ?_) (fun x2 m1 k1 n1 => ?_)
  · refine x_csr (kd := 8) (fun hb_ hb0_ => ?_) ?_
    · exact x_callA (enc := en_i) (owner := "MasterTree$Filter") C 19 2 [vr_ v1, vr_ v2] 8 (ctX9_applies C.2.2.2.2.2.2.2.2.1 N m x1 v1 v2) hb_ hb0_ rfl rfl q2834 q2797 q2801 q2802 q139 q2803 q2796 ⟨by decide +kernel, by decide +kernel, by decide +kernel⟩ (Nat.le_of_ble_eq_true rfl) (Nat.le_of_ble_eq_true rfl) rfl (Nat.le_of_ble_eq_true rfl) dX12_applies_6 9 rfl rfl hen_i (kk_i kk_) (kx_n he_i)
    refine x_csr (kd := 9) (fun hb_ hb0_ => ?_) ?_
    · exact x_callA (enc := en_i) (owner := "MasterTree$Filter") C 13 2 [vr_ v1, vr_ v2] 9 (ctX10_applies C.2.2.2.2.2.2.2.2.1 N m x1 v1 v2) hb_ hb0_ rfl rfl q2834 q2797 q2798 q2799 q140 q2800 q2796 ⟨by decide +kernel, by decide +kernel, by decide +kernel⟩ (Nat.le_of_ble_eq_true rfl) (Nat.le_of_ble_eq_true rfl) rfl (Nat.le_of_ble_eq_true rfl) dX12_applies_6 9 rfl rfl hen_i (kk_i kk_) (kx_n he_i)
    refine x_csr (kd := 10) (fun hb_ hb0_ => ?_) ?_
    · exact x_callA (enc := en_i) (owner := "MasterTree$Filter") C 26 2 [vr_ v1, vr_ v2] 10 (ctX11_applies_d6 C.2.2.2.2.2.2.2.2.1 N m x1 v1 v2) hb_ hb0_ rfl rfl q2834 q2797 q2828 q2829 q141 q2830 q2796 ⟨by decide +kernel, by decide +kernel, by decide +kernel⟩ (Nat.le_of_ble_eq_true rfl) (Nat.le_of_ble_eq_true rfl) rfl (Nat.le_of_ble_eq_true rfl) dX12_applies_6 9 rfl rfl hen_i (kk_i kk_) (kx_n he_i)
    refine x_csr (kd := 11) (fun hb_ hb0_ => ?_) ?_
    · exact x_callA (enc := en_i) (owner := "MasterTree$Filter") C 26 2 [vr_ v1, vr_ v2] 11 (ctX12_applies_d6 C.2.2.2.2.2.2.2.2.1 N m x1 v1 v2) hb_ hb0_ rfl rfl q2834 q2797 q2835 q2832 q142 q2833 q2796 ⟨by decide +kernel, by decide +kernel, by decide +kernel⟩ (Nat.le_of_ble_eq_true rfl) (Nat.le_of_ble_eq_true rfl) rfl (Nat.le_of_ble_eq_true rfl) dX12_applies_6 9 rfl rfl hen_i (kk_i kk_) (kx_n he_i)
    exact Sm_bn
  refine s_if_ne C dX12_applies_9 16 rfl 12 rfl (fun c_ => ?_) (fun c_ => ?_)
  · refine s_iconst C 1 rfl dX12_applies_12 13 rfl ?_
    refine s_goto C (off := 4) 17 dX12_applies_13 rfl ?_
    refine Sm_sub [] rfl ?_
    exact wX12_applies_d7_b17 C hret h0 hin N _ _ _ _
  · refine s_iconst C 0 rfl dX12_applies_16 17 rfl ?_
    refine Sm_sub [] rfl ?_
    exact wX12_applies_d7_b17 C hret h0 hin N _ _ _ _
theorem hdX12_applies_d7 : ((⟨"MasterTree$Not", "applies", "(LMasterTree$Master;LMasterTree$Entry;)Z"⟩ : MethodName)).cls ≠ "java/lang/invoke/MethodHandle" ∧ ((⟨"MasterTree$Not", "applies", "(LMasterTree$Master;LMasterTree$Entry;)Z"⟩ : MethodName)).cls ≠ "java/lang/invoke/VarHandle" ∧ (parseMethodDescriptor ((⟨"MasterTree$Not", "applies", "(LMasterTree$Master;LMasterTree$Entry;)Z"⟩ : MethodName)).desc).map (fun d => d.parameters.length) = some 2 := ⟨by decide +kernel, by decide +kernel, by decide +kernel⟩
theorem ctX12_applies_d7 {l : Launch} {g : GG} (hst : l.stackTraces = false) (N : Nat) (m : Mm) (v0 : Option Nat) (v1 : Option Nat) (v2 : Option Nat) : ∀ v m' k n, fX12_applies_d7 (gE_ g) N m v0 v1 v2 = some (v, m', k, n) → Ct_ l g (⟨"MasterTree$Not", "applies", "(LMasterTree$Master;LMasterTree$Entry;)Z"⟩ : MethodName) (ws_ (⟨"MasterTree$Not", "applies", "(LMasterTree$Master;LMasterTree$Entry;)Z"⟩ : MethodName) cX12_applies 3 (Option.some Jvm.ClassFile.FieldType.boolean)) 27 [vr_ v0, vr_ v1, vr_ v2] m (en_i v) m' k n :=
  Ct_of (by decide +kernel) rfl hst (Nat.le_of_ble_eq_true rfl) rfl (fun E C hret h0 hin => wX12_applies_d7 C hret h0 hin N m v0 v1 v2 0 0)
theorem wX11_applies_d8_b68 {l : Launch} {g : GG} {E : Me_} (C : Cx_ l g E "MasterTree$Combined" cX11_applies 3 28) (hret : (eT_ E).sig.returnType = (Option.some Jvm.ClassFile.FieldType.boolean)) (h0 : ∀ x ∈ (eC_ E).exceptionTable.toList, False) (hin : (eT_ E).name = "applies") (N : Nat) : ∀ (m : Mm) (s0 : Int32) (k n : Nat), Sm_ l g E 3 en_i (fX11_applies_d8_b68 (gE_ g) N m s0) k n 68 [] [vi_ s0] m := by
  intro m s0 k n
  unfold fX11_applies_d8_b68
  exact x_zret C hret rfl dX11_applies_68
theorem wX11_applies_d8_b35 {l : Launch} {g : GG} {E : Me_} (C : Cx_ l g E "MasterTree$Combined" cX11_applies 3 28) (hret : (eT_ E).sig.returnType = (Option.some Jvm.ClassFile.FieldType.boolean)) (h0 : ∀ x ∈ (eC_ E).exceptionTable.toList, False) (hin : (eT_ E).name = "applies") (N : Nat) : ∀ (m : Mm) (k n : Nat), Sm_ l g E 3 en_i (fX11_applies_d8_b35 (gE_ g) N m) k n 35 [] [] m := by
  intro m k n
  unfold fX11_applies_d8_b35
  refine s_iconst C 0 rfl dX11_applies_35 36 rfl ?_
  refine s_goto C (off := 32) 68 dX11_applies_36 rfl ?_
  exact wX11_applies_d8_b68 C hret h0 hin N _ _ _ _
theorem wX11_applies_d8_b63 {l : Launch} {g : GG} {E : Me_} (C : Cx_ l g E "MasterTree$Combined" cX11_applies 3 28) (hret : (eT_ E).sig.returnType = (Option.some Jvm.ClassFile.FieldType.boolean)) (h0 : ∀ x ∈ (eC_ E).exceptionTable.toList, False) (hin : (eT_ E).name = "applies") (N : Nat) : ∀ (m : Mm) (k n : Nat), Sm_ l g E 3 en_i (fX11_applies_d8_b63 (gE_ g) N m) k n 63 [] [] m := by
  intro m k n
  unfold fX11_applies_d8_b63
  refine s_iconst C 1 rfl dX11_applies_63 64 rfl ?_
  refine s_goto C (off := 4) 68 dX11_applies_64 rfl ?_
  exact wX11_applies_d8_b68 C hret h0 hin N _ _ _ _
theorem wX11_applies_d8 {l : Launch} {g : GG} {E : Me_} (C : Cx_ l g E "MasterTree$Combined" cX11_applies 3 28) (hret : (eT_ E).sig.returnType = (Option.some Jvm.ClassFile.FieldType.boolean)) (h0 : ∀ x ∈ (eC_ E).exceptionTable.toList, False) (hin : (eT_ E).name = "applies") (N : Nat) : ∀ (m : Mm) (v0 : Option Nat) (v1 : Option Nat) (v2 : Option Nat) (k n : Nat), Sm_ l g E 3 en_i (fX11_applies_d8 (gE_ g) N m v0 v1 v2) k n 0 [(0, vr_ v0), (1, vr_ v1), (2, vr_ v2)] [] m := by
  intro m v0 v1 v2 k n
  unfold fX11_applies_d8
  refine s_aload_n C rfl 0 rfl dX11_applies_0 1 rfl ?_
  refine x_gi C 9 (RX11, TX11, 3) rfl 2 (Nat.le_of_ble_eq_true rfl) q2642 (Or.inl rfl) rfl 10 rfl dX11_applies_1 4 rfl (fun x1 => ?_)
  refine s_if_eq C dX11_applies_4 39 rfl 7 rfl (fun c_ => ?_) (fun c_ => ?_)
  · refine s_aload_n C rfl 0 rfl dX11_applies_39 40 rfl ?_
    refine x_gr C 9 (RX11, TX11, 3) rfl 0 (Nat.le_of_ble_eq_true rfl) q2640 (Or.inl rfl) rfl 10 rfl dX11_applies_40 43 rfl (fun x2 => ?_)
    refine s_aload_n C rfl 1 rfl dX11_applies_43 44 rfl ?_
    refine s_aload_n C rfl 2 rfl dX11_applies_44 45 rfl ?_
    refine x_wi [] 48 (fun kk_ => ?_) (fun x3 m1 k1 n1 => ?_)
    · refine x_csr (kd := 8) (fun hb_ hb0_ => ?_) ?_
      · exact x_callA (enc := en_i) (owner := "MasterTree$Filter") C 19 2 [vr_ v1, vr_ v2] 8 (ctX9_applies C.2.2.2.2.2.2.2.2.1 N m x2 v1 v2) hb_ hb0_ rfl rfl q2831 q2797 q2801 q2802 q139 q2803 q2796 ⟨by decide +kernel, by decide +kernel, by decide +kernel⟩ (Nat.le_of_ble_eq_true rfl) (Nat.le_of_ble_eq_true rfl) rfl (Nat.le_of_ble_eq_true rfl) dX11_applies_45 48 rfl rfl hen_i (kk_i kk_) (kx_n he_i)
      refine x_csr (kd := 9) (fun hb_ hb0_ => ?_) ?_
      · exact x_callA (enc := en_i) (owner := "MasterTree$Filter") C 13 2 [vr_ v1, vr_ v2] 9 (ctX10_applies C.2.2.2.2.2.2.2.2.1 N m x2 v1 v2) hb_ hb0_ rfl rfl q2831 q2797 q2798 q2799 q140 q2800 q2796 ⟨by decide +kernel, by decide +kernel, by decide +kernel⟩ (Nat.le_of_ble_eq_true rfl) (Nat.le_of_ble_eq_true rfl) rfl (Nat.le_of_ble_eq_true rfl) dX11_applies_45 48 rfl rfl hen_i (kk_i kk_) (kx_n he_i)
      refine x_csr (kd := 10) (fun hb_ hb0_ => ?_) ?_
      · exact x_callA (enc := en_i) (owner := "MasterTree$Filter") C 27 2 [vr_ v1, vr_ v2] 10 (ctX11_applies_d7 C.2.2.2.2.2.2.2.2.1 N m x2 v1 v2) hb_ hb0_ rfl rfl q2831 q2797 q2828 q2829 q141 q2830 q2796 ⟨by decide +kernel, by decide +kernel, by decide +kernel⟩ (Nat.le_of_ble_eq_true rfl) (Nat.le_of_ble_eq_true rfl) rfl (Nat.le_of_ble_eq_true rfl) dX11_applies_45 48 rfl rfl hen_i (kk_i kk_) (kx_n he_i)
      refine x_csr (kd := 11) (fun hb_ hb0_ => ?_) ?_
      · exact x_callA (enc := en_i) (owner := "MasterTree$Filter") C 27 2 [vr_ v1, vr_ v2] 11 (ctX12_applies_d7 C.2.2.2.2.2.2.2.2.1 N m x2 v1 v2) hb_ hb0_ rfl rfl q2831 q2797 q2835 q2832 q142 q2833 q2796 ⟨by decide +kernel, by decide +kernel, by decide +kernel⟩ (Nat.le_of_ble_eq_true rfl) (Nat.le_of_ble_eq_true rfl) rfl (Nat.le_of_ble_eq_true rfl) dX11_applies_45 48 rfl rfl hen_i (kk_i kk_) (kx_n he_i)
      exact Sm_bn
    refine s_if_ne C dX11_applies_48 63 rfl 51 rfl (fun c_ => ?_) (fun c_ => ?_)
    · refine s_aload_n C rfl 0 rfl dX11_applies_51 52 rfl ?_
      refine x_gr C 9 (RX11, TX11, 3) rfl 1 (Nat.le_of_ble_eq_true rfl) q2641 (Or.inl rfl) rfl 10 rfl dX11_applies_52 55 rfl (fun x8 => ?_)
      refine s_aload_n C rfl 1 rfl dX11_applies_55 56 rfl ?_
      refine s_aload_n C rfl 2 rfl dX11_applies_56 57 rfl ?_
      refine x_wi [] 60 (fun kk_ => ?_) (fun x9 m6 k1 n1 => ?_)
      · refine x_csr (kd := 8) (fun hb_ hb0_ => ?_) ?_
        · exact x_callA (enc := en_i) (owner := "MasterTree$Filter") C 19 2 [vr_ v1, vr_ v2] 8 (ctX9_applies C.2.2.2.2.2.2.2.2.1 N m1 x8 v1 v2) hb_ hb0_ rfl rfl q2831 q2797 q2801 q2802 q139 q2803 q2796 ⟨by decide +kernel, by decide +kernel, by decide +kernel⟩ (Nat.le_of_ble_eq_true rfl) (Nat.le_of_ble_eq_true rfl) rfl (Nat.le_of_ble_eq_true rfl) dX11_applies_57 60 rfl rfl hen_i (kk_i kk_) (kx_n he_i)
        refine x_csr (kd := 9) (fun hb_ hb0_ => ?_) ?_
        · exact x_callA (enc := en_i) (owner := "MasterTree$Filter") C 13 2 [vr_ v1, vr_ v2] 9 (ctX10_applies C.2.2.2.2.2.2.2.2.1 N m1 x8 v1 v2) hb_ hb0_ rfl rfl q2831 q2797 q2798 q2799 q140 q2800 q2796 ⟨by decide +kernel, by decide +kernel, by decide +kernel⟩ (Nat.le_of_ble_eq_true rfl) (Nat.le_of_ble_eq_true rfl) rfl (Nat.le_of_ble_eq_true rfl) dX11_applies_57 60 rfl rfl hen_i (kk_i kk_) (kx_n he_i)
        refine x_csr (kd := 10) (fun hb_ hb0_ => ?_) ?_
        · exact x_callA (enc := en_i) (owner := "MasterTree$Filter") C 27 2 [vr_ v1, vr_ v2] 10 (ctX11_applies_d7 C.2.2.2.2.2.2.2.2.1 N m1 x8 v1 v2) hb_ hb0_ rfl rfl q2831 q2797 q2828 q2829 q141 q2830 q2796 ⟨by decide +kernel, by decide +kernel, by decide +kernel⟩ (Nat.le_of_ble_eq_true rfl) (Nat.le_of_ble_eq_true rfl) rfl (Nat.le_of_ble_eq_true rfl) dX11_applies_57 60 rfl rfl hen_i (kk_i kk_) (kx_n he_i)
        refine x_csr (kd := 11) (fun hb_ hb0_ => ?_) ?_
        · exact x_callA (enc := en_i) (owner := "MasterTree$Filter") C 27 2 [vr_ v1, vr_ v2] 11 (ctX12_applies_d7 C.2.2.2.2.2.2.2.2.1 N m1 x8 v1 v2) hb_ hb0_ rfl rfl q2831 q2797 q2835 q2832 q142 q2833 q2796 ⟨by decide +kernel, by decide +kernel, by decide +kernel⟩ (Nat.le_of_ble_eq_true rfl) (Nat.le_of_ble_eq_true rfl) rfl (Nat.le_of_ble_eq_true rfl) dX11_applies_57 60 rfl rfl hen_i (kk_i kk_) (kx_n he_i)
        exact Sm_bn
      refine s_if_eq C dX11_applies_60 67 rfl 63 rfl (fun c_ => ?_) (fun c_ => ?_)
      · refine s_iconst C 0 rfl dX11_applies_67 68 rfl ?_
        refine Sm_sub [] rfl ?_
        exact wX11_applies_d8_b68 C hret h0 hin N _ _ _ _
      · refine Sm_sub [] rfl ?_
        exact wX11_applies_d8_b63 C hret h0 hin N _ _ _
    · refine Sm_sub [] rfl ?_
      exact wX11_applies_d8_b63 C hret h0 hin N _ _ _
  · refine s_aload_n C rfl 0 rfl dX11_applies_7 8 rfl ?_
    refine x_gr C 9 (RX11, TX11, 3) rfl 0 (Nat.le_of_ble_eq_true rfl) q2640 (Or.inl rfl) rfl 10 rfl dX11_applies_8 11 rfl (fun x14 => ?_)
    refine s_aload_n C rfl 1 rfl dX11_applies_11 12 rfl ?_
    refine s_aload_n C rfl 2 rfl dX11_applies_12 13 rfl ?_
    refine x_wi [] 16 (fun kk_ => ?_) (fun x15 m11 k1 n1 => ?_)
    · refine x_csr (kd := 8) (fun hb_ hb0_ => ?_) ?_
      · exact x_callA (enc := en_i) (owner := "MasterTree$Filter") C 19 2 [vr_ v1, vr_ v2] 8 (ctX9_applies C.2.2.2.2.2.2.2.2.1 N m x14 v1 v2) hb_ hb0_ rfl rfl q2831 q2797 q2801 q2802 q139 q2803 q2796 ⟨by decide +kernel, by decide +kernel, by decide +kernel⟩ (Nat.le_of_ble_eq_true rfl) (Nat.le_of_ble_eq_true rfl) rfl (Nat.le_of_ble_eq_true rfl) dX11_applies_13 16 rfl rfl hen_i (kk_i kk_) (kx_n he_i)
      refine x_csr (kd := 9) (fun hb_ hb0_ => ?_) ?_
      · exact x_callA (enc := en_i) (owner := "MasterTree$Filter") C 13 2 [vr_ v1, vr_ v2] 9 (ctX10_applies C.2.2.2.2.2.2.2.2.1 N m x14 v1 v2) hb_ hb0_ rfl rfl q2831 q2797 q2798 q2799 q140 q2800 q2796 ⟨by decide +kernel, by decide +kernel, by decide +kernel⟩ (Nat.le_of_ble_eq_true rfl) (Nat.le_of_ble_eq_true rfl) rfl (Nat.le_of_ble_eq_true rfl) dX11_applies_13 16 rfl rfl hen_i (kk_i kk_) (kx_n he_i)
      refine x_csr (kd := 10) (fun hb_ hb0_ => ?_) ?_
      · exact x_callA (enc := en_i) (owner := "MasterTree$Filter") C 27 2 [vr_ v1, vr_ v2] 10 (ctX11_applies_d7 C.2.2.2.2.2.2.2.2.1 N m x14 v1 v2) hb_ hb0_ rfl rfl q2831 q2797 q2828 q2829 q141 q2830 q2796 ⟨by decide +kernel, by decide +kernel, by decide +kernel⟩ (Nat.le_of_ble_eq_true rfl) (Nat.le_of_ble_eq_true rfl) rfl (Nat.le_of_ble_eq_true rfl) dX11_applies_13 16 rfl rfl hen_i (kk_i kk_) (kx_n he_i)
      refine x_csr (kd := 11) (fun hb_ hb0_ => ?_) ?_
      · exact x_callA (enc := en_i) (owner := "MasterTree$Filter") C 27 2 [vr_ v1, vr_ v2] 11 (ctX12_applies_d7 C.2.2.2.2.2.2.2.2.1 N m x14 v1 v2) hb_ hb0_ rfl rfl q2831 q2797 q2835 q2832 q142 q2833 q2796 ⟨by decide +kernel, by decide +kernel, by decide +kernel⟩ (Nat.le_of_ble_eq_true rfl) (Nat.le_of_ble_eq_true rfl) rfl (Nat.le_of_ble_eq_true rfl) dX11_applies_13 16 rfl rfl hen_i (kk_i kk_) (kx_n he_i)
      exact Sm_bn
    refine s_if_eq C dX11_applies_16 35 rfl 19 rfl (fun c_ => ?_) (fun c_ => ?_)
    · refine Sm_sub [] rfl ?_
      exact wX11_applies_d8_b35 C hret h0 hin N _ _ _
    · refine s_aload_n C rfl 0 rfl dX11_applies_19 20 rfl ?_
      refine x_gr C 9 (RX11, TX11, 3) rfl 1 (Nat.le_of_ble_eq_true rfl) q2641 (Or.inl rfl) rfl 10 rfl dX11_applies_20 23 rfl (fun x20 => ?_)
      refine s_aload_n C rfl 1 rfl dX11_applies_23 24 rfl ?_
      refine s_aload_n C rfl 2 rfl dX11_applies_24 25 rfl ?_
      refine x_wi [] 28 (fun kk_ => ?_) (fun x21 m16 k1 n1 => ?_)
      · refine x_csr (kd := 8) (fun hb_ hb0_ => ?_) ?_
        · exact x_callA (enc := en_i) (owner := "MasterTree$Filter") C 19 2 [vr_ v1, vr_ v2] 8 (ctX9_applies C.2.2.2.2.2.2.2.2.1 N m11 x20 v1 v2) hb_ hb0_ rfl rfl q2831 q2797 q2801 q2802 q139 q2803 q2796 ⟨by decide +kernel, by decide +kernel, by decide +kernel⟩ (Nat.le_of_ble_eq_true rfl) (Nat.le_of_ble_eq_true rfl) rfl (Nat.le_of_ble_eq_true rfl) dX11_applies_25 28 rfl rfl hen_i (kk_i kk_) (kx_n he_i)
        refine x_csr (kd := 9) (fun hb_ hb0_ => ?_) ?_
        · exact x_callA (enc := en_i) (owner := "MasterTree$Filter") C 13 2 [vr_ v1, vr_ v2] 9 (ctX10_applies C.2.2.2.2.2.2.2.2.1 N m11 x20 v1 v2) hb_ hb0_ rfl rfl q2831 q2797 q2798 q2799 q140 q2800 q2796 ⟨by decide +kernel, by decide +kernel, by decide +kernel⟩ (Nat.le_of_ble_eq_true rfl) (Nat.le_of_ble_eq_true rfl) rfl (Nat.le_of_ble_eq_true rfl) dX11_applies_25 28 rfl rfl hen_i (kk_i kk_) (kx_n he_i)
        refine x_csr (kd := 10) (fun hb_ hb0_ => ?_) ?_
        · exact x_callA (enc := en_i) (owner := "MasterTree$Filter") C 27 2 [vr_ v1, vr_ v2] 10 (ctX11_applies_d7 C.2.2.2.2.2.2.2.2.1 N m11 x20 v1 v2) hb_ hb0_ rfl rfl q2831 q2797 q2828 q2829 q141 q2830 q2796 ⟨by decide +kernel, by decide +kernel, by decide +kernel⟩ (Nat.le_of_ble_eq_true rfl) (Nat.le_of_ble_eq_true rfl) rfl (Nat.le_of_ble_eq_true rfl) dX11_applies_25 28 rfl rfl hen_i (kk_i kk_) (kx_n he_i)
        refine x_csr (kd := 11) (fun hb_ hb0_ => ?_) ?_
        · exact x_callA (enc := en_i) (owner := "MasterTree$Filter") C 27 2 [vr_ v1, vr_ v2] 11 (ctX12_applies_d7 C.2.2.2.2.2.2.2.2.1 N m11 x20 v1 v2) hb_ hb0_ rfl rfl q2831 q2797 q2835 q2832 q142 q2833 q2796 ⟨by decide +kernel, by decide +kernel, by decide +kernel⟩ (Nat.le_of_ble_eq_true rfl) (Nat.le_of_ble_eq_true rfl) rfl (Nat.le_of_ble_eq_true rfl) dX11_applies_25 28 rfl rfl hen_i (kk_i kk_) (kx_n he_i)
        exact Sm_bn
      refine s_if_eq C dX11_applies_28 35 rfl 31 rfl (fun c_ => ?_) (fun c_ => ?_)
      · refine Sm_sub [] rfl ?_
        exact wX11_applies_d8_b35 C hret h0 hin N _ _ _
      · refine s_iconst C 1 rfl dX11_applies_31 32 rfl ?_
        refine s_goto C (off := 36) 68 dX11_applies_32 rfl ?_
        refine Sm_sub [] rfl ?_
        exact wX11_applies_d8_b68 C hret h0 hin N _ _ _ _
theorem hdX11_applies_d8 : ((⟨"MasterTree$Combined", "applies", "(LMasterTree$Master;LMasterTree$Entry;)Z"⟩ : MethodName)).cls ≠ "java/lang/invoke/MethodHandle" ∧ ((⟨"MasterTree$Combined", "applies", "(LMasterTree$Master;LMasterTree$Entry;)Z"⟩ : MethodName)).cls ≠ "java/lang/invoke/VarHandle" ∧ (parseMethodDescriptor ((⟨"MasterTree$Combined", "applies", "(LMasterTree$Master;LMasterTree$Entry;)Z"⟩ : MethodName)).desc).map (fun d => d.parameters.length) = some 2 := ⟨by decide +kernel, by decide +kernel, by decide +kernel⟩
theorem ctX11_applies_d8 {l : Launch} {g : GG} (hst : l.stackTraces = false) (N : Nat) (m : Mm) (v0 : Option Nat) (v1 : Option Nat) (v2 : Option Nat) : ∀ v m' k n, fX11_applies_d8 (gE_ g) N m v0 v1 v2 = some (v, m', k, n) → Ct_ l g (⟨"MasterTree$Combined", "applies", "(LMasterTree$Master;LMasterTree$Entry;)Z"⟩ : MethodName) (ws_ (⟨"MasterTree$Combined", "applies", "(LMasterTree$Master;LMasterTree$Entry;)Z"⟩ : MethodName) cX11_applies 3 (Option.some Jvm.ClassFile.FieldType.boolean)) 28 [vr_ v0, vr_ v1, vr_ v2] m (en_i v) m' k n :=
  Ct_of (by decide +kernel) rfl hst (Nat.le_of_ble_eq_true rfl) rfl (fun E C hret h0 hin => wX11_applies_d8 C hret h0 hin N m v0 v1 v2 0 0)
theorem wX12_applies_d8_b17 {l : Launch} {g : GG} {E : Me_} (C : Cx_ l g E "MasterTree$Not" cX12_applies 3 28) (hret : (eT_ E).sig.returnType = (Option.some Jvm.ClassFile.FieldType.boolean)) (h0 : ∀ x ∈ (eC_ E).exceptionTable.toList, False) (hin : (eT_ E).name = "applies") (N : Nat) : ∀ (m : Mm) (s0 : Int32) (k n : Nat), Sm_ l g E 3 en_i (fX12_applies_d8_b17 (gE_ g) N m s0) k n 17 [] [vi_ s0] m := by
  intro m s0 k n
  unfold fX12_applies_d8_b17
  exact x_zret C hret rfl dX12_applies_17
theorem wX12_applies_d8 {l : Launch} {g : GG} {E : Me_} (C : Cx_ l g E "MasterTree$Not" cX12_applies 3 28) (hret : (eT_ E).sig.returnType = (Option.some Jvm.ClassFile.FieldType.boolean)) (h0 : ∀ x ∈ (eC_ E).exceptionTable.toList, False) (hin : (eT_ E).name = "applies") (N : Nat) : ∀ (m : Mm) (v0 : Option Nat) (v1 : Option Nat) (v2 : Option Nat) (k n : Nat), Sm_ l g E 3 en_i (fX12_applies_d8 (gE_ g) N m v0 v1 v2) k n 0 [(0, vr_ v0), (1, vr_ v1), (2, vr_ v2)] [] m := by
  intro m v0 v1 v2 k n
  unfold fX12_applies_d8
  refine s_aload_n C rfl 0 rfl dX12_applies_0 1 rfl ?_
  refine x_gr C 10 (RX12, TX12, 1) rfl 0 (Nat.le_of_ble_eq_true rfl) q2666 (Or.inl rfl) rfl 11 rfl dX12_applies_1 4 rfl (fun x1 => ?_)
  refine s_aload_n C rfl 1 rfl dX12_applies_4 5 rfl ?_
  refine s_aload_n C rfl 2 rfl dX12_applies_5 6 rfl ?_
  refine x_wi [] 9 (fun kk_ => ?_) (fun x2 m1 k1 n1 => ?_)
  · refine x_csr (kd := 8) (fun hb_ hb0_ => ?_) ?_
    · exact x_callA (enc := en_i) (owner := "MasterTree$Filter") C 19 2 [vr_ v1, vr_ v2] 8 (ctX9_applies C.2.2.2.2.2.2.2.2.1 N m x1 v1 v2) hb_ hb0_ rfl rfl q2834 q2797 q2801 q2802 q139 q2803 q2796 ⟨by decide +kernel, by decide +kernel, by decide +kernel⟩ (Nat.le_of_ble_eq_true rfl) (Nat.le_of_ble_eq_true rfl) rfl (Nat.le_of_ble_eq_true rfl) dX12_applies_6 9 rfl rfl hen_i (kk_i kk_) (kx_n he_i)
    refine x_csr (kd := 9) (fun hb_ hb0_ => ?_) ?_
    · exact x_callA (enc := en_i) (owner := "MasterTree$Filter") C 13 2 [vr_ v1, vr_ v2] 9 (ctX10_applies C.2.2.2.2.2.2.2.2.1 N m x1 v1 v2) hb_ hb0_ rfl rfl q2834 q2797 q2798 q2799 q140 q2800 q2796 ⟨by decide +kernel, by decide +kernel, by decide +kernel⟩ (Nat.le_of_ble_eq_true rfl) (Nat.le_of_ble_eq_true rfl) rfl (Nat.le_of_ble_eq_true rfl) dX12_applies_6 9 rfl rfl hen_i (kk_i kk_) (kx_n he_i)
    refine x_csr (kd := 10) (fun hb_ hb0_ => ?_) ?_
    · exact x_callA (enc := en_i) (owner := "MasterTree$Filter") C 27 2 [vr_ v1, vr_ v2] 10 (ctX11_applies_d7 C.2.2.2.2.2.2.2.2.1 N m x1 v1 v2) hb_ hb0_ rfl rfl q2834 q2797 q2828 q2829 q141 q2830 q2796 ⟨by decide +kernel, by decide +kernel, by decide +kernel⟩ (Nat.le_of_ble_eq_true rfl) (Nat.le_of_ble_eq_true rfl) rfl (Nat.le_of_ble_eq_true rfl) dX12_applies_6 9 rfl rfl hen_i (kk_i kk_) (kx_n he_i)
    refine x_csr (kd := 11) (fun hb_ hb0_ => ?_) ?_
    · exact x_callA (enc := en_i) (owner := "MasterTree$Filter") C 27 2 [vr_ v1, vr_ v2] 11 (ctX12_applies_d7 C.2.2.2.2.2.2.2.2.1 N m x1 v1 v2) hb_ hb0_ rfl rfl q2834 q2797 q2835 q2832 q142 q2833 q2796 ⟨by decide +kernel, by decide +kernel, by decide +kernel⟩ (Nat.le_of_ble_eq_true rfl) (Nat.le_of_ble_eq_true rfl) rfl (Nat.le_of_ble_eq_true rfl) dX12_applies_6 9 rfl rfl hen_i (kk_i kk_) (kx_n he_i)
    exact Sm_bn
  refine s_if_ne C dX12_applies_9 16 rfl 12 rfl (fun c_ => ?_) (fun c_ => ?_)
  · refine s_iconst C 1 rfl dX12_applies_12 13 rfl ?_
    refine s_goto C (off := 4) 17 dX12_applies_13 rfl ?_
    refine Sm_sub [] rfl ?_
    exact wX12_applies_d8_b17 C hret h0 hin N _ _ _ _
  · refine s_iconst C 0 rfl dX12_applies_16 17 rfl ?_
    refine Sm_sub [] rfl ?_
    exact wX12_applies_d8_b17 C hret h0 hin N _ _ _ _
theorem hdX12_applies_d8 : ((⟨"MasterTree$Not", "applies", "(LMasterTree$Master;LMasterTree$Entry;)Z"⟩ : MethodName)).cls ≠ "java/lang/invoke/MethodHandle" ∧ ((⟨"MasterTree$Not", "applies", "(LMasterTree$Master;LMasterTree$Entry;)Z"⟩ : MethodName)).cls ≠ "java/lang/invoke/VarHandle" ∧ (parseMethodDescriptor ((⟨"MasterTree$Not", "applies", "(LMasterTree$Master;LMasterTree$Entry;)Z"⟩ : MethodName)).desc).map (fun d => d.parameters.length) = some 2 := ⟨by decide +kernel, by decide +kernel, by decide +kernel⟩
theorem ctX12_applies_d8 {l : Launch} {g : GG} (hst : l.stackTraces = false) (N : Nat) (m : Mm) (v0 : Option Nat) (v1 : Option Nat) (v2 : Option Nat) : ∀ v m' k n, fX12_applies_d8 (gE_ g) N m v0 v1 v2 = some (v, m', k, n) → Ct_ l g (⟨"MasterTree$Not", "applies", "(LMasterTree$Master;LMasterTree$Entry;)Z"⟩ : MethodName) (ws_ (⟨"MasterTree$Not", "applies", "(LMasterTree$Master;LMasterTree$Entry;)Z"⟩ : MethodName) cX12_applies 3 (Option.some Jvm.ClassFile.FieldType.boolean)) 28 [vr_ v0, vr_ v1, vr_ v2] m (en_i v) m' k n :=
  Ct_of (by decide +kernel) rfl hst (Nat.le_of_ble_eq_true rfl) rfl (fun E C hret h0 hin => wX12_applies_d8 C hret h0 hin N m v0 v1 v2 0 0)
theorem wX11_applies_d9_b68 {l : Launch} {g : GG} {E : Me_} (C : Cx_ l g E "MasterTree$Combined" cX11_applies 3 29) (hret : (eT_ E).sig.returnType = (Option.some Jvm.ClassFile.FieldType.boolean)) (h0 : ∀ x ∈ (eC_ E).exceptionTable.toList, False) (hin : (eT_ E).name = "applies") (N : Nat) : ∀ (m : Mm) (s0 : Int32) (k n : Nat), Sm_ l g E 3 en_i (fX11_applies_d9_b68 (gE_ g) N m s0) k n 68 [] [vi_ s0] m := by
  intro m s0 k n
  unfold fX11_applies_d9_b68
  exact x_zret C hret rfl dX11_applies_68
theorem wX11_applies_d9_b35 {l : Launch} {g : GG} {E : Me_} (C : Cx_ l g E "MasterTree$Combined" cX11_applies 3 29) (hret : (eT_ E).sig.returnType = (Option.some Jvm.ClassFile.FieldType.boolean)) (h0 : ∀ x ∈ (eC_ E).exceptionTable.toList, False) (hin : (eT_ E).name = "applies") (N : Nat) : ∀ (m : Mm) (k n : Nat), Sm_ l g E 3 en_i (fX11_applies_d9_b35 (gE_ g) N m) k n 35 [] [] m := by
  intro m k n
  unfold fX11_applies_d9_b35
  refine s_iconst C 0 rfl dX11_applies_35 36 rfl ?_
  refine s_goto C (off := 32) 68 dX11_applies_36 rfl ?_
  exact wX11_applies_d9_b68 C hret h0 hin N _ _ _ _
theorem wX11_applies_d9_b63 {l : Launch} {g : GG} {E : Me_} (C : Cx_ l g E "MasterTree$Combined" cX11_applies 3 29) (hret : (eT_ E).sig.returnType = (Option.some Jvm.ClassFile.FieldType.boolean)) (h0 : ∀ x ∈ (eC_ E).exceptionTable.toList, False) (hin : (eT_ E).name = "applies") (N : Nat) : ∀ (m : Mm) (k n : Nat), Sm_ l g E 3 en_i (fX11_applies_d9_b63 (gE_ g) N m) k n 63 [] [] m := by
  intro m k n
  unfold fX11_applies_d9_b63
  refine s_iconst C 1 rfl dX11_applies_63 64 rfl ?_
  refine s_goto C (off := 4) 68 dX11_applies_64 rfl ?_
  exact wX11_applies_d9_b68 C hret h0 hin N _ _ _ _
theorem wX11_applies_d9 {l : Launch} {g : GG} {E : Me_} (C : Cx_ l g E "MasterTree$Combined" cX11_applies 3 29) (hret : (eT_ E).sig.returnType = (Option.some Jvm.ClassFile.FieldType.boolean)) (h0 : ∀ x ∈ (eC_ E).exceptionTable.toList, False) (hin : (eT_ E).name = "applies") (N : Nat) : ∀ (m : Mm) (v0 : Option Nat) (v1 : Option Nat) (v2 : Option Nat) (k n : Nat), Sm_ l g E 3 en_i (fX11_applies_d9 (gE_ g) N m v0 v1 v2) k n 0 [(0, vr_ v0), (1, vr_ v1), (2, vr_ v2)] [] m := by
  intro m v0 v1 v2 k n
  unfold fX11_applies_d9
  refine s_aload_n C rfl 0 rfl dX11_applies_0 1 rfl ?_
  refine x_gi C 9 (RX11, TX11, 3) rfl 2 (Nat.le_of_ble_eq_true rfl) q2642 (Or.inl rfl) rfl 10 rfl dX11_applies_1 4 rfl (fun x1 => ?_)
  refine s_if_eq C dX11_applies_4 39 rfl 7 rfl (fun c_ => ?_) (fun c_ => ?_)
  · refine s_aload_n C rfl 0 rfl dX11_applies_39 40 rfl ?_
    refine x_gr C 9 (RX11, TX11, 3) rfl 0 (Nat.le_of_ble_eq_true rfl) q2640 (Or.inl rfl) rfl 10 rfl dX11_applies_40 43 rfl (fun x2 => ?_)
    refine s_aload_n C rfl 1 rfl dX11_applies_43 44 rfl ?_
    refine s_aload_n C rfl 2 rfl dX11_applies_44 45 rfl ?_
    refine x_wi [] 48 (fun kk_ => ?_) (fun x3 m1 k1 n1 => ?_)
    · refine x_csr (kd := 8) (fun hb_ hb0_ => ?_) ?_
      · exact x_callA (enc := en_i) (owner := "MasterTree$Filter") C 19 2 [vr_ v1, vr_ v2] 8 (ctX9_applies C.2.2.2.2.2.2.2.2.1 N m x2 v1 v2) hb_ hb0_ rfl rfl q2831 q2797 q2801 q2802 q139 q2803 q2796 ⟨by decide +kernel, by decide +kernel, by decide +kernel⟩ (Nat.le_of_ble_eq_true rfl) (Nat.le_of_ble_eq_true rfl) rfl (Nat.le_of_ble_eq_true rfl) dX11_applies_45 48 rfl rfl hen_i (kk_i kk_) (kx_n he_i)
      refine x_csr (kd := 9) (fun hb_ hb0_ => ?_) ?_
      · exact x_callA (enc := en_i) (owner := "MasterTree$Filter") C 13 2 [vr_ v1, vr_ v2] 9 (ctX10_applies C.2.2.2.2.2.2.2.2.1 N m x2 v1 v2) hb_ hb0_ rfl rfl q2831 q2797 q2798 q2799 q140 q2800 q2796 ⟨by decide +kernel, by decide +kernel, by decide +kernel⟩ (Nat.le_of_ble_eq_true rfl) (Nat.le_of_ble_eq_true rfl) rfl (Nat.le_of_ble_eq_true rfl) dX11_applies_45 48 rfl rfl hen_i (kk_i kk_) (kx_n he_i)
      refine x_csr (kd := 10) (fun hb_ hb0_ => ?_) ?_
      · exact x_callA (enc := en_i) (owner := "MasterTree$Filter") C 28 2 [vr_ v1, vr_ v2] 10 (ctX11_applies_d8 C.2.2.2.2.2.2.2.2.1 N m x2 v1 v2) hb_ hb0_ rfl rfl q2831 q2797 q2828 q2829 q141 q2830 q2796 ⟨by decide +kernel, by decide +kernel, by decide +kernel⟩ (Nat.le_of_ble_eq_true rfl) (Nat.le_of_ble_eq_true rfl) rfl (Nat.le_of_ble_eq_true rfl) dX11_applies_45 48 rfl rfl hen_i (kk_i kk_) (kx_n he_i)
      refine x_csr (kd := 11) (fun hb_ hb0_ => ?_) ?_
      · exact x_callA (enc := en_i) (owner := "MasterTree$Filter") C 28 2 [vr_ v1, vr_ v2] 11 (ctX12_applies_d8 C.2.2.2.2.2.2.2.2.1 N m x2 v1 v2) hb_ hb0_ rfl rfl q2831 q2797 q2835 q2832 q142 q2833 q2796 ⟨by decide +kernel, by decide +kernel, by decide +kernel⟩ (Nat.le_of_ble_eq_true rfl) (Nat.le_of_ble_eq_true rfl) rfl (Nat.le_of_ble_eq_true rfl) dX11_applies_45 48 rfl rfl hen_i (kk_i kk_) (kx_n he_i)
      exact Sm_bn
    refine s_if_ne C dX11_applies_48 63 rfl 51 rfl (fun c_ => ?_) (fun c_ => ?_)
    · refine s_aload_n C rfl 0 rfl dX11_applies_51 52 rfl ?_
      refine x_gr C 9 (RX11, TX11, 3) rfl 1 (Nat.le_of_ble_eq_true rfl) q2641 (Or.inl rfl) rfl 10 rfl dX11_applies_52 55 rfl (fun x8 => ?_)
      refine s_aload_n C rfl 1 rfl dX11_applies_55 56 rfl ?_
      refine s_aload_n C rfl 2 rfl dX11_applies_56 57 rfl ?_
      refine x_wi [] 60 (fun kk_ => ?_) (fun x9 m6 k1 n1 => ?_)
      · refine x_csr (kd := 8) (fun hb_ hb0_ => ?_) ?_
        · exact x_callA (enc := en_i) (owner := "MasterTree$Filter") C 19 2 [vr_ v1, vr_ v2] 8 (ctX9_applies C.2.2.2.2.2.2.2.2.1 N m1 x8 v1 v2) hb_ hb0_ rfl rfl q2831 q2797 q2801 q2802 q139 q2803 q2796 ⟨by decide +kernel, by decide +kernel, by decide +kernel⟩ (Nat.le_of_ble_eq_true rfl) (Nat.le_of_ble_eq_true rfl) rfl (Nat.le_of_ble_eq_true rfl) dX11_applies_57 60 rfl rfl hen_i (kk_i kk_) (kx_n he_i)
        refine x_csr (kd := 9) (fun hb_ hb0_ => ?_) ?_
        · exact x_callA (enc := en_i) (owner := "MasterTree$Filter") C 13 2 [vr_ v1, vr_ v2] 9 (ctX10_applies C.2.2.2.2.2.2.2.2.1 N m1 x8 v1 v2) hb_ hb0_ rfl rfl q2831 q2797 q2798 q2799 q140 q2800 q2796 ⟨by decide +kernel, by decide +kernel, by decide +kernel⟩ (Nat.le_of_ble_eq_true rfl) (Nat.le_of_ble_eq_true rfl) rfl (Nat.le_of_ble_eq_true rfl) dX11_applies_57 60 rfl rfl hen_i (kk_i kk_) (kx_n he_i)
        refine x_csr (kd := 10) (fun hb_ hb0_ => ?_) ?_
        · exact x_callA (enc := en_i) (owner := "MasterTree$Filter") C 28 2 [vr_ v1, vr_ v2] 10 (ctX11_applies_d8 C.2.2.2.2.2.2.2.2.1 N m1 x8 v1 v2) hb_ hb0_ rfl rfl q2831 q2797 q2828 q2829 q141 q2830 q2796 ⟨by decide +kernel, by decide +kernel, by decide +kernel⟩ (Nat.le_of_ble_eq_true rfl) (Nat.le_of_ble_eq_true rfl) rfl (Nat.le_of_ble_eq_true rfl) dX11_applies_57 60 rfl rfl hen_i (kk_i kk_) (kx_n he_i)
        refine x_csr (kd := 11) (fun hb_ hb0_ => ?_) ?_
        · exact x_callA (enc := en_i) (owner := "MasterTree$Filter") C 28 2 [vr_ v1, vr_ v2] 11 (ctX12_applies_d8 C.2.2.2.2.2.2.2.2.1 N m1 x8 v1 v2) hb_ hb0_ rfl rfl q2831 q2797 q2835 q2832 q142 q2833 q2796 ⟨by decide +kernel, by decide +kernel, by decide +kernel⟩ (Nat.le_of_ble_eq_true rfl) (Nat.le_of_ble_eq_true rfl) rfl (Nat.le_of_ble_eq_true rfl) dX11_applies_57 60 rfl rfl hen_i (kk_i kk_) (kx_n he_i)
        exact Sm_bn
      refine s_if_eq C dX11_applies_60 67 rfl 63 rfl (fun c_ => ?_) (fun c_ => ?_)
      · refine s_iconst C 0 rfl dX11_applies_67 68 rfl ?_
        refine Sm_sub [] rfl ?_
        exact wX11_applies_d9_b68 C hret h0 hin N _ _ _ _
      · refine Sm_sub [] rfl ?_
        exact wX11_applies_d9_b63 C hret h0 hin N _ _ _
    · refine Sm_sub [] rfl ?_
      exact wX11_applies_d9_b63 C hret h0 hin N _ _ _
  · refine s_aload_n C rfl 0 rfl dX11_applies_7 8 rfl ?_
    refine x_gr C 9 (RX11, TX11, 3) rfl 0 (Nat.le_of_ble_eq_true rfl) q2640 (Or.inl rfl) rfl 10 rfl dX11_applies_8 11 rfl (fun x14 => ?_)
    refine s_aload_n C rfl 1 rfl dX11_applies_11 12 rfl ?_
    refine s_aload_n C rfl 2 rfl dX11_applies_12 13 rfl ?_
    refine x_wi [] 16 (fun kk_ => ?_) (fun x15 m11 k1 n1 => ?_)
    · refine x_csr (kd := 8) (fun hb_ hb0_ => ?_) ?_
      · exact x_callA (enc := en_i) (owner := "MasterTree$Filter") C 19 2 [vr_ v1, vr_ v2] 8 (ctX9_applies C.2.2.2.2.2.2.2.2.1 N m x14 v1 v2) hb_ hb0_ rfl rfl q2831 q2797 q2801 q2802 q139 q2803 q2796 ⟨by decide +kernel, by decide +kernel, by decide +kernel⟩ (Nat.le_of_ble_eq_true rfl) (Nat.le_of_ble_eq_true rfl) rfl (Nat.le_of_ble_eq_true rfl) dX11_applies_13 16 rfl rfl hen_i (kk_i kk_) (kx_n he_i)
      refine x_csr (kd := 9) (fun hb_ hb0_ => ?_) ?_
      · exact x_callA (enc := en_i) (owner := "MasterTree$Filter") C 13 2 [vr_ v1, vr_ v2] 9 (ctX10_applies C.2.2.2.2.2.2.2.2.1 N m x14 v1 v2) hb_ hb0_ rfl rfl q2831 q2797 q2798 q2799 q140 q2800 q2796 ⟨by decide +kernel, by decide +kernel, by decide +kernel⟩ (Nat.le_of_ble_eq_true rfl) (Nat.le_of_ble_eq_true rfl) rfl (Nat.le_of_ble_eq_true rfl) dX11_applies_13 16 rfl rfl hen_i (kk_i kk_) (kx_n he_i)
      refine x_csr (kd := 10) (fun hb_ hb0_ => ?_) ?_
      · exact x_callA (enc := en_i) (owner := "MasterTree$Filter") C 28 2 [vr_ v1, vr_ v2] 10 (ctX11_applies_d8 C.2.2.2.2.2.2.2.2.1 N m x14 v1 v2) hb_ hb0_ rfl rfl q2831 q2797 q2828 q2829 q141 q2830 q2796 ⟨by decide +kernel, by decide +kernel, by decide +kernel⟩ (Nat.le_of_ble_eq_true rfl) (Nat.le_of_ble_eq_true rfl) rfl (Nat.le_of_ble_eq_true rfl) dX11_applies_13 16 rfl rfl hen_i (kk_i kk_) (kx_n he_i)
      refine x_csr (kd := 11) (fun hb_ hb0_ => ?_) ?_
      · exact x_callA (enc := en_i) (owner := "MasterTree$Filter") C 28 2 [vr_ v1, vr_ v2] 11 (ctX12_applies_d8 C.2.2.2.2.2.2.2.2.1 N m x14 v1 v2) hb_ hb0_ rfl rfl q2831 q2797 q2835 q2832 q142 q2833 q2796 ⟨by decide +kernel, by decide +kernel, by decide +kernel⟩ (Nat.le_of_ble_eq_true rfl) (Nat.le_of_ble_eq_true rfl) rfl (Nat.le_of_ble_eq_true rfl) dX11_applies_13 16 rfl rfl hen_i (kk_i kk_) (kx_n he_i)
      exact Sm_bn
    refine s_if_eq C dX11_applies_16 35 rfl 19 rfl (fun c_ => ?_) (fun c_ => ?_)
    · refine Sm_sub [] rfl ?_
      exact wX11_applies_d9_b35 C hret h0 hin N _ _ _
    · refine s_aload_n C rfl 0 rfl dX11_applies_19 20 rfl ?_
      refine x_gr C 9 (RX11, TX11, 3) rfl 1 (Nat.le_of_ble_eq_true rfl) q2641 (Or.inl rfl) rfl 10 rfl dX11_applies_20 23 rfl (fun x20 => ?_)
      refine s_aload_n C rfl 1 rfl dX11_applies_23 24 rfl ?_
      refine s_aload_n C rfl 2 rfl dX11_applies_24 25 rfl ?_
      refine x_wi [] 28 (fun kk_ => ?_) (fun x21 m16 k1 n1 => ?_)
      · refine x_csr (kd := 8) (fun hb_ hb0_ => ?_) ?_
        · exact x_callA (enc := en_i) (owner := "MasterTree$Filter") C 19 2 [vr_ v1, vr_ v2] 8 (ctX9_applies C.2.2.2.2.2.2.2.2.1 N m11 x20 v1 v2) hb_ hb0_ rfl rfl q2831 q2797 q2801 q2802 q139 q2803 q2796 ⟨by decide +kernel, by decide +kernel, by decide +kernel⟩ (Nat.le_of_ble_eq_true rfl) (Nat.le_of_ble_eq_true rfl) rfl (Nat.le_of_ble_eq_true rfl) dX11_applies_25 28 rfl rfl hen_i (kk_i kk_) (kx_n he_i)
        refine x_csr (kd := 9) (fun hb_ hb0_ => ?_) ?_
        · exact x_callA (enc := en_i) (owner := "MasterTree$Filter") C 13 2 [vr_ v1, vr_ v2] 9 (ctX10_applies C.2.2.2.2.2.2.2.2.1 N m11 x20 v1 v2) hb_ hb0_ rfl rfl q2831 q2797 q2798 q2799 q140 q2800 q2796 ⟨by decide +kernel, by decide +kernel, by decide +kernel⟩ (Nat.le_of_ble_eq_true rfl) (Nat.le_of_ble_eq_true rfl) rfl (Nat.le_of_ble_eq_true rfl) dX11_applies_25 28 rfl rfl hen_i (kk_i kk_) (kx_n he_i)
        refine x_csr (kd := 10) (fun hb_ hb0_ => ?_) ?_
        · exact x_callA (enc := en_i) (owner := "MasterTree$Filter") C 28 2 [vr_ v1, vr_ v2] 10 (ctX11_applies_d8 C.2.2.2.2.2.2.2.2.1 N m11 x20 v1 v2) hb_ hb0_ rfl rfl q2831 q2797 q2828 q2829 q141 q2830 q2796 ⟨by decide +kernel, by decide +kernel, by decide +kernel⟩ (Nat.le_of_ble_eq_true rfl) (Nat.le_of_ble_eq_true rfl) rfl (Nat.le_of_ble_eq_true rfl) dX11_applies_25 28 rfl rfl hen_i (kk_i kk_) (kx_n he_i)
        refine x_csr (kd := 11) (fun hb_ hb0_ => ?_) ?_
        · exact x_callA (enc := en_i) (owner := "MasterTree$Filter") C 28 2 [vr_ v1, vr_ v2] 11 (ctX12_applies_d8 C.2.2.2.2.2.2.2.2.1 N m11 x20 v1 v2) hb_ hb0_ rfl rfl q2831 q2797 q2835 q2832 q142 q2833 q2796 ⟨by decide +kernel, by decide +kernel, by decide +kernel⟩ (Nat.le_of_ble_eq_true rfl) (Nat.le_of_ble_eq_true rfl) rfl (Nat.le_of_ble_eq_true rfl) dX11_applies_25 28 rfl rfl hen_i (kk_i kk_) (kx_n he_i)
        exact Sm_bn
      refine s_if_eq C dX11_applies_28 35 rfl 31 rfl (fun c_ => ?_) (fun c_ => ?_)
      · refine Sm_sub [] rfl ?_
        exact wX11_applies_d9_b35 C hret h0 hin N _ _ _
      · refine s_iconst C 1 rfl dX11_applies_31 32 rfl ?_
        refine s_goto C (off := 36) 68 dX11_applies_32 rfl ?_
        refine Sm_sub [] rfl ?_
        exact wX11_applies_d9_b68 C hret h0 hin N _ _ _ _
theorem hdX11_applies_d9 : ((⟨"MasterTree$Combined", "applies", "(LMasterTree$Master;LMasterTree$Entry;)Z"⟩ : MethodName)).cls ≠ "java/lang/invoke/MethodHandle" ∧ ((⟨"MasterTree$Combined", "applies", "(LMasterTree$Master;LMasterTree$Entry;)Z"⟩ : MethodName)).cls ≠ "java/lang/invoke/VarHandle" ∧ (parseMethodDescriptor ((⟨"MasterTree$Combined", "applies", "(LMasterTree$Master;LMasterTree$Entry;)Z"⟩ : MethodName)).desc).map (fun d => d.parameters.length) = some 2 := ⟨by decide +kernel, by decide +kernel, by decide +kernel⟩
theorem ctX11_applies_d9 {l : Launch} {g : GG} (hst : l.stackTraces = false) (N : Nat) (m : Mm) (v0 : Option Nat) (v1 : Option Nat) (v2 : Option Nat) : ∀ v m' k n, fX11_applies_d9 (gE_ g) N m v0 v1 v2 = some (v, m', k, n) → Ct_ l g (⟨"MasterTree$Combined", "applies", "(LMasterTree$Master;LMasterTree$Entry;)Z"⟩ : MethodName) (ws_ (⟨"MasterTree$Combined", "applies", "(LMasterTree$Master;LMasterTree$Entry;)Z"⟩ : MethodName) cX11_applies 3 (Option.some Jvm.ClassFile.FieldType.boolean)) 29 [vr_ v0, vr_ v1, vr_ v2] m (en_i v) m' k n :=
  Ct_of (by decide +kernel) rfl hst (Nat.le_of_ble_eq_true rfl) rfl (fun E C hret h0 hin => wX11_applies_d9 C hret h0 hin N m v0 v1 v2 0 0)
theorem wX12_applies_d9_b17 {l : Launch} {g : GG} {E : Me_} (C : Cx_ l g E "MasterTree$Not" cX12_applies 3 29) (hret : (eT_ E).sig.returnType = (Option.some Jvm.ClassFile.FieldType.boolean)) (h0 : ∀ x ∈ (eC_ E).exceptionTable.toList, False) (hin : (eT_ E).name = "applies") (N : Nat) : ∀ (m : Mm) (s0 : Int32) (k n : Nat), Sm_ l g E 3 en_i (fX12_applies_d9_b17 (gE_ g) N m s0) k n 17 [] [vi_ s0] m := by
  intro m s0 k n
  unfold fX12_applies_d9_b17
  exact x_zret C hret rfl dX12_applies_17
theorem wX12_applies_d9 {l : Launch} {g : GG} {E : Me_} (C : Cx_ l g E "MasterTree$Not" cX12_applies 3 29) (hret : (eT_ E).sig.returnType = (Option.some Jvm.ClassFile.FieldType.boolean)) (h0 : ∀ x ∈ (eC_ E).exceptionTable.toList, False) (hin : (eT_ E).name = "applies") (N : Nat) : ∀ (m : Mm) (v0 : Option Nat) (v1 : Option Nat) (v2 : Option Nat) (k n : Nat), Sm_ l g E 3 en_i (fX12_applies_d9 (gE_ g) N m v0 v1 v2) k n 0 [(0, vr_ v0), (1, vr_ v1), (2, vr_ v2)] [] m := by
  intro m v0 v1 v2 k n
  unfold fX12_applies_d9
  refine s_aload_n C rfl 0 rfl dX12_applies_0 1 rfl ?_
  refine x_gr C 10 (RX12, TX12, 1) rfl 0 (Nat.le_of_ble_eq_true rfl) q2666 (Or.inl rfl) rfl 11 rfl dX12_applies_1 4 rfl (fun x1 => ?_)
  refine s_aload_n C rfl 1 rfl dX12_applies_4 5 rfl ?_
  refine s_aload_n C rfl 2 rfl dX12_applies_5 6 rfl ?_
  refine x_wi [] 9 (fun kk_ => ?_) (fun x2 m1 k1 n1 => ?_)
  · refine x_csr (kd := 8) (fun hb_ hb0_ => ?_) ?_
    · exact x_callA (enc := en_i) (owner := "MasterTree$Filter") C 19 2 [vr_ v1, vr_ v2] 8 (ctX9_applies C.2.2.2.2.2.2.2.2.1 N m x1 v1 v2) hb_ hb0_ rfl rfl q2834 q2797 q2801 q2802 q139 q2803 q2796 ⟨by decide +kernel, by decide +kernel, by decide +kernel⟩ (Nat.le_of_ble_eq_true rfl) (Nat.le_of_ble_eq_true rfl) rfl (Nat.le_of_ble_eq_true rfl) dX12_applies_6 9 rfl rfl hen_i (kk_i kk_) (kx_n he_i)
    refine x_csr (kd := 9) (fun hb_ hb0_ => ?_) ?_
    · exact x_callA (enc := en_i) (owner := "MasterTree$Filter") C 13 2 [vr_ v1, vr_ v2] 9 (ctX10_applies C.2.2.2.2.2.2.2.2.1 N m x1 v1 v2) hb_ hb0_ rfl rfl q2834 q2797 q2798 q2799 q140 q2800 q2796 ⟨by decide +kernel, by decide +kernel, by decide +kernel⟩ (Nat.le_of_ble_eq_true rfl) (Nat.le_of_ble_eq_true rfl) rfl (Nat.le_of_ble_eq_true rfl) dX12_applies_6 9 rfl rfl hen_i (kk_i kk_) (kx_n he_i)
    refine x_csr (kd := 10) (fun hb_ hb0_ => ?_) ?_
    · exact x_callA (enc := en_i) (owner := "MasterTree$Filter") C 28 2 [vr_ v1, vr_ v2] 10 (ctX11_applies_d8 C.2.2.2.2.2.2.2.2.1 N m x1 v1 v2) hb_ hb0_ rfl rfl q2834 q2797 q2828 q2829 q141 q2830 q2796 ⟨by decide +kernel, by decide +kernel, by decide +kernel⟩ (Nat.le_of_ble_eq_true rfl) (Nat.le_of_ble_eq_true rfl) rfl (Nat.le_of_ble_eq_true rfl) dX12_applies_6 9 rfl rfl hen_i (kk_i kk_) (kx_n he_i)
    refine x_csr (kd := 11) (fun hb_ hb0_ => ?_) ?_
    · exact x_callA (enc := en_i) (owner := "MasterTree$Filter") C 28 2 [vr_ v1, vr_ v2] 11 (ctX12_applies_d8 C.2.2.2.2.2.2.2.2.1 N m x1 v1 v2) hb_ hb0_ rfl rfl q2834 q2797 q2835 q2832 q142 q2833 q2796 ⟨by decide +kernel, by decide +kernel, by decide +kernel⟩ (Nat.le_of_ble_eq_true rfl) (Nat.le_of_ble_eq_true rfl) rfl (Nat.le_of_ble_eq_true rfl) dX12_applies_6 9 rfl rfl hen_i (kk_i kk_) (kx_n he_i)
    exact Sm_bn
  refine s_if_ne C dX12_applies_9 16 rfl 12 rfl (fun c_ => ?_) (fun c_ => ?_)
  · refine s_iconst C 1 rfl dX12_applies_12 13 rfl ?_
    refine s_goto C (off := 4) 17 dX12_applies_13 rfl ?_
    refine Sm_sub [] rfl ?_
    exact wX12_applies_d9_b17 C hret h0 hin N _ _ _ _
  · refine s_iconst C 0 rfl dX12_applies_16 17 rfl ?_
    refine Sm_sub [] rfl ?_
    exact wX12_applies_d9_b17 C hret h0 hin N _ _ _ _
theorem hdX12_applies_d9 : ((⟨"MasterTree$Not", "applies", "(LMasterTree$Master;LMasterTree$Entry;)Z"⟩ : MethodName)).cls ≠ "java/lang/invoke/MethodHandle" ∧ ((⟨"MasterTree$Not", "applies", "(LMasterTree$Master;LMasterTree$Entry;)Z"⟩ : MethodName)).cls ≠ "java/lang/invoke/VarHandle" ∧ (parseMethodDescriptor ((⟨"MasterTree$Not", "applies", "(LMasterTree$Master;LMasterTree$Entry;)Z"⟩ : MethodName)).desc).map (fun d => d.parameters.length) = some 2 := ⟨by decide +kernel, by decide +kernel, by decide +kernel⟩
theorem ctX12_applies_d9 {l : Launch} {g : GG} (hst : l.stackTraces = false) (N : Nat) (m : Mm) (v0 : Option Nat) (v1 : Option Nat) (v2 : Option Nat) : ∀ v m' k n, fX12_applies_d9 (gE_ g) N m v0 v1 v2 = some (v, m', k, n) → Ct_ l g (⟨"MasterTree$Not", "applies", "(LMasterTree$Master;LMasterTree$Entry;)Z"⟩ : MethodName) (ws_ (⟨"MasterTree$Not", "applies", "(LMasterTree$Master;LMasterTree$Entry;)Z"⟩ : MethodName) cX12_applies 3 (Option.some Jvm.ClassFile.FieldType.boolean)) 29 [vr_ v0, vr_ v1, vr_ v2] m (en_i v) m' k n :=
  Ct_of (by decide +kernel) rfl hst (Nat.le_of_ble_eq_true rfl) rfl (fun E C hret h0 hin => wX12_applies_d9 C hret h0 hin N m v0 v1 v2 0 0)
theorem wX11_applies_d10_b68 {l : Launch} {g : GG} {E : Me_} (C : Cx_ l g E "MasterTree$Combined" cX11_applies 3 30) (hret : (eT_ E).sig.returnType = (Option.some Jvm.ClassFile.FieldType.boolean)) (h0 : ∀ x ∈ (eC_ E).exceptionTable.toList, False) (hin : (eT_ E).name = "applies") (N : Nat) : ∀ (m : Mm) (s0 : Int32) (k n : Nat), Sm_ l g E 3 en_i (fX11_applies_d10_b68 (gE_ g) N m s0) k n 68 [] [vi_ s0] m := by
  intro m s0 k n
  unfold fX11_applies_d10_b68
  exact x_zret C hret rfl dX11_applies_68
theorem wX11_applies_d10_b35 {l : Launch} {g : GG} {E : Me_} (C : Cx_ l g E "MasterTree$Combined" cX11_applies 3 30) (hret : (eT_ E).sig.returnType = (Option.some Jvm.ClassFile.FieldType.boolean)) (h0 : ∀ x ∈ (eC_ E).exceptionTable.toList, False) (hin : (eT_ E).name = "applies") (N : Nat) : ∀ (m : Mm) (k n : Nat), Sm_ l g E 3 en_i (fX11_applies_d10_b35 (gE_ g) N m) k n 35 [] [] m := by
  intro m k n
  unfold fX11_applies_d10_b35
  refine s_iconst C 0 rfl dX11_applies_35 36 rfl ?_
  refine s_goto C (off := 32) 68 dX11_applies_36 rfl ?_
  exact wX11_applies_d10_b68 C hret h0 hin N _ _ _ _
theorem wX11_applies_d10_b63 {l : Launch} {g : GG} {E : Me_} (C : Cx_ l g E "MasterTree$Combined" cX11_applies 3 30) (hret : (eT_ E).sig.returnType = (Option.some Jvm.ClassFile.FieldType.boolean)) (h0 : ∀ x ∈ (eC_ E).exceptionTable.toList, False) (hin : (eT_ E).name = "applies") (N : Nat) : ∀ (m : Mm) (k n : Nat), Sm_ l g E 3 en_i (fX11_applies_d10_b63 (gE_ g) N m) k n 63 [] [] m := by
  intro m k n
  unfold fX11_applies_d10_b63
  refine s_iconst C 1 rfl dX11_applies_63 64 rfl ?_
  refine s_goto C (off := 4) 68 dX11_applies_64 rfl ?_
  exact wX11_applies_d10_b68 C hret h0 hin N _ _ _ _
theorem wX11_applies_d10 {l : Launch} {g : GG} {E : Me_} (C : Cx_ l g E "MasterTree$Combined" cX11_applies 3 30) (hret : (eT_ E).sig.returnType = (Option.some Jvm.ClassFile.FieldType.boolean)) (h0 : ∀ x ∈ (eC_ E).exceptionTable.toList, False) (hin : (eT_ E).name = "applies") (N : Nat) : ∀ (m : Mm) (v0 : Option Nat) (v1 : Option Nat) (v2 : Option Nat) (k n : Nat), Sm_ l g E 3 en_i (fX11_applies_d10 (gE_ g) N m v0 v1 v2) k n 0 [(0, vr_ v0), (1, vr_ v1), (2, vr_ v2)] [] m := by
  intro m v0 v1 v2 k n
  unfold fX11_applies_d10
  refine s_aload_n C rfl 0 rfl dX11_applies_0 1 rfl ?_
  refine x_gi C 9 (RX11, TX11, 3) rfl 2 (Nat.le_of_ble_eq_true rfl) q2642 (Or.inl rfl) rfl 10 rfl dX11_applies_1 4 rfl (fun x1 => ?_)
  refine s_if_eq C dX11_applies_4 39 rfl 7 rfl (fun c_ => ?_) (fun c_ => ?_)
  · refine s_aload_n C rfl 0 rfl dX11_applies_39 40 rfl ?_
    refine x_gr C 9 (RX11, TX11, 3) rfl 0 (Nat.le_of_ble_eq_true rfl) q2640 (Or.inl rfl) rfl 10 rfl dX11_applies_40 43 rfl (fun x2 => ?_)
    refine s_aload_n C rfl 1 rfl dX11_applies_43 44 rfl ?_
    refine s_aload_n C rfl 2 rfl dX11_applies_44 45 rfl ?_
    refine x_wi [] 48 (fun kk_ => ?_) (fun x3 m1 k1 n1 => ?_)
    · refine x_csr (kd := 8) (fun hb_ hb0_ => ?_) ?_
      · exact x_callA (enc := en_i) (owner := "MasterTree$Filter") C 19 2 [vr_ v1, vr_ v2] 8 (ctX9_applies C.2.2.2.2.2.2.2.2.1 N m x2 v1 v2) hb_ hb0_ rfl rfl q2831 q2797 q2801 q2802 q139 q2803 q2796 ⟨by decide +kernel, by decide +kernel, by decide +kernel⟩ (Nat.le_of_ble_eq_true rfl) (Nat.le_of_ble_eq_true rfl) rfl (Nat.le_of_ble_eq_true rfl) dX11_applies_45 48 rfl rfl hen_i (kk_i kk_) (kx_n he_i)
      refine x_csr (kd := 9) (fun hb_ hb0_ => ?_) ?_
      · exact x_callA (enc := en_i) (owner := "MasterTree$Filter") C 13 2 [vr_ v1, vr_ v2] 9 (ctX10_applies C.2.2.2.2.2.2.2.2.1 N m x2 v1 v2) hb_ hb0_ rfl rfl q2831 q2797 q2798 q2799 q140 q2800 q2796 ⟨by decide +kernel, by decide +kernel, by decide +kernel⟩ (Nat.le_of_ble_eq_true rfl) (Nat.le_of_ble_eq_true rfl) rfl (Nat.le_of_ble_eq_true rfl) dX11_applies_45 48 rfl rfl hen_i (kk_i kk_) (kx_n he_i)
      refine x_csr (kd := 10) (fun hb_ hb0_ => ?_) ?_
      · exact x_callA (enc := en_i) (owner := "MasterTree$Filter") C 29 2 [vr_ v1, vr_ v2] 10 (ctX11_applies_d9 C.2.2.2.2.2.2.2.2.1 N m x2 v1 v2) hb_ hb0_ rfl rfl q2831 q2797 q2828 q2829 q141 q2830 q2796 ⟨by decide +kernel, by decide +kernel, by decide +kernel⟩ (Nat.le_of_ble_eq_true rfl) (Nat.le_of_ble_eq_true rfl) rfl (Nat.le_of_ble_eq_true rfl) dX11_applies_45 48 rfl rfl hen_i (kk_i kk_) (kx_n he_i)
      refine x_csr (kd := 11) (fun hb_ hb0_ => ?_) ?_
      · exact x_callA (enc := en_i) (owner := "MasterTree$Filter") C 29 2 [vr_ v1, vr_ v2] 11 (ctX12_applies_d9 C.2.2.2.2.2.2.2.2.1 N m x2 v1 v2) hb_ hb0_ rfl rfl q2831 q2797 q2835 q2832 q142 q2833 q2796 ⟨by decide +kernel, by decide +kernel, by decide +kernel⟩ (Nat.le_of_ble_eq_true rfl) (Nat.le_of_ble_eq_true rfl) rfl (Nat.le_of_ble_eq_true rfl) dX11_applies_45 48 rfl rfl hen_i (kk_i kk_) (kx_n he_i)
      exact Sm_bn
    refine s_if_ne C dX11_applies_48 63 rfl 51 rfl (fun c_ => ?_) (fun c_ => ?_)
    · refine s_aload_n C rfl 0 rfl dX11_applies_51 52 rfl ?_
      refine x_gr C 9 (RX11, TX11, 3) rfl 1 (Nat.le_of_ble_eq_true rfl) q2641 (Or.inl rfl) rfl 10 rfl dX11_applies_52 55 rfl (fun x8 => ?_)
      refine s_aload_n C rfl 1 rfl dX11_applies_55 56 rfl ?_
      refine s_aload_n C rfl 2 rfl dX11_applies_56 57 rfl ?_
      refine x_wi [] 60 (fun kk_ => ?_) (fun x9 m6 k1 n1 => ?_)
      · refine x_csr (kd := 8) (fun hb_ hb0_ => ?_) ?_
        · exact x_callA (enc := en_i) (owner := "MasterTree$Filter") C 19 2 [vr_ v1, vr_ v2] 8 (ctX9_applies C.2.2.2.2.2.2.2.2.1 N m1 x8 v1 v2) hb_ hb0_ rfl rfl q2831 q2797 q2801 q2802 q139 q2803 q2796 ⟨by decide +kernel, by decide +kernel, by decide +kernel⟩ (Nat.le_of_ble_eq_true rfl) (Nat.le_of_ble_eq_true rfl) rfl (Nat.le_of_ble_eq_true rfl) dX11_applies_57 60 rfl rfl hen_i (kk_i kk_) (kx_n he_i)
        refine x_csr (kd := 9) (fun hb_ hb0_ => ?_) ?_
        · exact x_callA (enc := en_i) (owner := "MasterTree$Filter") C 13 2 [vr_ v1, vr_ v2] 9 (ctX10_applies C.2.2.2.2.2.2.2.2.1 N m1 x8 v1 v2) hb_ hb0_ rfl rfl q2831 q2797 q2798 q2799 q140 q2800 q2796 ⟨by decide +kernel, by decide +kernel, by decide +kernel⟩ (Nat.le_of_ble_eq_true rfl) (Nat.le_of_ble_eq_true rfl) rfl (Nat.le_of_ble_eq_true rfl) dX11_applies_57 60 rfl rfl hen_i (kk_i kk_) (kx_n he_i)
        refine x_csr (kd := 10) (fun hb_ hb0_ => ?_) ?_
        · exact x_callA (enc := en_i) (owner := "MasterTree$Filter") C 29 2 [vr_ v1, vr_ v2] 10 (ctX11_applies_d9 C.2.2.2.2.2.2.2.2.1 N m1 x8 v1 v2) hb_ hb0_ rfl rfl q2831 q2797 q2828 q2829 q141 q2830 q2796 ⟨by decide +kernel, by decide +kernel, by decide +kernel⟩ (Nat.le_of_ble_eq_true rfl) (Nat.le_of_ble_eq_true rfl) rfl (Nat.le_of_ble_eq_true rfl) dX11_applies_57 60 rfl rfl hen_i (kk_i kk_) (kx_n he_i)
        refine x_csr (kd := 11) (fun hb_ hb0_ => ?_) ?_
        · exact x_callA (enc := en_i) (owner := "MasterTree$Filter") C 29 2 [vr_ v1, vr_ v2] 11 (ctX12_applies_d9 C.2.2.2.2.2.2.2.2.1 N m1 x8 v1 v2) hb_ hb0_ rfl rfl q2831 q2797 q2835 q2832 q142 q2833 q2796 ⟨by decide +kernel, by decide +kernel, by decide +kernel⟩ (Nat.le_of_ble_eq_true rfl) (Nat.le_of_ble_eq_true rfl) rfl (Nat.le_of_ble_eq_true rfl) dX11_applies_57 60 rfl rfl hen_i (kk_i kk_) (kx_n he_i)
        exact Sm_bn
      refine s_if_eq C dX11_applies_60 67 rfl 63 rfl (fun c_ => ?_) (fun c_ => ?_)
      · refine s_iconst C 0 rfl dX11_applies_67 68 rfl ?_
        refine Sm_sub [] rfl ?_
        exact wX11_applies_d10_b68 C hret h0 hin N _ _ _ _
      · refine Sm_sub [] rfl ?_
        exact wX11_applies_d10_b63 C hret h0 hin N _ _ _
    · refine Sm_sub [] rfl ?_
      exact wX11_applies_d10_b63 C hret h0 hin N _ _ _
  · refine s_aload_n C rfl 0 rfl dX11_applies_7 8 rfl ?_
    refine x_gr C 9 (RX11, TX11, 3) rfl 0 (Nat.le_of_ble_eq_true rfl) q2640 (Or.inl rfl) rfl 10 rfl dX11_applies_8 11 rfl (fun x14 => ?_)
    refine s_aload_n C rfl 1 rfl dX11_applies_11 12 rfl ?_
    refine s_aload_n C rfl 2 rfl dX11_applies_12 13 rfl ?_
    refine x_wi [] 16 (fun kk_ => ?_) (fun x15 m11 k1 n1 => ?_)
    · refine x_csr (kd := 8) (fun hb_ hb0_ => ?_) ?_
      · exact x_callA (enc := en_i) (owner := "MasterTree$Filter") C 19 2 [vr_ v1, vr_ v2] 8 (ctX9_applies C.2.2.2.2.2.2.2.2.1 N m x14 v1 v2) hb_ hb0_ rfl rfl q2831 q2797 q2801 q2802 q139 q2803 q2796 ⟨by decide +kernel, by decide +kernel, by decide +kernel⟩ (Nat.le_of_ble_eq_true rfl) (Nat.le_of_ble_eq_true rfl) rfl (Nat.le_of_ble_eq_true rfl) dX11_applies_13 16 rfl rfl hen_i (kk_i kk_) (kx_n he_i)
      refine x_csr (kd := 9) (fun hb_ hb0_ => ?_) ?_
      · exact x_callA (enc := en_i) (owner := "MasterTree$Filter") C 13 2 [vr_ v1, vr_ v2] 9 (ctX10_applies C.2.2.2.2.2.2.2.2.1 N m x14 v1 v2) hb_ hb0_ rfl rfl q2831 q2797 q2798 q2799 q140 q2800 q2796 ⟨by decide +kernel, by decide +kernel, by decide +kernel⟩ (Nat.le_of_ble_eq_true rfl) (Nat.le_of_ble_eq_true rfl) rfl (Nat.le_of_ble_eq_true rfl) dX11_applies_13 16 rfl rfl hen_i (kk_i kk_) (kx_n he_i)
      refine x_csr (kd := 10) (fun hb_ hb0_ => ?_) ?_
      · exact x_callA (enc := en_i) (owner := "MasterTree$Filter") C 29 2 [vr_ v1, vr_ v2] 10 (ctX11_applies_d9 C.2.2.2.2.2.2.2.2.1 N m x14 v1 v2) hb_ hb0_ rfl rfl q2831 q2797 q2828 q2829 q141 q2830 q2796 ⟨by decide +kernel, by decide +kernel, by decide +kernel⟩ (Nat.le_of_ble_eq_true rfl) (Nat.le_of_ble_eq_true rfl) rfl (Nat.le_of_ble_eq_true rfl) dX11_applies_13 16 rfl rfl hen_i (kk_i kk_) (kx_n he_i)
      refine x_csr (kd := 11) (fun hb_ hb0_ => ?_) ?_
      · exact x_callA (enc := en_i) (owner := "MasterTree$Filter") C 29 2 [vr_ v1, vr_ v2] 11 (ctX12_applies_d9 C.2.2.2.2.2.2.2.2.1 N m x14 v1 v2) hb_ hb0_ rfl rfl q2831 q2797 q2835 q2832 q142 q2833 q2796 ⟨by decide +kernel, by decide +kernel, by decide +kernel⟩ (Nat.le_of_ble_eq_true rfl) (Nat.le_of_ble_eq_true rfl) rfl (Nat.le_of_ble_eq_true rfl) dX11_applies_13 16 rfl rfl hen_i (kk_i kk_) (kx_n he_i)
      exact Sm_bn
    refine s_if_eq C dX11_applies_16 35 rfl 19 rfl (fun c_ => ?_) (fun c_ => ?_)
    · refine Sm_sub [] rfl ?_
      exact wX11_applies_d10_b35 C hret h0 hin N _ _ _
    · refine s_aload_n C rfl 0 rfl dX11_applies_19 20 rfl ?_
      refine x_gr C 9 (RX11, TX11, 3) rfl 1 (Nat.le_of_ble_eq_true rfl) q2641 (Or.inl rfl) rfl 10 rfl dX11_applies_20 23 rfl (fun x20 => ?_)
      refine s_aload_n C rfl 1 rfl dX11_applies_23 24 rfl ?_
      refine s_aload_n C rfl 2 rfl dX11_applies_24 25 rfl ?_
      refine x_wi [] 28 (fun kk_ => ?_) (fun x21 m16 k1 n1 => ?_)
      · refine x_csr (kd := 8) (fun hb_ hb0_ => ?_) ?_
        · exact x_callA (enc := en_i) (owner := "MasterTree$Filter") C 19 2 [vr_ v1, vr_ v2] 8 (ctX9_applies C.2.2.2.2.2.2.2.2.1 N m11 x20 v1 v2) hb_ hb0_ rfl rfl q2831 q2797 q2801 q2802 q139 q2803 q2796 ⟨by decide +kernel, by decide +kernel, by decide +kernel⟩ (Nat.le_of_ble_eq_true rfl) (Nat.le_of_ble_eq_true rfl) rfl (Nat.le_of_ble_eq_true rfl) dX11_applies_25 28 rfl rfl hen_i (kk_i kk_) (kx_n he_i)
        refine x_csr (kd := 9) (fun hb_ hb0_ => ?_) ?_
        · exact x_callA (enc := en_i) (owner := "MasterTree$Filter") C 13 2 [vr_ v1, vr_ v2] 9 (ctX10_applies C.2.2.2.2.2.2.2.2.1 N m11 x20 v1 v2) hb_ hb0_ rfl rfl q2831 q2797 q2798 q2799 q140 q2800 q2796 ⟨by decide +kernel, by decide +kernel, by decide +kernel⟩ (Nat.le_of_ble_eq_true rfl) (Nat.le_of_ble_eq_true rfl) rfl (Nat.le_of_ble_eq_true rfl) dX11_applies_25 28 rfl rfl hen_i (kk_i kk_) (kx_n he_i)
        refine x_csr (kd := 10) (fun hb_ hb0_ => ?_) ?_
        · exact x_callA (enc := en_i) (owner := "MasterTree$Filter") C 29 2 [vr_ v1, vr_ v2] 10 (ctX11_applies_d9 C.2.2.2.2.2.2.2.2.1 N m11 x20 v1 v2) hb_ hb0_ rfl rfl q2831 q2797 q2828 q2829 q141 q2830 q2796 ⟨by decide +kernel, by decide +kernel, by decide +kernel⟩ (Nat.le_of_ble_eq_true rfl) (Nat.le_of_ble_eq_true rfl) rfl (Nat.le_of_ble_eq_true rfl) dX11_applies_25 28 rfl rfl hen_i (kk_i kk_) (kx_n he_i)
        refine x_csr (kd := 11) (fun hb_ hb0_ => ?_) ?_
        · exact x_callA (enc := en_i) (owner := "MasterTree$Filter") C 29 2 [vr_ v1, vr_ v2] 11 (ctX12_applies_d9 C.2.2.2.2.2.2.2.2.1 N m11 x20 v1 v2) hb_ hb0_ rfl rfl q2831 q2797 q2835 q2832 q142 q2833 q2796 ⟨by decide +kernel, by decide +kernel, by decide +kernel⟩ (Nat.le_of_ble_eq_true rfl) (Nat.le_of_ble_eq_true rfl) rfl (Nat.le_of_ble_eq_true rfl) dX11_applies_25 28 rfl rfl hen_i (kk_i kk_) (kx_n he_i)
        exact Sm_bn
      refine s_if_eq C dX11_applies_28 35 rfl 31 rfl (fun c_ => ?_) (fun c_ => ?_)
      · refine Sm_sub [] rfl ?_
        exact wX11_applies_d10_b35 C hret h0 hin N _ _ _
      · refine s_iconst C 1 rfl dX11_applies_31 32 rfl ?_
        refine s_goto C (off := 36) 68 dX11_applies_32 rfl ?_
        refine Sm_sub [] rfl ?_
        exact wX11_applies_d10_b68 C hret h0 hin N _ _ _ _
theorem hdX11_applies_d10 : ((⟨"MasterTree$Combined", "applies", "(LMasterTree$Master;LMasterTree$Entry;)Z"⟩ : MethodName)).cls ≠ "java/lang/invoke/MethodHandle" ∧ ((⟨"MasterTree$Combined", "applies", "(LMasterTree$Master;LMasterTree$Entry;)Z"⟩ : MethodName)).cls ≠ "java/lang/invoke/VarHandle" ∧ (parseMethodDescriptor ((⟨"MasterTree$Combined", "applies", "(LMasterTree$Master;LMasterTree$Entry;)Z"⟩ : MethodName)).desc).map (fun d => d.parameters.length) = some 2 := ⟨by decide +kernel, by decide +kernel, by decide +kernel⟩
theorem ctX11_applies_d10 {l : Launch} {g : GG} (hst : l.stackTraces = false) (N : Nat) (m : Mm) (v0 : Option Nat) (v1 : Option Nat) (v2 : Option Nat) : ∀ v m' k n, fX11_applies_d10 (gE_ g) N m v0 v1 v2 = some (v, m', k, n) → Ct_ l g (⟨"MasterTree$Combined", "applies", "(LMasterTree$Master;LMasterTree$Entry;)Z"⟩ : MethodName) (ws_ (⟨"MasterTree$Combined", "applies", "(LMasterTree$Master;LMasterTree$Entry;)Z"⟩ : MethodName) cX11_applies 3 (Option.some Jvm.ClassFile.FieldType.boolean)) 30 [vr_ v0, vr_ v1, vr_ v2] m (en_i v) m' k n :=
  Ct_of (by decide +kernel) rfl hst (Nat.le_of_ble_eq_true rfl) rfl (fun E C hret h0 hin => wX11_applies_d10 C hret h0 hin N m v0 v1 v2 0 0)
theorem wX12_applies_d10_b17 {l : Launch} {g : GG} {E : Me_} (C : Cx_ l g E "MasterTree$Not" cX12_applies 3 30) (hret : (eT_ E).sig.returnType = (Option.some Jvm.ClassFile.FieldType.boolean)) (h0 : ∀ x ∈ (eC_ E).exceptionTable.toList, False) (hin : (eT_ E).name = "applies") (N : Nat) : ∀ (m : Mm) (s0 : Int32) (k n : Nat), Sm_ l g E 3 en_i (fX12_applies_d10_b17 (gE_ g) N m s0) k n 17 [] [vi_ s0] m := by
  intro m s0 k n
  unfold fX12_applies_d10_b17
  exact x_zret C hret rfl dX12_applies_17
theorem wX12_applies_d10 {l : Launch} {g : GG} {E : Me_} (C : Cx_ l g E "MasterTree$Not" cX12_applies 3 30) (hret : (eT_ E).sig.returnType = (Option.some Jvm.ClassFile.FieldType.boolean)) (h0 : ∀ x ∈ (eC_ E).exceptionTable.toList, False) (hin : (eT_ E).name = "applies") (N : Nat) : ∀ (m : Mm) (v0 : Option Nat) (v1 : Option Nat) (v2 : Option Nat) (k n : Nat), Sm_ l g E 3 en_i (fX12_applies_d10 (gE_ g) N m v0 v1 v2) k n 0 [(0, vr_ v0), (1, vr_ v1), (2, vr_ v2)] [] m := by
  intro m v0 v1 v2 k n
  unfold fX12_applies_d10
  refine s_aload_n C rfl 0 rfl dX12_applies_0 1 rfl ?_
  refine x_gr C 10 (RX12, TX12, 1) rfl 0 (Nat.le_of_ble_eq_true rfl) q2666 (Or.inl rfl) rfl 11 rfl dX12_applies_1 4 rfl (fun x1 => ?_)
  refine s_aload_n C rfl 1 rfl dX12_applies_4 5 rfl ?_
  refine s_aload_n C rfl 2 rfl dX12_applies_5 6 rfl ?_
  refine x_wi [] 9 (fun kk_ => ?_) (fun x2 m1 k1 n1 => ?_)
  · refine x_csr (kd := 8) (fun hb_ hb0_ => ?_) ?_
    · exact x_callA (enc := en_i) (owner := "MasterTree$Filter") C 19 2 [vr_ v1, vr_ v2] 8 (ctX9_applies C.2.2.2.2.2.2.2.2.1 N m x1 v1 v2) hb_ hb0_ rfl rfl q2834 q2797 q2801 q2802 q139 q2803 q2796 ⟨by decide +kernel, by decide +kernel, by decide +kernel⟩ (Nat.le_of_ble_eq_true rfl) (Nat.le_of_ble_eq_true rfl) rfl (Nat.le_of_ble_eq_true rfl) dX12_applies_6 9 rfl rfl hen_i (kk_i kk_) (kx_n he_i)
    refine x_csr (kd := 9) (fun hb_ hb0_ => ?_) ?_
    · exact x_callA (enc := en_i) (owner := "MasterTree$Filter") C 13 2 [vr_ v1, vr_ v2] 9 (ctX10_applies C.2.2.2.2.2.2.2.2.1 N m x1 v1 v2) hb_ hb0_ rfl rfl q2834 q2797 q2798 q2799 q140 q2800 q2796 ⟨by decide +kernel, by decide +kernel, by decide +kernel⟩ (Nat.le_of_ble_eq_true rfl) (Nat.le_of_ble_eq_true rfl) rfl (Nat.le_of_ble_eq_true rfl) dX12_applies_6 9 rfl rfl hen_i (kk_i kk_) (kx_n he_i)
    refine x_csr (kd := 10) (fun hb_ hb0_ => ?_) ?_
    · exact x_callA (enc := en_i) (owner := "MasterTree$Filter") C 29 2 [vr_ v1, vr_ v2] 10 (ctX11_applies_d9 C.2.2.2.2.2.2.2.2.1 N m x1 v1 v2) hb_ hb0_ rfl rfl q2834 q2797 q2828 q2829 q141 q2830 q2796 ⟨by decide +kernel, by decide +kernel, by decide +kernel⟩ (Nat.le_of_ble_eq_true rfl) (Nat.le_of_ble_eq_true rfl) rfl (Nat.le_of_ble_eq_true rfl) dX12_applies_6 9 rfl rfl hen_i (kk_i kk_) (kx_n he_i)
    refine x_csr (kd := 11) (fun hb_ hb0_ => ?_) ?_
    · exact x_callA (enc := en_i) (owner := "MasterTree$Filter") C 29 2 [vr_ v1, vr_ v2] 11 (ctX12_applies_d9 C.2.2.2.2.2.2.2.2.1 N m x1 v1 v2) hb_ hb0_ rfl rfl q2834 q2797 q2835 q2832 q142 q2833 q2796 ⟨by decide +kernel, by decide +kernel, by decide +kernel⟩ (Nat.le_of_ble_eq_true rfl) (Nat.le_of_ble_eq_true rfl) rfl (Nat.le_of_ble_eq_true rfl) dX12_applies_6 9 rfl rfl hen_i (kk_i kk_) (kx_n he_i)
    exact Sm_bn
  refine s_if_ne C dX12_applies_9 16 rfl 12 rfl (fun c_ => ?_) (fun c_ => ?_)
  · refine s_iconst C 1 rfl dX12_applies_12 13 rfl ?_
    refine s_goto C (off := 4) 17 dX12_applies_13 rfl ?_
    refine Sm_sub [] rfl ?_
    exact wX12_applies_d10_b17 C hret h0 hin N _ _ _ _
  · refine s_iconst C 0 rfl dX12_applies_16 17 rfl ?_
    refine Sm_sub [] rfl ?_
    exact wX12_applies_d10_b17 C hret h0 hin N _ _ _ _
theorem hdX12_applies_d10 : ((⟨"MasterTree$Not", "applies", "(LMasterTree$Master;LMasterTree$Entry;)Z"⟩ : MethodName)).cls ≠ "java/lang/invoke/MethodHandle" ∧ ((⟨"MasterTree$Not", "applies", "(LMasterTree$Master;LMasterTree$Entry;)Z"⟩ : MethodName)).cls ≠ "java/lang/invoke/VarHandle" ∧ (parseMethodDescriptor ((⟨"MasterTree$Not", "applies", "(LMasterTree$Master;LMasterTree$Entry;)Z"⟩ : MethodName)).desc).map (fun d => d.parameters.length) = some 2 := ⟨by decide +kernel, by decide +kernel, by decide +kernel⟩
theorem ctX12_applies_d10 {l : Launch} {g : GG} (hst : l.stackTraces = false) (N : Nat) (m : Mm) (v0 : Option Nat) (v1 : Option Nat) (v2 : Option Nat) : ∀ v m' k n, fX12_applies_d10 (gE_ g) N m v0 v1 v2 = some (v, m', k, n) → Ct_ l g (⟨"MasterTree$Not", "applies", "(LMasterTree$Master;LMasterTree$Entry;)Z"⟩ : MethodName) (ws_ (⟨"MasterTree$Not", "applies", "(LMasterTree$Master;LMasterTree$Entry;)Z"⟩ : MethodName) cX12_applies 3 (Option.some Jvm.ClassFile.FieldType.boolean)) 30 [vr_ v0, vr_ v1, vr_ v2] m (en_i v) m' k n :=
  Ct_of (by decide +kernel) rfl hst (Nat.le_of_ble_eq_true rfl) rfl (fun E C hret h0 hin => wX12_applies_d10 C hret h0 hin N m v0 v1 v2 0 0)
theorem wX11_applies_d11_b68 {l : Launch} {g : GG} {E : Me_} (C : Cx_ l g E "MasterTree$Combined" cX11_applies 3 31) (hret : (eT_ E).sig.returnType = (Option.some Jvm.ClassFile.FieldType.boolean)) (h0 : ∀ x ∈ (eC_ E).exceptionTable.toList, False) (hin : (eT_ E).name = "applies") (N : Nat) : ∀ (m : Mm) (s0 : Int32) (k n : Nat), Sm_ l g E 3 en_i (fX11_applies_d11_b68 (gE_ g) N m s0) k n 68 [] [vi_ s0] m := by
  intro m s0 k n
  unfold fX11_applies_d11_b68
  exact x_zret C hret rfl dX11_applies_68
theorem wX11_applies_d11_b35 {l : Launch} {g : GG} {E : Me_} (C : Cx_ l g E "MasterTree$Combined" cX11_applies 3 31) (hret : (eT_ E).sig.returnType = (Option.some Jvm.ClassFile.FieldType.boolean)) (h0 : ∀ x ∈ (eC_ E).exceptionTable.toList, False) (hin : (eT_ E).name = "applies") (N : Nat) : ∀ (m : Mm) (k n : Nat), Sm_ l g E 3 en_i (fX11_applies_d11_b35 (gE_ g) N m) k n 35 [] [] m := by
  intro m k n
  unfold fX11_applies_d11_b35
  refine s_iconst C 0 rfl dX11_applies_35 36 rfl ?_
  refine s_goto C (off := 32) 68 dX11_applies_36 rfl ?_
  exact wX11_applies_d11_b68 C hret h0 hin N _ _ _ _
theorem wX11_applies_d11_b63 {l : Launch} {g : GG} {E : Me_} (C : Cx_ l g E "MasterTree$Combined" cX11_applies 3 31) (hret : (eT_ E).sig.returnType = (Option.some Jvm.ClassFile.FieldType.boolean)) (h0 : ∀ x ∈ (eC_ E).exceptionTable.toList, False) (hin : (eT_ E).name = "applies") (N : Nat) : ∀ (m : Mm) (k n : Nat), Sm_ l g E 3 en_i (fX11_applies_d11_b63 (gE_ g) N m) k n 63 [] [] m := by
  intro m k n
  unfold fX11_applies_d11_b63
  refine s_iconst C 1 rfl dX11_applies_63 64 rfl ?_
  refine s_goto C (off := 4) 68 dX11_applies_64 rfl ?_
  exact wX11_applies_d11_b68 C hret h0 hin N _ _ _ _
theorem wX11_applies_d11 {l : Launch} {g : GG} {E : Me_} (C : Cx_ l g E "MasterTree$Combined" cX11_applies 3 31) (hret : (eT_ E).sig.returnType = (Option.some Jvm.ClassFile.FieldType.boolean)) (h0 : ∀ x ∈ (eC_ E).exceptionTable.toList, False) (hin : (eT_ E).name = "applies") (N : Nat) : ∀ (m : Mm) (v0 : Option Nat) (v1 : Option Nat) (v2 : Option Nat) (k n : Nat), Sm_ l g E 3 en_i (fX11_applies_d11 (gE_ g) N m v0 v1 v2) k n 0 [(0, vr_ v0), (1, vr_ v1), (2, vr_ v2)] [] m := by
  intro m v0 v1 v2 k n
  unfold fX11_applies_d11
  refine s_aload_n C rfl 0 rfl dX11_applies_0 1 rfl ?_
  refine x_gi C 9 (RX11, TX11, 3) rfl 2 (Nat.le_of_ble_eq_true rfl) q2642 (Or.inl rfl) rfl 10 rfl dX11_applies_1 4 rfl (fun x1 => ?_)
  refine s_if_eq C dX11_applies_4 39 rfl 7 rfl (fun c_ => ?_) (fun c_ => ?_)
  · refine s_aload_n C rfl 0 rfl dX11_applies_39 40 rfl ?_
    refine x_gr C 9 (RX11, TX11, 3) rfl 0 (Nat.le_of_ble_eq_true rfl) q2640 (Or.inl rfl) rfl 10 rfl dX11_applies_40 43 rfl (fun x2 => ?_)
    refine s_aload_n C rfl 1 rfl dX11_applies_43 44 rfl ?_
    refine s_aload_n C rfl 2 rfl dX11_applies_44 45 rfl ?_
    refine x_wi [] 48 (fun kk_ => ?_) (fun x3 m1 k1 n1 => ?_)
    · refine x_csr (kd := 8) (fun hb_ hb0_ => ?_) ?_
      · exact x_callA (enc := en_i) (owner := "MasterTree$Filter") C 19 2 [vr_ v1, vr_ v2] 8 (ctX9_applies C.2.2.2.2.2.2.2.2.1 N m x2 v1 v2) hb_ hb0_ rfl rfl q2831 q2797 q2801 q2802 q139 q2803 q2796 ⟨by decide +kernel, by decide +kernel, by decide +kernel⟩ (Nat.le_of_ble_eq_true rfl) (Nat.le_of_ble_eq_true rfl) rfl (Nat.le_of_ble_eq_true rfl) dX11_applies_45 48 rfl rfl hen_i (kk_i kk_) (kx_n he_i)
      refine x_csr (kd := 9) (fun hb_ hb0_ => ?_) ?_
      · exact x_callA (enc := en_i) (owner := "MasterTree$Filter") C 13 2 [vr_ v1, vr_ v2] 9 (ctX10_applies C.2.2.2.2.2.2.2.2.1 N m x2 v1 v2) hb_ hb0_ rfl rfl q2831 q2797 q2798 q2799 q140 q2800 q2796 ⟨by decide +kernel, by decide +kernel, by decide +kernel⟩ (Nat.le_of_ble_eq_true rfl) (Nat.le_of_ble_eq_true rfl) rfl (Nat.le_of_ble_eq_true rfl) dX11_applies_45 48 rfl rfl hen_i (kk_i kk_) (kx_n he_i)
      refine x_csr (kd := 10) (fun hb_ hb0_ => ?_) ?_
      · exact x_callA (enc := en_i) (owner := "MasterTree$Filter") C 30 2 [vr_ v1, vr_ v2] 10 (ctX11_applies_d10 C.2.2.2.2.2.2.2.2.1 N m x2 v1 v2) hb_ hb0_ rfl rfl q2831 q2797 q2828 q2829 q141 q2830 q2796 ⟨by decide +kernel, by decide +kernel, by decide +kernel⟩ (Nat.le_of_ble_eq_true rfl) (Nat.le_of_ble_eq_true rfl) rfl (Nat.le_of_ble_eq_true rfl) dX11_applies_45 48 rfl rfl hen_i (kk_i kk_) (kx_n he_i)
      refine x_csr (kd := 11) (fun hb_ hb0_ => ?_) ?_
      · exact x_callA (enc := en_i) (owner := "MasterTree$Filter") C 30 2 [vr_ v1, vr_ v2] 11 (ctX12_applies_d10 C.2.2.2.2.2.2.2.2.1 N m x2 v1 v2) hb_ hb0_ rfl rfl q2831 q2797 q2835 q2832 q142 q2833 q2796 ⟨by decide +kernel, by decide +kernel, by decide +kernel⟩ (Nat.le_of_ble_eq_true rfl) (Nat.le_of_ble_eq_true rfl) rfl (Nat.le_of_ble_eq_true rfl) dX11_applies_45 48 rfl rfl hen_i (kk_i kk_) (kx_n he_i)
      exact Sm_bn
    refine s_if_ne C dX11_applies_48 63 rfl 51 rfl (fun c_ => ?_) (fun c_ => ?_)
    · refine s_aload_n C rfl 0 rfl dX11_applies_51 52 rfl ?_
      refine x_gr C 9 (RX11, TX11, 3) rfl 1 (Nat.le_of_ble_eq_true rfl) q2641 (Or.inl rfl) rfl 10 rfl dX11_applies_52 55 rfl (fun x8 => ?_)
      refine s_aload_n C rfl 1 rfl dX11_applies_55 56 rfl ?_
      refine s_aload_n C rfl 2 rfl dX11_applies_56 57 rfl ?_
      refine x_wi [] 60 (fun kk_ => ?_) (fun x9 m6 k1 n1 => ?_)
      · refine x_csr (kd := 8) (fun hb_ hb0_ => ?_) ?_
        · exact x_callA (enc := en_i) (owner := "MasterTree$Filter") C 19 2 [vr_ v1, vr_ v2] 8 (ctX9_applies C.2.2.2.2.2.2.2.2.1 N m1 x8 v1 v2) hb_ hb0_ rfl rfl q2831 q2797 q2801 q2802 q139 q2803 q2796 ⟨by decide +kernel, by decide +kernel, by decide +kernel⟩ (Nat.le_of_ble_eq_true rfl) (Nat.le_of_ble_eq_true rfl) rfl (Nat.le_of_ble_eq_true rfl) dX11_applies_57 60 rfl rfl hen_i (kk_i kk_) (kx_n he_i)
        refine x_csr (kd := 9) (fun hb_ hb0_ => ?_) ?_
        · exact x_callA (enc := en_i) (owner := "MasterTree$Filter") C 13 2 [vr_ v1, vr_ v2] 9 (ctX10_applies C.2.2.2.2.2.2.2.2.1 N m1 x8 v1 v2) hb_ hb0_ rfl rfl q2831 q2797 q2798 q2799 q140 q2800 q2796 ⟨by decide +kernel, by decide +kernel, by decide +kernel⟩ (Nat.le_of_ble_eq_true rfl) (Nat.le_of_ble_eq_true rfl) rfl (Nat.le_of_ble_eq_true rfl) dX11_applies_57 60 rfl rfl hen_i (kk_i kk_) (kx_n he_i)
        refine x_csr (kd := 10) (fun hb_ hb0_ => ?_) ?_
        · exact x_callA (enc := en_i) (owner := "MasterTree$Filter") C 30 2 [vr_ v1, vr_ v2] 10 (ctX11_applies_d10 C.2.2.2.2.2.2.2.2.1 N m1 x8 v1 v2) hb_ hb0_ rfl rfl q2831 q2797 q2828 q2829 q141 q2830 q2796 ⟨by decide +kernel, by decide +kernel, by decide +kernel⟩ (Nat.le_of_ble_eq_true rfl) (Nat.le_of_ble_eq_true rfl) rfl (Nat.le_of_ble_eq_true rfl) dX11_applies_57 60 rfl rfl hen_i (kk_i kk_) (kx_n he_i)
        refine x_csr (kd := 11) (fun hb_ hb0_ => ?_) ?_
        · exact x_callA (enc := en_i) (owner := "MasterTree$Filter") C 30 2 [vr_ v1, vr_ v2] 11 (ctX12_applies_d10 C.2.2.2.2.2.2.2.2.1 N m1 x8 v1 v2) hb_ hb0_ rfl rfl q2831 q2797 q2835 q2832 q142 q2833 q2796 ⟨by decide +kernel, by decide +kernel, by decide +kernel⟩ (Nat.le_of_ble_eq_true rfl) (Nat.le_of_ble_eq_true rfl) rfl (Nat.le_of_ble_eq_true rfl) dX11_applies_57 60 rfl rfl hen_i (kk_i kk_) (kx_n he_i)
        exact Sm_bn
      refine s_if_eq C dX11_applies_60 67 rfl 63 rfl (fun c_ => ?_) (fun c_ => ?_)
      · refine s_iconst C 0 rfl dX11_applies_67 68 rfl ?_
        refine Sm_sub [] rfl ?_
        exact wX11_applies_d11_b68 C hret h0 hin N _ _ _ _
      · refine Sm_sub [] rfl ?_
        exact wX11_applies_d11_b63 C hret h0 hin N _ _ _
    · refine Sm_sub [] rfl ?_
      exact wX11_applies_d11_b63 C hret h0 hin N _ _ _
  · refine s_aload_n C rfl 0 rfl dX11_applies_7 8 rfl ?_
    refine x_gr C 9 (RX11, TX11, 3) rfl 0 (Nat.le_of_ble_eq_true rfl) q2640 (Or.inl rfl) rfl 10 rfl dX11_applies_8 11 rfl (fun x14 => ?_)
    refine s_aload_n C rfl 1 rfl dX11_applies_11 12 rfl ?_
    refine s_aload_n C rfl 2 rfl dX11_applies_12 13 rfl ?_
    refine x_wi [] 16 (fun kk_ => ?_) (fun x15 m11 k1 n1 => ?_)
    · refine x_csr (kd := 8) (fun hb_ hb0_ => ?_) ?_
      · exact x_callA (enc := en_i) (owner := "MasterTree$Filter") C 19 2 [vr_ v1, vr_ v2] 8 (ctX9_applies C.2.2.2.2.2.2.2.2.1 N m x14 v1 v2) hb_ hb0_ rfl rfl q2831 q2797 q2801 q2802 q139 q2803 q2796 ⟨by decide +kernel, by decide +kernel, by decide +kernel⟩ (Nat.le_of_ble_eq_true rfl) (Nat.le_of_ble_eq_true rfl) rfl (Nat.le_of_ble_eq_true rfl) dX11_applies_13 16 rfl rfl hen_i (kk_i kk_) (kx_n he_i)
      refine x_csr (kd := 9) (fun hb_ hb0_ => ?_) ?_
      · exact x_callA (enc := en_i) (owner := "MasterTree$Filter") C 13 2 [vr_ v1, vr_ v2] 9 (ctX10_applies C.2.2.2.2.2.2.2.2.1 N m x14 v1 v2) hb_ hb0_ rfl rfl q2831 q2797 q2798 q2799 q140 q2800 q2796 ⟨by decide +kernel, by decide +kernel, by decide +kernel⟩ (Nat.le_of_ble_eq_true rfl) (Nat.le_of_ble_eq_true rfl) rfl (Nat.le_of_ble_eq_true rfl) dX11_applies_13 16 rfl rfl hen_i (kk_i kk_) (kx_n he_i)
      refine x_csr (kd := 10) (fun hb_ hb0_ => ?_) ?_
      · exact x_callA (enc := en_i) (owner := "MasterTree$Filter") C 30 2 [vr_ v1, vr_ v2] 10 (ctX11_applies_d10 C.2.2.2.2.2.2.2.2.1 N m x14 v1 v2) hb_ hb0_ rfl rfl q2831 q2797 q2828 q2829 q141 q2830 q2796 ⟨by decide +kernel, by decide +kernel, by decide +kernel⟩ (Nat.le_of_ble_eq_true rfl) (Nat.le_of_ble_eq_true rfl) rfl (Nat.le_of_ble_eq_true rfl) dX11_applies_13 16 rfl rfl hen_i (kk_i kk_) (kx_n he_i)
      refine x_csr (kd := 11) (fun hb_ hb0_ => ?_) ?_
      · exact x_callA (enc := en_i) (owner := "MasterTree$Filter") C 30 2 [vr_ v1, vr_ v2] 11 (ctX12_applies_d10 C.2.2.2.2.2.2.2.2.1 N m x14 v1 v2) hb_ hb0_ rfl rfl q2831 q2797 q2835 q2832 q142 q2833 q2796 ⟨by decide +kernel, by decide +kernel, by decide +kernel⟩ (Nat.le_of_ble_eq_true rfl) (Nat.le_of_ble_eq_true rfl) rfl (Nat.le_of_ble_eq_true rfl) dX11_applies_13 16 rfl rfl hen_i (kk_i kk_) (kx_n he_i)
      exact Sm_bn
    refine s_if_eq C dX11_applies_16 35 rfl 19 rfl (fun c_ => ?_) (fun c_ => ?_)
    · refine Sm_sub [] rfl ?_
      exact wX11_applies_d11_b35 C hret h0 hin N _ _ _
    · refine s_aload_n C rfl 0 rfl dX11_applies_19 20 rfl ?_
      refine x_gr C 9 (RX11, TX11, 3) rfl 1 (Nat.le_of_ble_eq_true rfl) q2641 (Or.inl rfl) rfl 10 rfl dX11_applies_20 23 rfl (fun x20 => ?_)
      refine s_aload_n C rfl 1 rfl dX11_applies_23 24 rfl ?_
      refine s_aload_n C rfl 2 rfl dX11_applies_24 25 rfl ?_
      refine x_wi [] 28 (fun kk_ => ?_) (fun x21 m16 k1 n1 => ?_)
      · refine x_csr (kd := 8) (fun hb_ hb0_ => ?_) ?_
        · exact x_callA (enc := en_i) (owner := "MasterTree$Filter") C 19 2 [vr_ v1, vr_ v2] 8 (ctX9_applies C.2.2.2.2.2.2.2.2.1 N m11 x20 v1 v2) hb_ hb0_ rfl rfl q2831 q2797 q2801 q2802 q139 q2803 q2796 ⟨by decide +kernel, by decide +kernel, by decide +kernel⟩ (Nat.le_of_ble_eq_true rfl) (Nat.le_of_ble_eq_true rfl) rfl (Nat.le_of_ble_eq_true rfl) dX11_applies_25 28 rfl rfl hen_i (kk_i kk_) (kx_n he_i)
        refine x_csr (kd := 9) (fun hb_ hb0_ => ?_) ?_
        · exact x_callA (enc := en_i) (owner := "MasterTree$Filter") C 13 2 [vr_ v1, vr_ v2] 9 (ctX10_applies C.2.2.2.2.2.2.2.2.1 N m11 x20 v1 v2) hb_ hb0_ rfl rfl q2831 q2797 q2798 q2799 q140 q2800 q2796 ⟨by decide +kernel, by decide +kernel, by decide +kernel⟩ (Nat.le_of_ble_eq_true rfl) (Nat.le_of_ble_eq_true rfl) rfl (Nat.le_of_ble_eq_true rfl) dX11_applies_25 28 rfl rfl hen_i (kk_i kk_) (kx_n he_i)
        refine x_csr (kd := 10) (fun hb_ hb0_ => ?_) ?_
        · exact x_callA (enc := en_i) (owner := "MasterTree$Filter") C 30 2 [vr_ v1, vr_ v2] 10 (ctX11_applies_d10 C.2.2.2.2.2.2.2.2.1 N m11 x20 v1 v2) hb_ hb0_ rfl rfl q2831 q2797 q2828 q2829 q141 q2830 q2796 ⟨by decide +kernel, by decide +kernel, by decide +kernel⟩ (Nat.le_of_ble_eq_true rfl) (Nat.le_of_ble_eq_true rfl) rfl (Nat.le_of_ble_eq_true rfl) dX11_applies_25 28 rfl rfl hen_i (kk_i kk_) (kx_n he_i)
        refine x_csr (kd := 11) (fun hb_ hb0_ => ?_) ?_
        · exact x_callA (enc := en_i) (owner := "MasterTree$Filter") C 30 2 [vr_ v1, vr_ v2] 11 (ctX12_applies_d10 C.2.2.2.2.2.2.2.2.1 N m11 x20 v1 v2) hb_ hb0_ rfl rfl q2831 q2797 q2835 q2832 q142 q2833 q2796 ⟨by decide +kernel, by decide +kernel, by decide +kernel⟩ (Nat.le_of_ble_eq_true rfl) (Nat.le_of_ble_eq_true rfl) rfl (Nat.le_of_ble_eq_true rfl) dX11_applies_25 28 rfl rfl hen_i (kk_i kk_) (kx_n he_i)
        exact Sm_bn
      refine s_if_eq C dX11_applies_28 35 rfl 31 rfl (fun c_ => ?_) (fun c_ => ?_)
      · refine Sm_sub [] rfl ?_
        exact wX11_applies_d11_b35 C hret h0 hin N _ _ _
      · refine s_iconst C 1 rfl dX11_applies_31 32 rfl ?_
        refine s_goto C (off := 36) 68 dX11_applies_32 rfl ?_
        refine Sm_sub [] rfl ?_
        exact wX11_applies_d11_b68 C hret h0 hin N _ _ _ _
theorem hdX11_applies_d11 : ((⟨"MasterTree$Combined", "applies", "(LMasterTree$Master;LMasterTree$Entry;)Z"⟩ : MethodName)).cls ≠ "java/lang/invoke/MethodHandle" ∧ ((⟨"MasterTree$Combined", "applies", "(LMasterTree$Master;LMasterTree$Entry;)Z"⟩ : MethodName)).cls ≠ "java/lang/invoke/VarHandle" ∧ (parseMethodDescriptor ((⟨"MasterTree$Combined", "applies", "(LMasterTree$Master;LMasterTree$Entry;)Z"⟩ : MethodName)).desc).map (fun d => d.parameters.length) = some 2 := ⟨by decide +kernel, by decide +kernel, by decide +kernel⟩
theorem ctX11_applies_d11 {l : Launch} {g : GG} (hst : l.stackTraces = false) (N : Nat) (m : Mm) (v0 : Option Nat) (v1 : Option Nat) (v2 : Option Nat) : ∀ v m' k n, fX11_applies_d11 (gE_ g) N m v0 v1 v2 = some (v, m', k, n) → Ct_ l g (⟨"MasterTree$Combined", "applies", "(LMasterTree$Master;LMasterTree$Entry;)Z"⟩ : MethodName) (ws_ (⟨"MasterTree$Combined", "applies", "(LMasterTree$Master;LMasterTree$Entry;)Z"⟩ : MethodName) cX11_applies 3 (Option.some Jvm.ClassFile.FieldType.boolean)) 31 [vr_ v0, vr_ v1, vr_ v2] m (en_i v) m' k n :=
  Ct_of (by decide +kernel) rfl hst (Nat.le_of_ble_eq_true rfl) rfl (fun E C hret h0 hin => wX11_applies_d11 C hret h0 hin N m v0 v1 v2 0 0)
theorem wX12_applies_d11_b17 {l : Launch} {g : GG} {E : Me_} (C : Cx_ l g E "MasterTree$Not" cX12_applies 3 31) (hret : (eT_ E).sig.returnType = (Option.some Jvm.ClassFile.FieldType.boolean)) (h0 : ∀ x ∈ (eC_ E).exceptionTable.toList, False) (hin : (eT_ E).name = "applies") (N : Nat) : ∀ (m : Mm) (s0 : Int32) (k n : Nat), Sm_ l g E 3 en_i (fX12_applies_d11_b17 (gE_ g) N m s0) k n 17 [] [vi_ s0] m := by
  intro m s0 k n
  unfold fX12_applies_d11_b17
  exact x_zret C hret rfl dX12_applies_17
theorem wX12_applies_d11 {l : Launch} {g : GG} {E : Me_} (C : Cx_ l g E "MasterTree$Not" cX12_applies 3 31) (hret : (eT_ E).sig.returnType = (Option.some Jvm.ClassFile.FieldType.boolean)) (h0 : ∀ x ∈ (eC_ E).exceptionTable.toList, False) (hin : (eT_ E).name = "applies") (N : Nat) : ∀ (m : Mm) (v0 : Option Nat) (v1 : Option Nat) (v2 : Option Nat) (k n : Nat), Sm_ l g E 3 en_i (fX12_applies_d11 (gE_ g) N m v0 v1 v2) k n 0 [(0, vr_ v0), (1, vr_ v1), (2, vr_ v2)] [] m := by
  intro m v0 v1 v2 k n
  unfold fX12_applies_d11
  refine s_aload_n C rfl 0 rfl dX12_applies_0 1 rfl ?_
  refine x_gr C 10 (RX12, TX12, 1) rfl 0 (Nat.le_of_ble_eq_true rfl) q2666 (Or.inl rfl) rfl 11 rfl dX12_applies_1 4 rfl (fun x1 => ?_)
  refine s_aload_n C rfl 1 rfl dX12_applies_4 5 rfl ?_
  refine s_aload_n C rfl 2 rfl dX12_applies_5 6 rfl ?_
  refine x_wi [] 9 (fun kk_ => ?_) (fun x2 m1 k1 n1 => ?_)
  · refine x_csr (kd := 8) (fun hb_ hb0_ => ?_) ?_
    · exact x_callA (enc := en_i) (owner := "MasterTree$Filter") C 19 2 [vr_ v1, vr_ v2] 8 (ctX9_applies C.2.2.2.2.2.2.2.2.1 N m x1 v1 v2) hb_ hb0_ rfl rfl q2834 q2797 q2801 q2802 q139 q2803 q2796 ⟨by decide +kernel, by decide +kernel, by decide +kernel⟩ (Nat.le_of_ble_eq_true rfl) (Nat.le_of_ble_eq_true rfl) rfl (Nat.le_of_ble_eq_true rfl) dX12_applies_6 9 rfl rfl hen_i (kk_i kk_) (kx_n he_i)
    refine x_csr (kd := 9) (fun hb_ hb0_ => ?_) ?_
    · exact x_callA (enc := en_i) (owner := "MasterTree$Filter") C 13 2 [vr_ v1, vr_ v2] 9 (ctX10_applies C.2.2.2.2.2.2.2.2.1 N m x1 v1 v2) hb_ hb0_ rfl rfl q2834 q2797 q2798 q2799 q140 q2800 q2796 ⟨by decide +kernel, by decide +kernel, by decide +kernel⟩ (Nat.le_of_ble_eq_true rfl) (Nat.le_of_ble_eq_true rfl) rfl (Nat.le_of_ble_eq_true rfl) dX12_applies_6 9 rfl rfl hen_i (kk_i kk_) (kx_n he_i)
    refine x_csr (kd := 10) (fun hb_ hb0_ => ?_) ?_
    · exact x_callA (enc := en_i) (owner := "MasterTree$Filter") C 30 2 [vr_ v1, vr_ v2] 10 (ctX11_applies_d10 C.2.2.2.2.2.2.2.2.1 N m x1 v1 v2) hb_ hb0_ rfl rfl q2834 q2797 q2828 q2829 q141 q2830 q2796 ⟨by decide +kernel, by decide +kernel, by decide +kernel⟩ (Nat.le_of_ble_eq_true rfl) (Nat.le_of_ble_eq_true rfl) rfl (Nat.le_of_ble_eq_true rfl) dX12_applies_6 9 rfl rfl hen_i (kk_i kk_) (kx_n he_i)
    refine x_csr (kd := 11) (fun hb_ hb0_ => ?_) ?_
    · exact x_callA (enc := en_i) (owner := "MasterTree$Filter") C 30 2 [vr_ v1, vr_ v2] 11 (ctX12_applies_d10 C.2.2.2.2.2.2.2.2.1 N m x1 v1 v2) hb_ hb0_ rfl rfl q2834 q2797 q2835 q2832 q142 q2833 q2796 ⟨by decide +kernel, by decide +kernel, by decide +kernel⟩ (Nat.le_of_ble_eq_true rfl) (Nat.le_of_ble_eq_true rfl) rfl (Nat.le_of_ble_eq_true rfl) dX12_applies_6 9 rfl rfl hen_i (kk_i kk_) (kx_n he_i)
    exact Sm_bn
  refine s_if_ne C dX12_applies_9 16 rfl 12 rfl (fun c_ => ?_) (fun c_ => ?_)
  · refine s_iconst C 1 rfl dX12_applies_12 13 rfl ?_
    refine s_goto C (off := 4) 17 dX12_applies_13 rfl ?_
    refine Sm_sub [] rfl ?_
    exact wX12_applies_d11_b17 C hret h0 hin N _ _ _ _
  · refine s_iconst C 0 rfl dX12_applies_16 17 rfl ?_
    refine Sm_sub [] rfl ?_
    exact wX12_applies_d11_b17 C hret h0 hin N _ _ _ _
theorem hdX12_applies_d11 : ((⟨"MasterTree$Not", "applies", "(LMasterTree$Master;LMasterTree$Entry;)Z"⟩ : MethodName)).cls ≠ "java/lang/invoke/MethodHandle" ∧ ((⟨"MasterTree$Not", "applies", "(LMasterTree$Master;LMasterTree$Entry;)Z"⟩ : MethodName)).cls ≠ "java/lang/invoke/VarHandle" ∧ (parseMethodDescriptor ((⟨"MasterTree$Not", "applies", "(LMasterTree$Master;LMasterTree$Entry;)Z"⟩ : MethodName)).desc).map (fun d => d.parameters.length) = some 2 := ⟨by decide +kernel, by decide +kernel, by decide +kernel⟩
theorem ctX12_applies_d11 {l : Launch} {g : GG} (hst : l.stackTraces = false) (N : Nat) (m : Mm) (v0 : Option Nat) (v1 : Option Nat) (v2 : Option Nat) : ∀ v m' k n, fX12_applies_d11 (gE_ g) N m v0 v1 v2 = some (v, m', k, n) → Ct_ l g (⟨"MasterTree$Not", "applies", "(LMasterTree$Master;LMasterTree$Entry;)Z"⟩ : MethodName) (ws_ (⟨"MasterTree$Not", "applies", "(LMasterTree$Master;LMasterTree$Entry;)Z"⟩ : MethodName) cX12_applies 3 (Option.some Jvm.ClassFile.FieldType.boolean)) 31 [vr_ v0, vr_ v1, vr_ v2] m (en_i v) m' k n :=
  Ct_of (by decide +kernel) rfl hst (Nat.le_of_ble_eq_true rfl) rfl (fun E C hret h0 hin => wX12_applies_d11 C hret h0 hin N m v0 v1 v2 0 0)
theorem wX11_applies_d12_b68 {l : Launch} {g : GG} {E : Me_} (C : Cx_ l g E "MasterTree$Combined" cX11_applies 3 32) (hret : (eT_ E).sig.returnType = (Option.some Jvm.ClassFile.FieldType.boolean)) (h0 : ∀ x ∈ (eC_ E).exceptionTable.toList, False) (hin : (eT_ E).name = "applies") (N : Nat) : ∀ (m : Mm) (s0 : Int32) (k n : Nat), Sm_ l g E 3 en_i (fX11_applies_d12_b68 (gE_ g) N m s0) k n 68 [] [vi_ s0] m := by
  intro m s0 k n
  unfold fX11_applies_d12_b68
  exact x_zret C hret rfl dX11_applies_68
theorem wX11_applies_d12_b35 {l : Launch} {g : GG} {E : Me_} (C : Cx_ l g E "MasterTree$Combined" cX11_applies 3 32) (hret : (eT_ E).sig.returnType = (Option.some Jvm.ClassFile.FieldType.boolean)) (h0 : ∀ x ∈ (eC_ E).exceptionTable.toList, False) (hin : (eT_ E).name = "applies") (N : Nat) : ∀ (m : Mm) (k n : Nat), Sm_ l g E 3 en_i (fX11_applies_d12_b35 (gE_ g) N m) k n 35 [] [] m := by
  intro m k n
  unfold fX11_applies_d12_b35
  refine s_iconst C 0 rfl dX11_applies_35 36 rfl ?_
  refine s_goto C (off := 32) 68 dX11_applies_36 rfl ?_
  exact wX11_applies_d12_b68 C hret h0 hin N _ _ _ _
theorem wX11_applies_d12_b63 {l : Launch} {g : GG} {E : Me_} (C : Cx_ l g E "MasterTree$Combined" cX11_applies 3 32) (hret : (eT_ E).sig.returnType = (Option.some Jvm.ClassFile.FieldType.boolean)) (h0 : ∀ x ∈ (eC_ E).exceptionTable.toList, False) (hin : (eT_ E).name = "applies") (N : Nat) : ∀ (m : Mm) (k n : Nat), Sm_ l g E 3 en_i (fX11_applies_d12_b63 (gE_ g) N m) k n 63 [] [] m := by
  intro m k n
  unfold fX11_applies_d12_b63
  refine s_iconst C 1 rfl dX11_applies_63 64 rfl ?_
  refine s_goto C (off := 4) 68 dX11_applies_64 rfl ?_
  exact wX11_applies_d12_b68 C hret h0 hin N _ _ _ _
theorem wX11_applies_d12 {l : Launch} {g : GG} {E : Me_} (C : Cx_ l g E "MasterTree$Combined" cX11_applies 3 32) (hret : (eT_ E).sig.returnType = (Option.some Jvm.ClassFile.FieldType.boolean)) (h0 : ∀ x ∈ (eC_ E).exceptionTable.toList, False) (hin : (eT_ E).name = "applies") (N : Nat) : ∀ (m : Mm) (v0 : Option Nat) (v1 : Option Nat) (v2 : Option Nat) (k n : Nat), Sm_ l g E 3 en_i (fX11_applies_d12 (gE_ g) N m v0 v1 v2) k n 0 [(0, vr_ v0), (1, vr_ v1), (2, vr_ v2)] [] m := by
  intro m v0 v1 v2 k n
  unfold fX11_applies_d12
  refine s_aload_n C rfl 0 rfl dX11_applies_0 1 rfl ?_
  refine x_gi C 9 (RX11, TX11, 3) rfl 2 (Nat.le_of_ble_eq_true rfl) q2642 (Or.inl rfl) rfl 10 rfl dX11_applies_1 4 rfl (fun x1 => ?_)
  refine s_if_eq C dX11_applies_4 39 rfl 7 rfl (fun c_ => ?_) (fun c_ => ?_)
  · refine s_aload_n C rfl 0 rfl dX11_applies_39 40 rfl ?_
    refine x_gr C 9 (RX11, TX11, 3) rfl 0 (Nat.le_of_ble_eq_true rfl) q2640 (Or.inl rfl) rfl 10 rfl dX11_applies_40 43 rfl (fun x2 => ?_)
    refine s_aload_n C rfl 1 rfl dX11_applies_43 44 rfl ?_
    refine s_aload_n C rfl 2 rfl dX11_applies_44 45 rfl ?_
    refine x_wi [] 48 (fun kk_ => ?_) (fun x3 m1 k1 n1 => ?_)
    · refine x_csr (kd := 8) (fun hb_ hb0_ => ?_) ?_
      · exact x_callA (enc := en_i) (owner := "MasterTree$Filter") C 19 2 [vr_ v1, vr_ v2] 8 (ctX9_applies C.2.2.2.2.2.2.2.2.1 N m x2 v1 v2) hb_ hb0_ rfl rfl q2831 q2797 q2801 q2802 q139 q2803 q2796 ⟨by decide +kernel, by decide +kernel, by decide +kernel⟩ (Nat.le_of_ble_eq_true rfl) (Nat.le_of_ble_eq_true rfl) rfl (Nat.le_of_ble_eq_true rfl) dX11_applies_45 48 rfl rfl hen_i (kk_i kk_) (kx_n he_i)
      refine x_csr (kd := 9) (fun hb_ hb0_ => ?_) ?_
      · exact x_callA (enc := en_i) (owner := "MasterTree$Filter") C 13 2 [vr_ v1, vr_ v2] 9 (ctX10_applies C.2.2.2.2.2.2.2.2.1 N m x2 v1 v2) hb_ hb0_ rfl rfl q2831 q2797 q2798 q2799 q140 q2800 q2796 ⟨by decide +kernel, by decide +kernel, by decide +kernel⟩ (Nat.le_of_ble_eq_true rfl) (Nat.le_of_ble_eq_true rfl) rfl (Nat.le_of_ble_eq_true rfl) dX11_applies_45 48 rfl rfl hen_i (kk_i kk_) (kx_n he_i)
      refine x_csr (kd := 10) (fun hb_ hb0_ => ?_) ?_
      · exact x_callA (enc := en_i) (owner := "MasterTree$Filter") C 31 2 [vr_ v1, vr_ v2] 10 (ctX11_applies_d11 C.2.2.2.2.2.2.2.2.1 N m x2 v1 v2) hb_ hb0_ rfl rfl q2831 q2797 q2828 q2829 q141 q2830 q2796 ⟨by decide +kernel, by decide +kernel, by decide +kernel⟩ (Nat.le_of_ble_eq_true rfl) (Nat.le_of_ble_eq_true rfl) rfl (Nat.le_of_ble_eq_true rfl) dX11_applies_45 48 rfl rfl hen_i (kk_i kk_) (kx_n he_i)
      refine x_csr (kd := 11) (fun hb_ hb0_ => ?_) ?_
      · exact x_callA (enc := en_i) (owner := "MasterTree$Filter") C 31 2 [vr_ v1, vr_ v2] 11 (ctX12_applies_d11 C.2.2.2.2.2.2.2.2.1 N m x2 v1 v2) hb_ hb0_ rfl rfl q2831 q2797 q2835 q2832 q142 q2833 q2796 ⟨by decide +kernel, by decide +kernel, by decide +kernel⟩ (Nat.le_of_ble_eq_true rfl) (Nat.le_of_ble_eq_true rfl) rfl (Nat.le_of_ble_eq_true rfl) dX11_applies_45 48 rfl rfl hen_i (kk_i kk_) (kx_n he_i)
      exact Sm_bn
    refine s_if_ne C dX11_applies_48 63 rfl 51 rfl (fun c_ => ?_) (fun c_ => ?_)
    · refine s_aload_n C rfl 0 rfl dX11_applies_51 52 rfl ?_
      refine x_gr C 9 (RX11, TX11, 3) rfl 1 (Nat.le_of_ble_eq_true rfl) q2641 (Or.inl rfl) rfl 10 rfl dX11_applies_52 55 rfl (fun x8 => ?_)
      refine s_aload_n C rfl 1 rfl dX11_applies_55 56 rfl ?_
      refine s_aload_n C rfl 2 rfl dX11_applies_56 57 rfl ?_
      refine x_wi [] 60 (fun kk_ => ?_) (fun x9 m6 k1 n1 => ?_)
      · refine x_csr (kd := 8) (fun hb_ hb0_ => ?_) ?_
        · exact x_callA (enc := en_i) (owner := "MasterTree$Filter") C 19 2 [vr_ v1, vr_ v2] 8 (ctX9_applies C.2.2.2.2.2.2.2.2.1 N m1 x8 v1 v2) hb_ hb0_ rfl rfl q2831 q2797 q2801 q2802 q139 q2803 q2796 ⟨by decide +kernel, by decide +kernel, by decide +kernel⟩ (Nat.le_of_ble_eq_true rfl) (Nat.le_of_ble_eq_true rfl) rfl (Nat.le_of_ble_eq_true rfl) dX11_applies_57 60 rfl rfl hen_i (kk_i kk_) (kx_n he_i)
        refine x_csr (kd := 9) (fun hb_ hb0_ => ?_) ?_
        · exact x_callA (enc := en_i) (owner := "MasterTree$Filter") C 13 2 [vr_ v1, vr_ v2] 9 (ctX10_applies C.2.2.2.2.2.2.2.2.1 N m1 x8 v1 v2) hb_ hb0_ rfl rfl q2831 q2797 q2798 q2799 q140 q2800 q2796 ⟨by decide +kernel, by decide +kernel, by decide +kernel⟩ (Nat.le_of_ble_eq_true rfl) (Nat.le_of_ble_eq_true rfl) rfl (Nat.le_of_ble_eq_true rfl) dX11_applies_57 60 rfl rfl hen_i (kk_i kk_) (kx_n he_i)
        refine x_csr (kd := 10) (fun hb_ hb0_ => ?_) ?_
        · exact x_callA (enc := en_i) (owner := "MasterTree$Filter") C 31 2 [vr_ v1, vr_ v2] 10 (ctX11_applies_d11 C.2.2.2.2.2.2.2.2.1 N m1 x8 v1 v2) hb_ hb0_ rfl rfl q2831 q2797 q2828 q2829 q141 q2830 q2796 ⟨by decide +kernel, by decide +kernel, by decide +kernel⟩ (Nat.le_of_ble_eq_true rfl) (Nat.le_of_ble_eq_true rfl) rfl (Nat.le_of_ble_eq_true rfl) dX11_applies_57 60 rfl rfl hen_i (kk_i kk_) (kx_n he_i)
        refine x_csr (kd := 11) (fun hb_ hb0_ => ?_) ?_
        · exact x_callA (enc := en_i) (owner := "MasterTree$Filter") C 31 2 [vr_ v1, vr_ v2] 11 (ctX12_applies_d11 C.2.2.2.2.2.2.2.2.1 N m1 x8 v1 v2) hb_ hb0_ rfl rfl q2831 q2797 q2835 q2832 q142 q2833 q2796 ⟨by decide +kernel, by decide +kernel, by decide +kernel⟩ (Nat.le_of_ble_eq_true rfl) (Nat.le_of_ble_eq_true rfl) rfl (Nat.le_of_ble_eq_true rfl) dX11_applies_57 60 rfl rfl hen_i (kk_i kk_) (kx_n he_i)
        exact Sm_bn
      refine s_if_eq C dX11_applies_60 67 rfl 63 rfl (fun c_ => ?_) (fun c_ => ?_)
      · refine s_iconst C 0 rfl dX11_applies_67 68 rfl ?_
        refine Sm_sub [] rfl ?_
        exact wX11_applies_d12_b68 C hret h0 hin N _ _ _ _
      · refine Sm_sub [] rfl ?_
        exact wX11_applies_d12_b63 C hret h0 hin N _ _ _
    · refine Sm_sub [] rfl ?_
      exact wX11_applies_d12_b63 C hret h0 hin N _ _ _
  · refine s_aload_n C rfl 0 rfl dX11_applies_7 8 rfl ?_
    refine x_gr C 9 (RX11, TX11, 3) rfl 0 (Nat.le_of_ble_eq_true rfl) q2640 (Or.inl rfl) rfl 10 rfl dX11_applies_8 11 rfl (fun x14 => ?_)
    refine s_aload_n C rfl 1 rfl dX11_applies_11 12 rfl ?_
    refine s_aload_n C rfl 2 rfl dX11_applies_12 13 rfl ?_
    refine x_wi [] 16 (fun kk_ => ?_) (fun x15 m11 k1 n1 => ?_)
    · refine x_csr (kd := 8) (fun hb_ hb0_ => ?_) ?_
      · exact x_callA (enc := en_i) (owner := "MasterTree$Filter") C 19 2 [vr_ v1, vr_ v2] 8 (ctX9_applies C.2.2.2.2.2.2.2.2.1 N m x14 v1 v2) hb_ hb0_ rfl rfl q2831 q2797 q2801 q2802 q139 q2803 q2796 ⟨by decide +kernel, by decide +kernel, by decide +kernel⟩ (Nat.le_of_ble_eq_true rfl) (Nat.le_of_ble_eq_true rfl) rfl (Nat.le_of_ble_eq_true rfl) dX11_applies_13 16 rfl rfl hen_i (kk_i kk_) (kx_n he_i)
      refine x_csr (kd := 9) (fun hb_ hb0_ => ?_) ?_
      · exact x_callA (enc := en_i) (owner := "MasterTree$Filter") C 13 2 [vr_ v1, vr_ v2] 9 (ctX10_applies C.2.2.2.2.2.2.2.2.1 N m x14 v1 v2) hb_ hb0_ rfl rfl q2831 q2797 q2798 q2799 q140 q2800 q2796 ⟨by decide +kernel, by decide +kernel, by decide +kernel⟩ (Nat.le_of_ble_eq_true rfl) (Nat.le_of_ble_eq_true rfl) rfl (Nat.le_of_ble_eq_true rfl) dX11_applies_13 16 rfl rfl hen_i (kk_i kk_) (kx_n he_i)
      refine x_csr (kd := 10) (fun hb_ hb0_ => ?_) ?_
      · exact x_callA (enc := en_i) (owner := "MasterTree$Filter") C 31 2 [vr_ v1, vr_ v2] 10 (ctX11_applies_d11 C.2.2.2.2.2.2.2.2.1 N m x14 v1 v2) hb_ hb0_ rfl rfl q2831 q2797 q2828 q2829 q141 q2830 q2796 ⟨by decide +kernel, by decide +kernel, by decide +kernel⟩ (Nat.le_of_ble_eq_true rfl) (Nat.le_of_ble_eq_true rfl) rfl (Nat.le_of_ble_eq_true rfl) dX11_applies_13 16 rfl rfl hen_i (kk_i kk_) (kx_n he_i)
      refine x_csr (kd := 11) (fun hb_ hb0_ => ?_) ?_
      · exact x_callA (enc := en_i) (owner := "MasterTree$Filter") C 31 2 [vr_ v1, vr_ v2] 11 (ctX12_applies_d11 C.2.2.2.2.2.2.2.2.1 N m x14 v1 v2) hb_ hb0_ rfl rfl q2831 q2797 q2835 q2832 q142 q2833 q2796 ⟨by decide +kernel, by decide +kernel, by decide +kernel⟩ (Nat.le_of_ble_eq_true rfl) (Nat.le_of_ble_eq_true rfl) rfl (Nat.le_of_ble_eq_true rfl) dX11_applies_13 16 rfl rfl hen_i (kk_i kk_) (kx_n he_i)
      exact Sm_bn
    refine s_if_eq C dX11_applies_16 35 rfl 19 rfl (fun c_ => ?_) (fun c_ => ?_)
    · refine Sm_sub [] rfl ?_
      exact wX11_applies_d12_b35 C hret h0 hin N _ _ _
    · refine s_aload_n C rfl 0 rfl dX11_applies_19 20 rfl ?_
      refine x_gr C 9 (RX11, TX11, 3) rfl 1 (Nat.le_of_ble_eq_true rfl) q2641 (Or.inl rfl) rfl 10 rfl dX11_applies_20 23 rfl (fun x20 => ?_)
      refine s_aload_n C rfl 1 rfl dX11_applies_23 24 rfl ?_
      refine s_aload_n C rfl 2 rfl dX11_applies_24 25 rfl ?_
      refine x_wi [] 28 (fun kk_ => ?_) (fun x21 m16 k1 n1 => ?_)
      · refine x_csr (kd := 8) (fun hb_ hb0_ => ?_) ?_
        · exact x_callA (enc := en_i) (owner := "MasterTree$Filter") C 19 2 [vr_ v1, vr_ v2] 8 (ctX9_applies C.2.2.2.2.2.2.2.2.1 N m11 x20 v1 v2) hb_ hb0_ rfl rfl q2831 q2797 q2801 q2802 q139 q2803 q2796 ⟨by decide +kernel, by decide +kernel, by decide +kernel⟩ (Nat.le_of_ble_eq_true rfl) (Nat.le_of_ble_eq_true rfl) rfl (Nat.le_of_ble_eq_true rfl) dX11_applies_25 28 rfl rfl hen_i (kk_i kk_) (kx_n he_i)
        refine x_csr (kd := 9) (fun hb_ hb0_ => ?_) ?_
        · exact x_callA (enc := en_i) (owner := "MasterTree$Filter") C 13 2 [vr_ v1, vr_ v2] 9 (ctX10_applies C.2.2.2.2.2.2.2.2.1 N m11 x20 v1 v2) hb_ hb0_ rfl rfl q2831 q2797 q2798 q2799 q140 q2800 q2796 ⟨by decide +kernel, by decide +kernel, by decide +kernel⟩ (Nat.le_of_ble_eq_true rfl) (Nat.le_of_ble_eq_true rfl) rfl (Nat.le_of_ble_eq_true rfl) dX11_applies_25 28 rfl rfl hen_i (kk_i kk_) (kx_n he_i)
        refine x_csr (kd := 10) (fun hb_ hb0_ => ?_) ?_
        · exact x_callA (enc := en_i) (owner := "MasterTree$Filter") C 31 2 [vr_ v1, vr_ v2] 10 (ctX11_applies_d11 C.2.2.2.2.2.2.2.2.1 N m11 x20 v1 v2) hb_ hb0_ rfl rfl q2831 q2797 q2828 q2829 q141 q2830 q2796 ⟨by decide +kernel, by decide +kernel, by decide +kernel⟩ (Nat.le_of_ble_eq_true rfl) (Nat.le_of_ble_eq_true rfl) rfl (Nat.le_of_ble_eq_true rfl) dX11_applies_25 28 rfl rfl hen_i (kk_i kk_) (kx_n he_i)
        refine x_csr (kd := 11) (fun hb_ hb0_ => ?_) ?_
        · exact x_callA (enc := en_i) (owner := "MasterTree$Filter") C 31 2 [vr_ v1, vr_ v2] 11 (ctX12_applies_d11 C.2.2.2.2.2.2.2.2.1 N m11 x20 v1 v2) hb_ hb0_ rfl rfl q2831 q2797 q2835 q2832 q142 q2833 q2796 ⟨by decide +kernel, by decide +kernel, by decide +kernel⟩ (Nat.le_of_ble_eq_true rfl) (Nat.le_of_ble_eq_true rfl) rfl (Nat.le_of_ble_eq_true rfl) dX11_applies_25 28 rfl rfl hen_i (kk_i kk_) (kx_n he_i)
        exact Sm_bn
      refine s_if_eq C dX11_applies_28 35 rfl 31 rfl (fun c_ => ?_) (fun c_ => ?_)
      · refine Sm_sub [] rfl ?_
        exact wX11_applies_d12_b35 C hret h0 hin N _ _ _
      · refine s_iconst C 1 rfl dX11_applies_31 32 rfl ?_
        refine s_goto C (off := 36) 68 dX11_applies_32 rfl ?_
        refine Sm_sub [] rfl ?_
        exact wX11_applies_d12_b68 C hret h0 hin N _ _ _ _
theorem hdX11_applies_d12 : ((⟨"MasterTree$Combined", "applies", "(LMasterTree$Master;LMasterTree$Entry;)Z"⟩ : MethodName)).cls ≠ "java/lang/invoke/MethodHandle" ∧ ((⟨"MasterTree$Combined", "applies", "(LMasterTree$Master;LMasterTree$Entry;)Z"⟩ : MethodName)).cls ≠ "java/lang/invoke/VarHandle" ∧ (parseMethodDescriptor ((⟨"MasterTree$Combined", "applies", "(LMasterTree$Master;LMasterTree$Entry;)Z"⟩ : MethodName)).desc).map (fun d => d.parameters.length) = some 2 := ⟨by decide +kernel, by decide +kernel, by decide +kernel⟩
theorem ctX11_applies_d12 {l : Launch} {g : GG} (hst : l.stackTraces = false) (N : Nat) (m : Mm) (v0 : Option Nat) (v1 : Option Nat) (v2 : Option Nat) : ∀ v m' k n, fX11_applies_d12 (gE_ g) N m v0 v1 v2 = some (v, m', k, n) → Ct_ l g (⟨"MasterTree$Combined", "applies", "(LMasterTree$Master;LMasterTree$Entry;)Z"⟩ : MethodName) (ws_ (⟨"MasterTree$Combined", "applies", "(LMasterTree$Master;LMasterTree$Entry;)Z"⟩ : MethodName) cX11_applies 3 (Option.some Jvm.ClassFile.FieldType.boolean)) 32 [vr_ v0, vr_ v1, vr_ v2] m (en_i v) m' k n :=
  Ct_of (by decide +kernel) rfl hst (Nat.le_of_ble_eq_true rfl) rfl (fun E C hret h0 hin => wX11_applies_d12 C hret h0 hin N m v0 v1 v2 0 0)
theorem wX12_applies_d12_b17 {l : Launch} {g : GG} {E : Me_} (C : Cx_ l g E "MasterTree$Not" cX12_applies 3 32) (hret : (eT_ E).sig.returnType = (Option.some Jvm.ClassFile.FieldType.boolean)) (h0 : ∀ x ∈ (eC_ E).exceptionTable.toList, False) (hin : (eT_ E).name = "applies") (N : Nat) : ∀ (m : Mm) (s0 : Int32) (k n : Nat), Sm_ l g E 3 en_i (fX12_applies_d12_b17 (gE_ g) N m s0) k n 17 [] [vi_ s0] m := by
  intro m s0 k n
  unfold fX12_applies_d12_b17
  exact x_zret C hret rfl dX12_applies_17
theorem wX12_applies_d12 {l : Launch} {g : GG} {E : Me_} (C : Cx_ l g E "MasterTree$Not" cX12_applies 3 32) (hret : (eT_ E).sig.returnType = (Option.some Jvm.ClassFile.FieldType.boolean)) (h0 : ∀ x ∈ (eC_ E).exceptionTable.toList, False) (hin : (eT_ E).name = "applies") (N : Nat) : ∀ (m : Mm) (v0 : Option Nat) (v1 : Option Nat) (v2 : Option Nat) (k n : Nat), Sm_ l g E 3 en_i (fX12_applies_d12 (gE_ g) N m v0 v1 v2) k n 0 [(0, vr_ v0), (1, vr_ v1), (2, vr_ v2)] [] m := by
  intro m v0 v1 v2 k n
  unfold fX12_applies_d12
  refine s_aload_n C rfl 0 rfl dX12_applies_0 1 rfl ?_
  refine x_gr C 10 (RX12, TX12, 1) rfl 0 (Nat.le_of_ble_eq_true rfl) q2666 (Or.inl rfl) rfl 11 rfl dX12_applies_1 4 rfl (fun x1 => ?_)
  refine s_aload_n C rfl 1 rfl dX12_applies_4 5 rfl ?_
  refine s_aload_n C rfl 2 rfl dX12_applies_5 6 rfl ?_
  refine x_wi [] 9 (fun kk_ => ?_) (fun x2 m1 k1 n1 => ?_)
  · refine x_csr (kd := 8) (fun hb_ hb0_ => ?_) ?_
    · exact x_callA (enc := en_i) (owner := "MasterTree$Filter") C 19 2 [vr_ v1, vr_ v2] 8 (ctX9_applies C.2.2.2.2.2.2.2.2.1 N m x1 v1 v2) hb_ hb0_ rfl rfl q2834 q2797 q2801 q2802 q139 q2803 q2796 ⟨by decide +kernel, by decide +kernel, by decide +kernel⟩ (Nat.le_of_ble_eq_true rfl) (Nat.le_of_ble_eq_true rfl) rfl (Nat.le_of_ble_eq_true rfl) dX12_applies_6 9 rfl rfl hen_i (kk_i kk_) (kx_n he_i)
    refine x_csr (kd := 9) (fun hb_ hb0_ => ?_) ?_
    · exact x_callA (enc := en_i) (owner := "MasterTree$Filter") C 13 2 [vr_ v1, vr_ v2] 9 (ctX10_applies C.2.2.2.2.2.2.2.2.1 N m x1 v1 v2) hb_ hb0_ rfl rfl q2834 q2797 q2798 q2799 q140 q2800 q2796 ⟨by decide +kernel, by decide +kernel, by decide +kernel⟩ (Nat.le_of_ble_eq_true rfl) (Nat.le_of_ble_eq_true rfl) rfl (Nat.le_of_ble_eq_true rfl) dX12_applies_6 9 rfl rfl hen_i (kk_i kk_) (kx_n he_i)
    refine x_csr (kd := 10) (fun hb_ hb0_ => ?_) ?_
    · exact x_callA (enc := en_i) (owner := "MasterTree$Filter") C 31 2 [vr_ v1, vr_ v2] 10 (ctX11_applies_d11 C.2.2.2.2.2.2.2.2.1 N m x1 v1 v2) hb_ hb0_ rfl rfl q2834 q2797 q2828 q2829 q141 q2830 q2796 ⟨by decide +kernel, by decide +kernel, by decide +kernel⟩ (Nat.le_of_ble_eq_true rfl) (Nat.le_of_ble_eq_true rfl) rfl (Nat.le_of_ble_eq_true rfl) dX12_applies_6 9 rfl rfl hen_i (kk_i kk_) (kx_n he_i)
    refine x_csr (kd := 11) (fun hb_ hb0_ => ?_) ?_
    · exact x_callA (enc := en_i) (owner := "MasterTree$Filter") C 31 2 [vr_ v1, vr_ v2] 11 (ctX12_applies_d11 C.2.2.2.2.2.2.2.2.1 N m x1 v1 v2) hb_ hb0_ rfl rfl q2834 q2797 q2835 q2832 q142 q2833 q2796 ⟨by decide +kernel, by decide +kernel, by decide +kernel⟩ (Nat.le_of_ble_eq_true rfl) (Nat.le_of_ble_eq_true rfl) rfl (Nat.le_of_ble_eq_true rfl) dX12_applies_6 9 rfl rfl hen_i (kk_i kk_) (kx_n he_i)
    exact Sm_bn
  refine s_if_ne C dX12_applies_9 16 rfl 12 rfl (fun c_ => ?_) (fun c_ => ?_)
  · refine s_iconst C 1 rfl dX12_applies_12 13 rfl ?_
    refine s_goto C (off := 4) 17 dX12_applies_13 rfl ?_
    refine Sm_sub [] rfl ?_
    exact wX12_applies_d12_b17 C hret h0 hin N _ _ _ _
  · refine s_iconst C 0 rfl dX12_applies_16 17 rfl ?_
    refine Sm_sub [] rfl ?_
    exact wX12_applies_d12_b17 C hret h0 hin N _ _ _ _
theorem hdX12_applies_d12 : ((⟨"MasterTree$Not", "applies", "(LMasterTree$Master;LMasterTree$Entry;)Z"⟩ : MethodName)).cls ≠ "java/lang/invoke/MethodHandle" ∧ ((⟨"MasterTree$Not", "applies", "(LMasterTree$Master;LMasterTree$Entry;)Z"⟩ : MethodName)).cls ≠ "java/lang/invoke/VarHandle" ∧ (parseMethodDescriptor ((⟨"MasterTree$Not", "applies", "(LMasterTree$Master;LMasterTree$Entry;)Z"⟩ : MethodName)).desc).map (fun d => d.parameters.length) = some 2 := ⟨by decide +kernel, by decide +kernel, by decide +kernel⟩
theorem ctX12_applies_d12 {l : Launch} {g : GG} (hst : l.stackTraces = false) (N : Nat) (m : Mm) (v0 : Option Nat) (v1 : Option Nat) (v2 : Option Nat) : ∀ v m' k n, fX12_applies_d12 (gE_ g) N m v0 v1 v2 = some (v, m', k, n) → Ct_ l g (⟨"MasterTree$Not", "applies", "(LMasterTree$Master;LMasterTree$Entry;)Z"⟩ : MethodName) (ws_ (⟨"MasterTree$Not", "applies", "(LMasterTree$Master;LMasterTree$Entry;)Z"⟩ : MethodName) cX12_applies 3 (Option.some Jvm.ClassFile.FieldType.boolean)) 32 [vr_ v0, vr_ v1, vr_ v2] m (en_i v) m' k n :=
  Ct_of (by decide +kernel) rfl hst (Nat.le_of_ble_eq_true rfl) rfl (fun E C hret h0 hin => wX12_applies_d12 C hret h0 hin N m v0 v1 v2 0 0)
theorem wX11_applies_d13_b68 {l : Launch} {g : GG} {E : Me_} (C : Cx_ l g E "MasterTree$Combined" cX11_applies 3 33) (hret : (eT_ E).sig.returnType = (Option.some Jvm.ClassFile.FieldType.boolean)) (h0 : ∀ x ∈ (eC_ E).exceptionTable.toList, False) (hin : (eT_ E).name = "applies") (N : Nat) : ∀ (m : Mm) (s0 : Int32) (k n : Nat), Sm_ l g E 3 en_i (fX11_applies_d13_b68 (gE_ g) N m s0) k n 68 [] [vi_ s0] m := by
  intro m s0 k n
  unfold fX11_applies_d13_b68
  exact x_zret C hret rfl dX11_applies_68
theorem wX11_applies_d13_b35 {l : Launch} {g : GG} {E : Me_} (C : Cx_ l g E "MasterTree$Combined" cX11_applies 3 33) (hret : (eT_ E).sig.returnType = (Option.some Jvm.ClassFile.FieldType.boolean)) (h0 : ∀ x ∈ (eC_ E).exceptionTable.toList, False) (hin : (eT_ E).name = "applies") (N : Nat) : ∀ (m : Mm) (k n : Nat), Sm_ l g E 3 en_i (fX11_applies_d13_b35 (gE_ g) N m) k n 35 [] [] m := by
  intro m k n
  unfold fX11_applies_d13_b35
  refine s_iconst C 0 rfl dX11_applies_35 36 rfl ?_
  refine s_goto C (off := 32) 68 dX11_applies_36 rfl ?_
  exact wX11_applies_d13_b68 C hret h0 hin N _ _ _ _
theorem wX11_applies_d13_b63 {l : Launch} {g : GG} {E : Me_} (C : Cx_ l g E "MasterTree$Combined" cX11_applies 3 33) (hret : (eT_ E).sig.returnType = (Option.some Jvm.ClassFile.FieldType.boolean)) (h0 : ∀ x ∈ (eC_ E).exceptionTable.toList, False) (hin : (eT_ E).name = "applies") (N : Nat) : ∀ (m : Mm) (k n : Nat), Sm_ l g E 3 en_i (fX11_applies_d13_b63 (gE_ g) N m) k n 63 [] [] m := by
  intro m k n
  unfold fX11_applies_d13_b63
  refine s_iconst C 1 rfl dX11_applies_63 64 rfl ?_
  refine s_goto C (off := 4) 68 dX11_applies_64 rfl ?_
  exact wX11_applies_d13_b68 C hret h0 hin N _ _ _ _
theorem wX11_applies_d13 {l : Launch} {g : GG} {E : Me_} (C : Cx_ l g E "MasterTree$Combined" cX11_applies 3 33) (hret : (eT_ E).sig.returnType = (Option.some Jvm.ClassFile.FieldType.boolean)) (h0 : ∀ x ∈ (eC_ E).exceptionTable.toList, False) (hin : (eT_ E).name = "applies") (N : Nat) : ∀ (m : Mm) (v0 : Option Nat) (v1 : Option Nat) (v2 : Option Nat) (k n : Nat), Sm_ l g E 3 en_i (fX11_applies_d13 (gE_ g) N m v0 v1 v2) k n 0 [(0, vr_ v0), (1, vr_ v1), (2, vr_ v2)] [] m := by
  intro m v0 v1 v2 k n
  unfold fX11_applies_d13
  refine s_aload_n C rfl 0 rfl dX11_applies_0 1 rfl ?_
  refine x_gi C 9 (RX11, TX11, 3) rfl 2 (Nat.le_of_ble_eq_true rfl) q2642 (Or.inl rfl) rfl 10 rfl dX11_applies_1 4 rfl (fun x1 => ?_)
  refine s_if_eq C dX11_applies_4 39 rfl 7 rfl (fun c_ => ?_) (fun c_ => ?_)
  · refine s_aload_n C rfl 0 rfl dX11_applies_39 40 rfl ?_
    refine x_gr C 9 (RX11, TX11, 3) rfl 0 (Nat.le_of_ble_eq_true rfl) q2640 (Or.inl rfl) rfl 10 rfl dX11_applies_40 43 rfl (fun x2 => ?_)
    refine s_aload_n C rfl 1 rfl dX11_applies_43 44 rfl ?_
    refine s_aload_n C rfl 2 rfl dX11_applies_44 45 rfl ?_
    refine x_wi [] 48 (fun kk_ => ?_) (fun x3 m1 k1 n1 => ?_)
    · refine x_csr (kd := 8) (fun hb_ hb0_ => ?_) ?_
      · exact x_callA (enc := en_i) (owner := "MasterTree$Filter") C 19 2 [vr_ v1, vr_ v2] 8 (ctX9_applies C.2.2.2.2.2.2.2.2.1 N m x2 v1 v2) hb_ hb0_ rfl rfl q2831 q2797 q2801 q2802 q139 q2803 q2796 ⟨by decide +kernel, by decide +kernel, by decide +kernel⟩ (Nat.le_of_ble_eq_true rfl) (Nat.le_of_ble_eq_true rfl) rfl (Nat.le_of_ble_eq_true rfl) dX11_applies_45 48 rfl rfl hen_i (kk_i kk_) (kx_n he_i)
      refine x_csr (kd := 9) (fun hb_ hb0_ => ?_) ?_
      · exact x_callA (enc := en_i) (owner := "MasterTree$Filter") C 13 2 [vr_ v1, vr_ v2] 9 (ctX10_applies C.2.2.2.2.2.2.2.2.1 N m x2 v1 v2) hb_ hb0_ rfl rfl q2831 q2797 q2798 q2799 q140 q2800 q2796 ⟨by decide +kernel, by decide +kernel, by decide +kernel⟩ (Nat.le_of_ble_eq_true rfl) (Nat.le_of_ble_eq_true rfl) rfl (Nat.le_of_ble_eq_true rfl) dX11_applies_45 48 rfl rfl hen_i (kk_i kk_) (kx_n he_i)
      refine x_csr (kd := 10) (fun hb_ hb0_ => ?_) ?_
      · exact x_callA (enc := en_i) (owner := "MasterTree$Filter") C 32 2 [vr_ v1, vr_ v2] 10 (ctX11_applies_d12 C.2.2.2.2.2.2.2.2.1 N m x2 v1 v2) hb_ hb0_ rfl rfl q2831 q2797 q2828 q2829 q141 q2830 q2796 ⟨by decide +kernel, by decide +kernel, by decide +kernel⟩ (Nat.le_of_ble_eq_true rfl) (Nat.le_of_ble_eq_true rfl) rfl (Nat.le_of_ble_eq_true rfl) dX11_applies_45 48 rfl rfl hen_i (kk_i kk_) (kx_n he_i)
      refine x_csr (kd := 11) (fun hb_ hb0_ => ?_) ?_
      · exact x_callA (enc := en_i) (owner := "MasterTree$Filter") C 32 2 [vr_ v1, vr_ v2] 11 (ctX12_applies_d12 C.2.2.2.2.2.2.2.2.1 N m x2 v1 v2) hb_ hb0_ rfl rfl q2831 q2797 q2835 q2832 q142 q2833 q2796 ⟨by decide +kernel, by decide +kernel, by decide +kernel⟩ (Nat.le_of_ble_eq_true rfl) (Nat.le_of_ble_eq_true rfl) rfl (Nat.le_of_ble_eq_true rfl) dX11_applies_45 48 rfl rfl hen_i (kk_i kk_) (kx_n he_i)
      exact Sm_bn
    refine s_if_ne C dX11_applies_48 63 rfl 51 rfl (fun c_ => ?_) (fun c_ => ?_)
    · refine s_aload_n C rfl 0 rfl dX11_applies_51 52 rfl ?_
      refine x_gr C 9 (RX11, TX11, 3) rfl 1 (Nat.le_of_ble_eq_true rfl) q2641 (Or.inl rfl) rfl 10 rfl dX11_applies_52 55 rfl (fun x8 => ?_)
      refine s_aload_n C rfl 1 rfl dX11_applies_55 56 rfl ?_
      refine s_aload_n C rfl 2 rfl dX11_applies_56 57 rfl ?_
      refine x_wi [] 60 (fun kk_ => ?_) (fun x9 m6 k1 n1 => ?_)
      · refine x_csr (kd := 8) (fun hb_ hb0_ => ?_) ?_
        · exact x_callA (enc := en_i) (owner := "MasterTree$Filter") C 19 2 [vr_ v1, vr_ v2] 8 (ctX9_applies C.2.2.2.2.2.2.2.2.1 N m1 x8 v1 v2) hb_ hb0_ rfl rfl q2831 q2797 q2801 q2802 q139 q2803 q2796 ⟨by decide +kernel, by decide +kernel, by decide +kernel⟩ (Nat.le_of_ble_eq_true rfl) (Nat.le_of_ble_eq_true rfl) rfl (Nat.le_of_ble_eq_true rfl) dX11_applies_57 60 rfl rfl hen_i (kk_i kk_) (kx_n he_i)
        refine x_csr (kd := 9) (fun hb_ hb0_ => ?_) ?_
        · exact x_callA (enc := en_i) (owner := "MasterTree$Filter") C 13 2 [vr_ v1, vr_ v2] 9 (ctX10_applies C.2.2.2.2.2.2.2.2.1 N m1 x8 v1 v2) hb_ hb0_ rfl rfl q2831 q2797 q2798 q2799 q140 q2800 q2796 ⟨by decide +kernel, by decide +kernel, by decide +kernel⟩ (Nat.le_of_ble_eq_true rfl) (Nat.le_of_ble_eq_true rfl) rfl (Nat.le_of_ble_eq_true rfl) dX11_applies_57 60 rfl rfl hen_i (kk_i kk_) (kx_n he_i)
        refine x_csr (kd := 10) (fun hb_ hb0_ => ?_) ?_
        · exact x_callA (enc := en_i) (owner := "MasterTree$Filter") C 32 2 [vr_ v1, vr_ v2] 10 (ctX11_applies_d12 C.2.2.2.2.2.2.2.2.1 N m1 x8 v1 v2) hb_ hb0_ rfl rfl q2831 q2797 q2828 q2829 q141 q2830 q2796 ⟨by decide +kernel, by decide +kernel, by decide +kernel⟩ (Nat.le_of_ble_eq_true rfl) (Nat.le_of_ble_eq_true rfl) rfl (Nat.le_of_ble_eq_true rfl) dX11_applies_57 60 rfl rfl hen_i (kk_i kk_) (kx_n he_i)
        refine x_csr (kd := 11) (fun hb_ hb0_ => ?_) ?_
        · exact x_callA (enc := en_i) (owner := "MasterTree$Filter") C 32 2 [vr_ v1, vr_ v2] 11 (ctX12_applies_d12 C.2.2.2.2.2.2.2.2.1 N m1 x8 v1 v2) hb_ hb0_ rfl rfl q2831 q2797 q2835 q2832 q142 q2833 q2796 ⟨by decide +kernel, by decide +kernel, by decide +kernel⟩ (Nat.le_of_ble_eq_true rfl) (Nat.le_of_ble_eq_true rfl) rfl (Nat.le_of_ble_eq_true rfl) dX11_applies_57 60 rfl rfl hen_i (kk_i kk_) (kx_n he_i)
        exact Sm_bn
      refine s_if_eq C dX11_applies_60 67 rfl 63 rfl (fun c_ => ?_) (fun c_ => ?_)
      · refine s_iconst C 0 rfl dX11_applies_67 68 rfl ?_
        refine Sm_sub [] rfl ?_
        exact wX11_applies_d13_b68 C hret h0 hin N _ _ _ _
      · refine Sm_sub [] rfl ?_
        exact wX11_applies_d13_b63 C hret h0 hin N _ _ _
    · refine Sm_sub [] rfl ?_
      exact wX11_applies_d13_b63 C hret h0 hin N _ _ _
  · refine s_aload_n C rfl 0 rfl dX11_applies_7 8 rfl ?_
    refine x_gr C 9 (RX11, TX11, 3) rfl 0 (Nat.le_of_ble_eq_true rfl) q2640 (Or.inl rfl) rfl 10 rfl dX11_applies_8 11 rfl (fun x14 => ?_)
    refine s_aload_n C rfl 1 rfl dX11_applies_11 12 rfl ?_
    refine s_aload_n C rfl 2 rfl dX11_applies_12 13 rfl ?_
    refine x_wi [] 16 (fun kk_ => ?_) (fun x15 m11 k1 n1 => ?_)
    · refine x_csr (kd := 8) (fun hb_ hb0_ => ?_) ?_
      · exact x_callA (enc := en_i) (owner := "MasterTree$Filter") C 19 2 [vr_ v1, vr_ v2] 8 (ctX9_applies C.2.2.2.2.2.2.2.2.1 N m x14 v1 v2) hb_ hb0_ rfl rfl q2831 q2797 q2801 q2802 q139 q2803 q2796 ⟨by decide +kernel, by decide +kernel, by decide +kernel⟩ (Nat.le_of_ble_eq_true rfl) (Nat.le_of_ble_eq_true rfl) rfl (Nat.le_of_ble_eq_true rfl) dX11_applies_13 16 rfl rfl hen_i (kk_i kk_) (kx_n he_i)
      refine x_csr (kd := 9) (fun hb_ hb0_ => ?_) ?_
      · exact x_callA (enc := en_i) (owner := "MasterTree$Filter") C 13 2 [vr_ v1, vr_ v2] 9 (ctX10_applies C.2.2.2.2.2.2.2.2.1 N m x14 v1 v2) hb_ hb0_ rfl rfl q2831 q2797 q2798 q2799 q140 q2800 q2796 ⟨by decide +kernel, by decide +kernel, by decide +kernel⟩ (Nat.le_of_ble_eq_true rfl) (Nat.le_of_ble_eq_true rfl) rfl (Nat.le_of_ble_eq_true rfl) dX11_applies_13 16 rfl rfl hen_i (kk_i kk_) (kx_n he_i)
      refine x_csr (kd := 10) (fun hb_ hb0_ => ?_) ?_
      · exact x_callA (enc := en_i) (owner := "MasterTree$Filter") C 32 2 [vr_ v1, vr_ v2] 10 (ctX11_applies_d12 C.2.2.2.2.2.2.2.2.1 N m x14 v1 v2) hb_ hb0_ rfl rfl q2831 q2797 q2828 q2829 q141 q2830 q2796 ⟨by decide +kernel, by decide +kernel, by decide +kernel⟩ (Nat.le_of_ble_eq_true rfl) (Nat.le_of_ble_eq_true rfl) rfl (Nat.le_of_ble_eq_true rfl) dX11_applies_13 16 rfl rfl hen_i (kk_i kk_) (kx_n he_i)
      refine x_csr (kd := 11) (fun hb_ hb0_ => ?_) ?_
      · exact x_callA (enc := en_i) (owner := "MasterTree$Filter") C 32 2 [vr_ v1, vr_ v2] 11 (ctX12_applies_d12 C.2.2.2.2.2.2.2.2.1 N m x14 v1 v2) hb_ hb0_ rfl rfl q2831 q2797 q2835 q2832 q142 q2833 q2796 ⟨by decide +kernel, by decide +kernel, by decide +kernel⟩ (Nat.le_of_ble_eq_true rfl) (Nat.le_of_ble_eq_true rfl) rfl (Nat.le_of_ble_eq_true rfl) dX11_applies_13 16 rfl rfl hen_i (kk_i kk_) (kx_n he_i)
      exact Sm_bn
    refine s_if_eq C dX11_applies_16 35 rfl 19 rfl (fun c_ => ?_) (fun c_ => ?_)
    · refine Sm_sub [] rfl ?_
      exact wX11_applies_d13_b35 C hret h0 hin N _ _ _
    · refine s_aload_n C rfl 0 rfl dX11_applies_19 20 rfl ?_
      refine x_gr C 9 (RX11, TX11, 3) rfl 1 (Nat.le_of_ble_eq_true rfl) q2641 (Or.inl rfl) rfl 10 rfl dX11_applies_20 23 rfl (fun x20 => ?_)
      refine s_aload_n C rfl 1 rfl dX11_applies_23 24 rfl ?_
      refine s_aload_n C rfl 2 rfl dX11_applies_24 25 rfl ?_
      refine x_wi [] 28 (fun kk_ => ?_) (fun x21 m16 k1 n1 => ?_)
      · refine x_csr (kd := 8) (fun hb_ hb0_ => ?_) ?_
        · exact x_callA (enc := en_i) (owner := "MasterTree$Filter") C 19 2 [vr_ v1, vr_ v2] 8 (ctX9_applies C.2.2.2.2.2.2.2.2.1 N m11 x20 v1 v2) hb_ hb0_ rfl rfl q2831 q2797 q2801 q2802 q139 q2803 q2796 ⟨by decide +kernel, by decide +kernel, by decide +kernel⟩ (Nat.le_of_ble_eq_true rfl) (Nat.le_of_ble_eq_true rfl) rfl (Nat.le_of_ble_eq_true rfl) dX11_applies_25 28 rfl rfl hen_i (kk_i kk_) (kx_n he_i)
        refine x_csr (kd := 9) (fun hb_ hb0_ => ?_) ?_
        · exact x_callA (enc := en_i) (owner := "MasterTree$Filter") C 13 2 [vr_ v1, vr_ v2] 9 (ctX10_applies C.2.2.2.2.2.2.2.2.1 N m11 x20 v1 v2) hb_ hb0_ rfl rfl q2831 q2797 q2798 q2799 q140 q2800 q2796 ⟨by decide +kernel, by decide +kernel, by decide +kernel⟩ (Nat.le_of_ble_eq_true rfl) (Nat.le_of_ble_eq_true rfl) rfl (Nat.le_of_ble_eq_true rfl) dX11_applies_25 28 rfl rfl hen_i (kk_i kk_) (kx_n he_i)
        refine x_csr (kd := 10) (fun hb_ hb0_ => ?_) ?_
        · exact x_callA (enc := en_i) (owner := "MasterTree$Filter") C 32 2 [vr_ v1, vr_ v2] 10 (ctX11_applies_d12 C.2.2.2.2.2.2.2.2.1 N m11 x20 v1 v2) hb_ hb0_ rfl rfl q2831 q2797 q2828 q2829 q141 q2830 q2796 ⟨by decide +kernel, by decide +kernel, by decide +kernel⟩ (Nat.le_of_ble_eq_true rfl) (Nat.le_of_ble_eq_true rfl) rfl (Nat.le_of_ble_eq_true rfl) dX11_applies_25 28 rfl rfl hen_i (kk_i kk_) (kx_n he_i)
        refine x_csr (kd := 11) (fun hb_ hb0_ => ?_) ?_
        · exact x_callA (enc := en_i) (owner := "MasterTree$Filter") C 32 2 [vr_ v1, vr_ v2] 11 (ctX12_applies_d12 C.2.2.2.2.2.2.2.2.1 N m11 x20 v1 v2) hb_ hb0_ rfl rfl q2831 q2797 q2835 q2832 q142 q2833 q2796 ⟨by decide +kernel, by decide +kernel, by decide +kernel⟩ (Nat.le_of_ble_eq_true rfl) (Nat.le_of_ble_eq_true rfl) rfl (Nat.le_of_ble_eq_true rfl) dX11_applies_25 28 rfl rfl hen_i (kk_i kk_) (kx_n he_i)
        exact Sm_bn
      refine s_if_eq C dX11_applies_28 35 rfl 31 rfl (fun c_ => ?_) (fun c_ => ?_)
      · refine Sm_sub [] rfl ?_
        exact wX11_applies_d13_b35 C hret h0 hin N _ _ _
      · refine s_iconst C 1 rfl dX11_applies_31 32 rfl ?_
        refine s_goto C (off := 36) 68 dX11_applies_32 rfl ?_
        refine Sm_sub [] rfl ?_
        exact wX11_applies_d13_b68 C hret h0 hin N _ _ _ _
theorem hdX11_applies_d13 : ((⟨"MasterTree$Combined", "applies", "(LMasterTree$Master;LMasterTree$Entry;)Z"⟩ : MethodName)).cls ≠ "java/lang/invoke/MethodHandle" ∧ ((⟨"MasterTree$Combined", "applies", "(LMasterTree$Master;LMasterTree$Entry;)Z"⟩ : MethodName)).cls ≠ "java/lang/invoke/VarHandle" ∧ (parseMethodDescriptor ((⟨"MasterTree$Combined", "applies", "(LMasterTree$Master;LMasterTree$Entry;)Z"⟩ : MethodName)).desc).map (fun d => d.parameters.length) = some 2 := ⟨by decide +kernel, by decide +kernel, by decide +kernel⟩
theorem ctX11_applies_d13 {l : Launch} {g : GG} (hst : l.stackTraces = false) (N : Nat) (m : Mm) (v0 : Option Nat) (v1 : Option Nat) (v2 : Option Nat) : ∀ v m' k n, fX11_applies_d13 (gE_ g) N m v0 v1 v2 = some (v, m', k, n) → Ct_ l g (⟨"MasterTree$Combined", "applies", "(LMasterTree$Master;LMasterTree$Entry;)Z"⟩ : MethodName) (ws_ (⟨"MasterTree$Combined", "applies", "(LMasterTree$Master;LMasterTree$Entry;)Z"⟩ : MethodName) cX11_applies 3 (Option.some Jvm.ClassFile.FieldType.boolean)) 33 [vr_ v0, vr_ v1, vr_ v2] m (en_i v) m' k n :=
  Ct_of (by decide +kernel) rfl hst (Nat.le_of_ble_eq_true rfl) rfl (fun E C hret h0 hin => wX11_applies_d13 C hret h0 hin N m v0 v1 v2 0 0)
theorem wX12_applies_d13_b17 {l : Launch} {g : GG} {E : Me_} (C : Cx_ l g E "MasterTree$Not" cX12_applies 3 33) (hret : (eT_ E).sig.returnType = (Option.some Jvm.ClassFile.FieldType.boolean)) (h0 : ∀ x ∈ (eC_ E).exceptionTable.toList, False) (hin : (eT_ E).name = "applies") (N : Nat) : ∀ (m : Mm) (s0 : Int32) (k n : Nat), Sm_ l g E 3 en_i (fX12_applies_d13_b17 (gE_ g) N m s0) k n 17 [] [vi_ s0] m := by
  intro m s0 k n
  unfold fX12_applies_d13_b17
  exact x_zret C hret rfl dX12_applies_17
theorem wX12_applies_d13 {l : Launch} {g : GG} {E : Me_} (C : Cx_ l g E "MasterTree$Not" cX12_applies 3 33) (hret : (eT_ E).sig.returnType = (Option.some Jvm.ClassFile.FieldType.boolean)) (h0 : ∀ x ∈ (eC_ E).exceptionTable.toList, False) (hin : (eT_ E).name = "applies") (N : Nat) : ∀ (m : Mm) (v0 : Option Nat) (v1 : Option Nat) (v2 : Option Nat) (k n : Nat), Sm_ l g E 3 en_i (fX12_applies_d13 (gE_ g) N m v0 v1 v2) k n 0 [(0, vr_ v0), (1, vr_ v1), (2, vr_ v2)] [] m := by
  intro m v0 v1 v2 k n
  unfold fX12_applies_d13
  refine s_aload_n C rfl 0 rfl dX12_applies_0 1 rfl ?_
  refine x_gr C 10 (RX12, TX12, 1) rfl 0 (Nat.le_of_ble_eq_true rfl) q2666 (Or.inl rfl) rfl 11 rfl dX12_applies_1 4 rfl (fun x1 => ?_)
  refine s_aload_n C rfl 1 rfl dX12_applies_4 5 rfl ?_
  refine s_aload_n C rfl 2 rfl dX12_applies_5 6 rfl ?_
  refine x_wi [] 9 (fun kk_ => ?_) (fun x2 m1 k1 n1 => ?_)
  · refine x_csr (kd := 8) (fun hb_ hb0_ => ?_) ?_
    · exact x_callA (enc := en_i) (owner := "MasterTree$Filter") C 19 2 [vr_ v1, vr_ v2] 8 (ctX9_applies C.2.2.2.2.2.2.2.2.1 N m x1 v1 v2) hb_ hb0_ rfl rfl q2834 q2797 q2801 q2802 q139 q2803 q2796 ⟨by decide +kernel, by decide +kernel, by decide +kernel⟩ (Nat.le_of_ble_eq_true rfl) (Nat.le_of_ble_eq_true rfl) rfl (Nat.le_of_ble_eq_true rfl) dX12_applies_6 9 rfl rfl hen_i (kk_i kk_) (kx_n he_i)
    refine x_csr (kd := 9) (fun hb_ hb0_ => ?_) ?_
    · exact x_callA (enc := en_i) (owner := "MasterTree$Filter") C 13 2 [vr_ v1, vr_ v2] 9 (ctX10_applies C.2.2.2.2.2.2.2.2.1 N m x1 v1 v2) hb_ hb0_ rfl rfl q2834 q2797 q2798 q2799 q140 q2800 q2796 ⟨by decide +kernel, by decide +kernel, by decide +kernel⟩ (Nat.le_of_ble_eq_true rfl) (Nat.le_of_ble_eq_true rfl) rfl (Nat.le_of_ble_eq_true rfl) dX12_applies_6 9 rfl rfl hen_i (kk_i kk_) (kx_n he_i)
    refine x_csr (kd := 10) (fun hb_ hb0_ => ?_) ?_
    · exact x_callA (enc := en_i) (owner := "MasterTree$Filter") C 32 2 [vr_ v1, vr_ v2] 10 (ctX11_applies_d12 C.2.2.2.2.2.2.2.2.1 N m x1 v1 v2) hb_ hb0_ rfl rfl q2834 q2797 q2828 q2829 q141 q2830 q2796 ⟨by decide +kernel, by decide +kernel, by decide +kernel⟩ (Nat.le_of_ble_eq_true rfl) (Nat.le_of_ble_eq_true rfl) rfl (Nat.le_of_ble_eq_true rfl) dX12_applies_6 9 rfl rfl hen_i (kk_i kk_) (kx_n he_i)
    refine x_csr (kd := 11) (fun hb_ hb0_ => ?_) ?_
    · exact x_callA (enc := en_i) (owner := "MasterTree$Filter") C 32 2 [vr_ v1, vr_ v2] 11 (ctX12_applies_d12 C.2.2.2.2.2.2.2.2.1 N m x1 v1 v2) hb_ hb0_ rfl rfl q2834 q2797 q2835 q2832 q142 q2833 q2796 ⟨by decide +kernel, by decide +kernel, by decide +kernel⟩ (Nat.le_of_ble_eq_true rfl) (Nat.le_of_ble_eq_true rfl) rfl (Nat.le_of_ble_eq_true rfl) dX12_applies_6 9 rfl rfl hen_i (kk_i kk_) (kx_n he_i)
    exact Sm_bn
  refine s_if_ne C dX12_applies_9 16 rfl 12 rfl (fun c_ => ?_) (fun c_ => ?_)
  · refine s_iconst C 1 rfl dX12_applies_12 13 rfl ?_
    refine s_goto C (off := 4) 17 dX12_applies_13 rfl ?_
    refine Sm_sub [] rfl ?_
    exact wX12_applies_d13_b17 C hret h0 hin N _ _ _ _
  · refine s_iconst C 0 rfl dX12_applies_16 17 rfl ?_
    refine Sm_sub [] rfl ?_
    exact wX12_applies_d13_b17 C hret h0 hin N _ _ _ _
theorem hdX12_applies_d13 : ((⟨"MasterTree$Not", "applies", "(LMasterTree$Master;LMasterTree$Entry;)Z"⟩ : MethodName)).cls ≠ "java/lang/invoke/MethodHandle" ∧ ((⟨"MasterTree$Not", "applies", "(LMasterTree$Master;LMasterTree$Entry;)Z"⟩ : MethodName)).cls ≠ "java/lang/invoke/VarHandle" ∧ (parseMethodDescriptor ((⟨"MasterTree$Not", "applies", "(LMasterTree$Master;LMasterTree$Entry;)Z"⟩ : MethodName)).desc).map (fun d => d.parameters.length) = some 2 := ⟨by decide +kernel, by decide +kernel, by decide +kernel⟩
theorem ctX12_applies_d13 {l : Launch} {g : GG} (hst : l.stackTraces = false) (N : Nat) (m : Mm) (v0 : Option Nat) (v1 : Option Nat) (v2 : Option Nat) : ∀ v m' k n, fX12_applies_d13 (gE_ g) N m v0 v1 v2 = some (v, m', k, n) → Ct_ l g (⟨"MasterTree$Not", "applies", "(LMasterTree$Master;LMasterTree$Entry;)Z"⟩ : MethodName) (ws_ (⟨"MasterTree$Not", "applies", "(LMasterTree$Master;LMasterTree$Entry;)Z"⟩ : MethodName) cX12_applies 3 (Option.some Jvm.ClassFile.FieldType.boolean)) 33 [vr_ v0, vr_ v1, vr_ v2] m (en_i v) m' k n :=
  Ct_of (by decide +kernel) rfl hst (Nat.le_of_ble_eq_true rfl) rfl (fun E C hret h0 hin => wX12_applies_d13 C hret h0 hin N m v0 v1 v2 0 0)
theorem wX11_applies_d14_b68 {l : Launch} {g : GG} {E : Me_} (C : Cx_ l g E "MasterTree$Combined" cX11_applies 3 34) (hret : (eT_ E).sig.returnType = (Option.some Jvm.ClassFile.FieldType.boolean)) (h0 : ∀ x ∈ (eC_ E).exceptionTable.toList, False) (hin : (eT_ E).name = "applies") (N : Nat) : ∀ (m : Mm) (s0 : Int32) (k n : Nat), Sm_ l g E 3 en_i (fX11_applies_d14_b68 (gE_ g) N m s0) k n 68 [] [vi_ s0] m := by
  intro m s0 k n
  unfold fX11_applies_d14_b68
  exact x_zret C hret rfl dX11_applies_68
theorem wX11_applies_d14_b35 {l : Launch} {g : GG} {E : Me_} (C : Cx_ l g E "MasterTree$Combined" cX11_applies 3 34) (hret : (eT_ E).sig.returnType = (Option.some Jvm.ClassFile.FieldType.boolean)) (h0 : ∀ x ∈ (eC_ E).exceptionTable.toList, False) (hin : (eT_ E).name = "applies") (N : Nat) : ∀ (m : Mm) (k n : Nat), Sm_ l g E 3 en_i (fX11_applies_d14_b35 (gE_ g) N m) k n 35 [] [] m := by
  intro m k n
  unfold fX11_applies_d14_b35
  refine s_iconst C 0 rfl dX11_applies_35 36 rfl ?_
  refine s_goto C (off := 32) 68 dX11_applies_36 rfl ?_
  exact wX11_applies_d14_b68 C hret h0 hin N _ _ _ _
theorem wX11_applies_d14_b63 {l : Launch} {g : GG} {E : Me_} (C : Cx_ l g E "MasterTree$Combined" cX11_applies 3 34) (hret : (eT_ E).sig.returnType = (Option.some Jvm.ClassFile.FieldType.boolean)) (h0 : ∀ x ∈ (eC_ E).exceptionTable.toList, False) (hin : (eT_ E).name = "applies") (N : Nat) : ∀ (m : Mm) (k n : Nat), Sm_ l g E 3 en_i (fX11_applies_d14_b63 (gE_ g) N m) k n 63 [] [] m := by
  intro m k n
  unfold fX11_applies_d14_b63
  refine s_iconst C 1 rfl dX11_applies_63 64 rfl ?_
  refine s_goto C (off := 4) 68 dX11_applies_64 rfl ?_
  exact wX11_applies_d14_b68 C hret h0 hin N _ _ _ _
theorem wX11_applies_d14 {l : Launch} {g : GG} {E : Me_} (C : Cx_ l g E "MasterTree$Combined" cX11_applies 3 34) (hret : (eT_ E).sig.returnType = (Option.some Jvm.ClassFile.FieldType.boolean)) (h0 : ∀ x ∈ (eC_ E).exceptionTable.toList, False) (hin : (eT_ E).name = "applies") (N : Nat) : ∀ (m : Mm) (v0 : Option Nat) (v1 : Option Nat) (v2 : Option Nat) (k n : Nat), Sm_ l g E 3 en_i (fX11_applies_d14 (gE_ g) N m v0 v1 v2) k n 0 [(0, vr_ v0), (1, vr_ v1), (2, vr_ v2)] [] m := by
  intro m v0 v1 v2 k n
  unfold fX11_applies_d14
  refine s_aload_n C rfl 0 rfl dX11_applies_0 1 rfl ?_
  refine x_gi C 9 (RX11, TX11, 3) rfl 2 (Nat.le_of_ble_eq_true rfl) q2642 (Or.inl rfl) rfl 10 rfl dX11_applies_1 4 rfl (fun x1 => ?_)
  refine s_if_eq C dX11_applies_4 39 rfl 7 rfl (fun c_ => ?_) (fun c_ => ?_)
  · refine s_aload_n C rfl 0 rfl dX11_applies_39 40 rfl ?_
    refine x_gr C 9 (RX11, TX11, 3) rfl 0 (Nat.le_of_ble_eq_true rfl) q2640 (Or.inl rfl) rfl 10 rfl dX11_applies_40 43 rfl (fun x2 => ?_)
    refine s_aload_n C rfl 1 rfl dX11_applies_43 44 rfl ?_
    refine s_aload_n C rfl 2 rfl dX11_applies_44 45 rfl ?_
    refine x_wi [] 48 (fun kk_ => ?_) (fun x3 m1 k1 n1 => ?_)
    · refine x_csr (kd := 8) (fun hb_ hb0_ => ?_) ?_
      · exact x_callA (enc := en_i) (owner := "MasterTree$Filter") C 19 2 [vr_ v1, vr_ v2] 8 (ctX9_applies C.2.2.2.2.2.2.2.2.1 N m x2 v1 v2) hb_ hb0_ rfl rfl q2831 q2797 q2801 q2802 q139 q2803 q2796 ⟨by decide +kernel, by decide +kernel, by decide +kernel⟩ (Nat.le_of_ble_eq_true rfl) (Nat.le_of_ble_eq_true rfl) rfl (Nat.le_of_ble_eq_true rfl) dX11_applies_45 48 rfl rfl hen_i (kk_i kk_) (kx_n he_i)
      refine x_csr (kd := 9) (fun hb_ hb0_ => ?_) ?_
      · exact x_callA (enc := en_i) (owner := "MasterTree$Filter") C 13 2 [vr_ v1, vr_ v2] 9 (ctX10_applies C.2.2.2.2.2.2.2.2.1 N m x2 v1 v2) hb_ hb0_ rfl rfl q2831 q2797 q2798 q2799 q140 q2800 q2796 ⟨by decide +kernel, by decide +kernel, by decide +kernel⟩ (Nat.le_of_ble_eq_true rfl) (Nat.le_of_ble_eq_true rfl) rfl (Nat.le_of_ble_eq_true rfl) dX11_applies_45 48 rfl rfl hen_i (kk_i kk_) (kx_n he_i)
      refine x_csr (kd := 10) (fun hb_ hb0_ => ?_) ?_
      · exact x_callA (enc := en_i) (owner := "MasterTree$Filter") C 33 2 [vr_ v1, vr_ v2] 10 (ctX11_applies_d13 C.2.2.2.2.2.2.2.2.1 N m x2 v1 v2) hb_ hb0_ rfl rfl q2831 q2797 q2828 q2829 q141 q2830 q2796 ⟨by decide +kernel, by decide +kernel, by decide +kernel⟩ (Nat.le_of_ble_eq_true rfl) (Nat.le_of_ble_eq_true rfl) rfl (Nat.le_of_ble_eq_true rfl) dX11_applies_45 48 rfl rfl hen_i (kk_i kk_) (kx_n he_i)
      refine x_csr (kd := 11) (fun hb_ hb0_ => ?_) ?_
      · exact x_callA (enc := en_i) (owner := "MasterTree$Filter") C 33 2 [vr_ v1, vr_ v2] 11 (ctX12_applies_d13 C.2.2.2.2.2.2.2.2.1 N m x2 v1 v2) hb_ hb0_ rfl rfl q2831 q2797 q2835 q2832 q142 q2833 q2796 ⟨by decide +kernel, by decide +kernel, by decide +kernel⟩ (Nat.le_of_ble_eq_true rfl) (Nat.le_of_ble_eq_true rfl) rfl (Nat.le_of_ble_eq_true rfl) dX11_applies_45 48 rfl rfl hen_i (kk_i kk_) (kx_n he_i)
      exact Sm_bn
    refine s_if_ne C dX11_applies_48 63 rfl 51 rfl (fun c_ => ?_) (fun c_ => ?_)
    · refine s_aload_n C rfl 0 rfl dX11_applies_51 52 rfl ?_
      refine x_gr C 9 (RX11, TX11, 3) rfl 1 (Nat.le_of_ble_eq_true rfl) q2641 (Or.inl rfl) rfl 10 rfl dX11_applies_52 55 rfl (fun x8 => ?_)
      refine s_aload_n C rfl 1 rfl dX11_applies_55 56 rfl ?_
      refine s_aload_n C rfl 2 rfl dX11_applies_56 57 rfl ?_
      refine x_wi [] 60 (fun kk_ => ?_) (fun x9 m6 k1 n1 => ?_)
      · refine x_csr (kd := 8) (fun hb_ hb0_ => ?_) ?_
        · exact x_callA (enc := en_i) (owner := "MasterTree$Filter") C 19 2 [vr_ v1, vr_ v2] 8 (ctX9_applies C.2.2.2.2.2.2.2.2.1 N m1 x8 v1 v2) hb_ hb0_ rfl rfl q2831 q2797 q2801 q2802 q139 q2803 q2796 ⟨by decide +kernel, by decide +kernel, by decide +kernel⟩ (Nat.le_of_ble_eq_true rfl) (Nat.le_of_ble_eq_true rfl) rfl (Nat.le_of_ble_eq_true rfl) dX11_applies_57 60 rfl rfl hen_i (kk_i kk_) (kx_n he_i)
        refine x_csr (kd := 9) (fun hb_ hb0_ => ?_) ?_
        · exact x_callA (enc := en_i) (owner := "MasterTree$Filter") C 13 2 [vr_ v1, vr_ v2] 9 (ctX10_applies C.2.2.2.2.2.2.2.2.1 N m1 x8 v1 v2) hb_ hb0_ rfl rfl q2831 q2797 q2798 q2799 q140 q2800 q2796 ⟨by decide +kernel, by decide +kernel, by decide +kernel⟩ (Nat.le_of_ble_eq_true rfl) (Nat.le_of_ble_eq_true rfl) rfl (Nat.le_of_ble_eq_true rfl) dX11_applies_57 60 rfl rfl hen_i (kk_i kk_) (kx_n he_i)
        refine x_csr (kd := 10) (fun hb_ hb0_ => ?_) ?_
        · exact x_callA (enc := en_i) (owner := "MasterTree$Filter") C 33 2 [vr_ v1, vr_ v2] 10 (ctX11_applies_d13 C.2.2.2.2.2.2.2.2.1 N m1 x8 v1 v2) hb_ hb0_ rfl rfl q2831 q2797 q2828 q2829 q141 q2830 q2796 ⟨by decide +kernel, by decide +kernel, by decide +kernel⟩ (Nat.le_of_ble_eq_true rfl) (Nat.le_of_ble_eq_true rfl) rfl (Nat.le_of_ble_eq_true rfl) dX11_applies_57 60 rfl rfl hen_i (kk_i kk_) (kx_n he_i)
        refine x_csr (kd := 11) (fun hb_ hb0_ => ?_) ?_
        · exact x_callA (enc := en_i) (owner := "MasterTree$Filter") C 33 2 [vr_ v1, vr_ v2] 11 (ctX12_applies_d13 C.2.2.2.2.2.2.2.2.1 N m1 x8 v1 v2) hb_ hb0_ rfl rfl q2831 q2797 q2835 q2832 q142 q2833 q2796 ⟨by decide +kernel, by decide +kernel, by decide +kernel⟩ (Nat.le_of_ble_eq_true rfl) (Nat.le_of_ble_eq_true rfl) rfl (Nat.le_of_ble_eq_true rfl) dX11_applies_57 60 rfl rfl hen_i (kk_i kk_) (kx_n he_i)
        exact Sm_bn
      refine s_if_eq C dX11_applies_60 67 rfl 63 rfl (fun c_ => ?_) (fun c_ => ?_)
      · refine s_iconst C 0 rfl dX11_applies_67 68 rfl ?_
        refine Sm_sub [] rfl ?_
        exact wX11_applies_d14_b68 C hret h0 hin N _ _ _ _
      · refine Sm_sub [] rfl ?_
        exact wX11_applies_d14_b63 C hret h0 hin N _ _ _
    · refine Sm_sub [] rfl ?_
      exact wX11_applies_d14_b63 C hret h0 hin N _ _ _
  · refine s_aload_n C rfl 0 rfl dX11_applies_7 8 rfl ?_
    refine x_gr C 9 (RX11, TX11, 3) rfl 0 (Nat.le_of_ble_eq_true rfl) q2640 (Or.inl rfl) rfl 10 rfl dX11_applies_8 11 rfl (fun x14 => ?_)
    refine s_aload_n C rfl 1 rfl dX11_applies_11 12 rfl ?_
    refine s_aload_n C rfl 2 rfl dX11_applies_12 13 rfl ?_
    refine x_wi [] 16 (fun kk_ => ?_) (fun x15 m11 k1 n1 => ?_)
    · refine x_csr (kd := 8) (fun hb_ hb0_ => ?_) ?_
      · exact x_callA (enc := en_i) (owner := "MasterTree$Filter") C 19 2 [vr_ v1, vr_ v2] 8 (ctX9_applies C.2.2.2.2.2.2.2.2.1 N m x14 v1 v2) hb_ hb0_ rfl rfl q2831 q2797 q2801 q2802 q139 q2803 q2796 ⟨by decide +kernel, by decide +kernel, by decide +kernel⟩ (Nat.le_of_ble_eq_true rfl) (Nat.le_of_ble_eq_true rfl) rfl (Nat.le_of_ble_eq_true rfl) dX11_applies_13 16 rfl rfl hen_i (kk_i kk_) (kx_n he_i)
      refine x_csr (kd := 9) (fun hb_ hb0_ => ?_) ?_
      · exact x_callA (enc := en_i) (owner := "MasterTree$Filter") C 13 2 [vr_ v1, vr_ v2] 9 (ctX10_applies C.2.2.2.2.2.2.2.2.1 N m x14 v1 v2) hb_ hb0_ rfl rfl q2831 q2797 q2798 q2799 q140 q2800 q2796 ⟨by decide +kernel, by decide +kernel, by decide +kernel⟩ (Nat.le_of_ble_eq_true rfl) (Nat.le_of_ble_eq_true rfl) rfl (Nat.le_of_ble_eq_true rfl) dX11_applies_13 16 rfl rfl hen_i (kk_i kk_) (kx_n he_i)
      refine x_csr (kd := 10) (fun hb_ hb0_ => ?_) ?_
      · exact x_callA (enc := en_i) (owner := "MasterTree$Filter") C 33 2 [vr_ v1, vr_ v2] 10 (ctX11_applies_d13 C.2.2.2.2.2.2.2.2.1 N m x14 v1 v2) hb_ hb0_ rfl rfl q2831 q2797 q2828 q2829 q141 q2830 q2796 ⟨by decide +kernel, by decide +kernel, by decide +kernel⟩ (Nat.le_of_ble_eq_true rfl) (Nat.le_of_ble_eq_true rfl) rfl (Nat.le_of_ble_eq_true rfl) dX11_applies_13 16 rfl rfl hen_i (kk_i kk_) (kx_n he_i)
      refine x_csr (kd := 11) (fun hb_ hb0_ => ?_) ?_
      · exact x_callA (enc := en_i) (owner := "MasterTree$Filter") C 33 2 [vr_ v1, vr_ v2] 11 (ctX12_applies_d13 C.2.2.2.2.2.2.2.2.1 N m x14 v1 v2) hb_ hb0_ rfl rfl q2831 q2797 q2835 q2832 q142 q2833 q2796 ⟨by decide +kernel, by decide +kernel, by decide +kernel⟩ (Nat.le_of_ble_eq_true rfl) (Nat.le_of_ble_eq_true rfl) rfl (Nat.le_of_ble_eq_true rfl) dX11_applies_13 16 rfl rfl hen_i (kk_i kk_) (kx_n he_i)
      exact Sm_bn
    refine s_if_eq C dX11_applies_16 35 rfl 19 rfl (fun c_ => ?_) (fun c_ => ?_)
    · refine Sm_sub [] rfl ?_
      exact wX11_applies_d14_b35 C hret h0 hin N _ _ _
    · refine s_aload_n C rfl 0 rfl dX11_applies_19 20 rfl ?_
      refine x_gr C 9 (RX11, TX11, 3) rfl 1 (Nat.le_of_ble_eq_true rfl) q2641 (Or.inl rfl) rfl 10 rfl dX11_applies_20 23 rfl (fun x20 => ?_)
      refine s_aload_n C rfl 1 rfl dX11_applies_23 24 rfl ?_
      refine s_aload_n C rfl 2 rfl dX11_applies_24 25 rfl ?_
      refine x_wi [] 28 (fun kk_ => ?_) (fun x21 m16 k1 n1 => ?_)
      · refine x_csr (kd := 8) (fun hb_ hb0_ => ?_) ?_
        · exact x_callA (enc := en_i) (owner := "MasterTree$Filter") C 19 2 [vr_ v1, vr_ v2] 8 (ctX9_applies C.2.2.2.2.2.2.2.2.1 N m11 x20 v1 v2) hb_ hb0_ rfl rfl q2831 q2797 q2801 q2802 q139 q2803 q2796 ⟨by decide +kernel, by decide +kernel, by decide +kernel⟩ (Nat.le_of_ble_eq_true rfl) (Nat.le_of_ble_eq_true rfl) rfl (Nat.le_of_ble_eq_true rfl) dX11_applies_25 28 rfl rfl hen_i (kk_i kk_) (kx_n he_i)
        refine x_csr (kd := 9) (fun hb_ hb0_ => ?_) ?_
        · exact x_callA (enc := en_i) (owner := "MasterTree$Filter") C 13 2 [vr_ v1, vr_ v2] 9 (ctX10_applies C.2.2.2.2.2.2.2.2.1 N m11 x20 v1 v2) hb_ hb0_ rfl rfl q2831 q2797 q2798 q2799 q140 q2800 q2796 ⟨by decide +kernel, by decide +kernel, by decide +kernel⟩ (Nat.le_of_ble_eq_true rfl) (Nat.le_of_ble_eq_true rfl) rfl (Nat.le_of_ble_eq_true rfl) dX11_applies_25 28 rfl rfl hen_i (kk_i kk_) (kx_n he_i)
        refine x_csr (kd := 10) (fun hb_ hb0_ => ?_) ?_
        · exact x_callA (enc := en_i) (owner := "MasterTree$Filter") C 33 2 [vr_ v1, vr_ v2] 10 (ctX11_applies_d13 C.2.2.2.2.2.2.2.2.1 N m11 x20 v1 v2) hb_ hb0_ rfl rfl q2831 q2797 q2828 q2829 q141 q2830 q2796 ⟨by decide +kernel, by decide +kernel, by decide +kernel⟩ (Nat.le_of_ble_eq_true rfl) (Nat.le_of_ble_eq_true rfl) rfl (Nat.le_of_ble_eq_true rfl) dX11_applies_25 28 rfl rfl hen_i (kk_i kk_) (kx_n he_i)
        refine x_csr (kd := 11) (fun hb_ hb0_ => ?_) ?_
        · exact x_callA (enc := en_i) (owner := "MasterTree$Filter") C 33 2 [vr_ v1, vr_ v2] 11 (ctX12_applies_d13 C.2.2.2.2.2.2.2.2.1 N m11 x20 v1 v2) hb_ hb0_ rfl rfl q2831 q2797 q2835 q2832 q142 q2833 q2796 ⟨by decide +kernel, by decide +kernel, by decide +kernel⟩ (Nat.le_of_ble_eq_true rfl) (Nat.le_of_ble_eq_true rfl) rfl (Nat.le_of_ble_eq_true rfl) dX11_applies_25 28 rfl rfl hen_i (kk_i kk_) (kx_n he_i)
        exact Sm_bn
      refine s_if_eq C dX11_applies_28 35 rfl 31 rfl (fun c_ => ?_) (fun c_ => ?_)
      · refine Sm_sub [] rfl ?_
        exact wX11_applies_d14_b35 C hret h0 hin N _ _ _
      · refine s_iconst C 1 rfl dX11_applies_31 32 rfl ?_
        refine s_goto C (off := 36) 68 dX11_applies_32 rfl ?_
        refine Sm_sub [] rfl ?_
        exact wX11_applies_d14_b68 C hret h0 hin N _ _ _ _
theorem hdX11_applies_d14 : ((⟨"MasterTree$Combined", "applies", "(LMasterTree$Master;LMasterTree$Entry;)Z"⟩ : MethodName)).cls ≠ "java/lang/invoke/MethodHandle" ∧ ((⟨"MasterTree$Combined", "applies", "(LMasterTree$Master;LMasterTree$Entry;)Z"⟩ : MethodName)).cls ≠ "java/lang/invoke/VarHandle" ∧ (parseMethodDescriptor ((⟨"MasterTree$Combined", "applies", "(LMasterTree$Master;LMasterTree$Entry;)Z"⟩ : MethodName)).desc).map (fun d => d.parameters.length) = some 2 := ⟨by decide +kernel, by decide +kernel, by decide +kernel⟩
theorem ctX11_applies_d14 {l : Launch} {g : GG} (hst : l.stackTraces = false) (N : Nat) (m : Mm) (v0 : Option Nat) (v1 : Option Nat) (v2 : Option Nat) : ∀ v m' k n, fX11_applies_d14 (gE_ g) N m v0 v1 v2 = some (v, m', k, n) → Ct_ l g (⟨"MasterTree$Combined", "applies", "(LMasterTree$Master;LMasterTree$Entry;)Z"⟩ : MethodName) (ws_ (⟨"MasterTree$Combined", "applies", "(LMasterTree$Master;LMasterTree$Entry;)Z"⟩ : MethodName) cX11_applies 3 (Option.some Jvm.ClassFile.FieldType.boolean)) 34 [vr_ v0, vr_ v1, vr_ v2] m (en_i v) m' k n :=
  Ct_of (by decide +kernel) rfl hst (Nat.le_of_ble_eq_true rfl) rfl (fun E C hret h0 hin => wX11_applies_d14 C hret h0 hin N m v0 v1 v2 0 0)
theorem wX12_applies_d14_b17 {l : Launch} {g : GG} {E : Me_} (C : Cx_ l g E "MasterTree$Not" cX12_applies 3 34) (hret : (eT_ E).sig.returnType = (Option.some Jvm.ClassFile.FieldType.boolean)) (h0 : ∀ x ∈ (eC_ E).exceptionTable.toList, False) (hin : (eT_ E).name = "applies") (N : Nat) : ∀ (m : Mm) (s0 : Int32) (k n : Nat), Sm_ l g E 3 en_i (fX12_applies_d14_b17 (gE_ g) N m s0) k n 17 [] [vi_ s0] m := by
  intro m s0 k n
  unfold fX12_applies_d14_b17
  exact x_zret C hret rfl dX12_applies_17
theorem wX12_applies_d14 {l : Launch} {g : GG} {E : Me_} (C : Cx_ l g E "MasterTree$Not" cX12_applies 3 34) (hret : (eT_ E).sig.returnType = (Option.some Jvm.ClassFile.FieldType.boolean)) (h0 : ∀ x ∈ (eC_ E).exceptionTable.toList, False) (hin : (eT_ E).name = "applies") (N : Nat) : ∀ (m : Mm) (v0 : Option Nat) (v1 : Option Nat) (v2 : Option Nat) (k n : Nat), Sm_ l g E 3 en_i (fX12_applies_d14 (gE_ g) N m v0 v1 v2) k n 0 [(0, vr_ v0), (1, vr_ v1), (2, vr_ v2)] [] m := by
  intro m v0 v1 v2 k n
  unfold fX12_applies_d14
  refine s_aload_n C rfl 0 rfl dX12_applies_0 1 rfl ?_
  refine x_gr C 10 (RX12, TX12, 1) rfl 0 (Nat.le_of_ble_eq_true rfl) q2666 (Or.inl rfl) rfl 11 rfl dX12_applies_1 4 rfl (fun x1 => ?_)
  refine s_aload_n C rfl 1 rfl dX12_applies_4 5 rfl ?_
  refine s_aload_n C rfl 2 rfl dX12_applies_5 6 rfl ?_
  refine x_wi [] 9 (fun kk_ => ?_) (fun x2 m1 k1 n1 => ?_)
  · refine x_csr (kd := 8) (fun hb_ hb0_ => ?_) ?_
    · exact x_callA (enc := en_i) (owner := "MasterTree$Filter") C 19 2 [vr_ v1, vr_ v2] 8 (ctX9_applies C.2.2.2.2.2.2.2.2.1 N m x1 v1 v2) hb_ hb0_ rfl rfl q2834 q2797 q2801 q2802 q139 q2803 q2796 ⟨by decide +kernel, by decide +kernel, by decide +kernel⟩ (Nat.le_of_ble_eq_true rfl) (Nat.le_of_ble_eq_true rfl) rfl (Nat.le_of_ble_eq_true rfl) dX12_applies_6 9 rfl rfl hen_i (kk_i kk_) (kx_n he_i)
    refine x_csr (kd := 9) (fun hb_ hb0_ => ?_) ?_
    · exact x_callA (enc := en_i) (owner := "MasterTree$Filter") C 13 2 [vr_ v1, vr_ v2] 9 (ctX10_applies C.2.2.2.2.2.2.2.2.1 N m x1 v1 v2) hb_ hb0_ rfl rfl q2834 q2797 q2798 q2799 q140 q2800 q2796 ⟨by decide +kernel, by decide +kernel, by decide +kernel⟩ (Nat.le_of_ble_eq_true rfl) (Nat.le_of_ble_eq_true rfl) rfl (Nat.le_of_ble_eq_true rfl) dX12_applies_6 9 rfl rfl hen_i (kk_i kk_) (kx_n he_i)
    refine x_csr (kd := 10) (fun hb_ hb0_ => ?_) ?_
    · exact x_callA (enc := en_i) (owner := "MasterTree$Filter") C 33 2 [vr_ v1, vr_ v2] 10 (ctX11_applies_d13 C.2.2.2.2.2.2.2.2.1 N m x1 v1 v2) hb_ hb0_ rfl rfl q2834 q2797 q2828 q2829 q141 q2830 q2796 ⟨by decide +kernel, by decide +kernel, by decide +kernel⟩ (Nat.le_of_ble_eq_true rfl) (Nat.le_of_ble_eq_true rfl) rfl (Nat.le_of_ble_eq_true rfl) dX12_applies_6 9 rfl rfl hen_i (kk_i kk_) (kx_n he_i)
    refine x_csr (kd := 11) (fun hb_ hb0_ => ?_) ?_
    · exact x_callA (enc := en_i) (owner := "MasterTree$Filter") C 33 2 [vr_ v1, vr_ v2] 11 (ctX12_applies_d13 C.2.2.2.2.2.2.2.2.1 N m x1 v1 v2) hb_ hb0_ rfl rfl q2834 q2797 q2835 q2832 q142 q2833 q2796 ⟨by decide +kernel, by decide +kernel, by decide +kernel⟩ (Nat.le_of_ble_eq_true rfl) (Nat.le_of_ble_eq_true rfl) rfl (Nat.le_of_ble_eq_true rfl) dX12_applies_6 9 rfl rfl hen_i (kk_i kk_) (kx_n he_i)
    exact Sm_bn
  refine s_if_ne C dX12_applies_9 16 rfl 12 rfl (fun c_ => ?_) (fun c_ => ?_)
  · refine s_iconst C 1 rfl dX12_applies_12 13 rfl ?_
    refine s_goto C (off := 4) 17 dX12_applies_13 rfl ?_
    refine Sm_sub [] rfl ?_
    exact wX12_applies_d14_b17 C hret h0 hin N _ _ _ _
  · refine s_iconst C 0 rfl dX12_applies_16 17 rfl ?_
    refine Sm_sub [] rfl ?_
    exact wX12_applies_d14_b17 C hret h0 hin N _ _ _ _
theorem hdX12_applies_d14 : ((⟨"MasterTree$Not", "applies", "(LMasterTree$Master;LMasterTree$Entry;)Z"⟩ : MethodName)).cls ≠ "java/lang/invoke/MethodHandle" ∧ ((⟨"MasterTree$Not", "applies", "(LMasterTree$Master;LMasterTree$Entry;)Z"⟩ : MethodName)).cls ≠ "java/lang/invoke/VarHandle" ∧ (parseMethodDescriptor ((⟨"MasterTree$Not", "applies", "(LMasterTree$Master;LMasterTree$Entry;)Z"⟩ : MethodName)).desc).map (fun d => d.parameters.length) = some 2 := ⟨by decide +kernel, by decide +kernel, by decide +kernel⟩
theorem ctX12_applies_d14 {l : Launch} {g : GG} (hst : l.stackTraces = false) (N : Nat) (m : Mm) (v0 : Option Nat) (v1 : Option Nat) (v2 : Option Nat) : ∀ v m' k n, fX12_applies_d14 (gE_ g) N m v0 v1 v2 = some (v, m', k, n) → Ct_ l g (⟨"MasterTree$Not", "applies", "(LMasterTree$Master;LMasterTree$Entry;)Z"⟩ : MethodName) (ws_ (⟨"MasterTree$Not", "applies", "(LMasterTree$Master;LMasterTree$Entry;)Z"⟩ : MethodName) cX12_applies 3 (Option.some Jvm.ClassFile.FieldType.boolean)) 34 [vr_ v0, vr_ v1, vr_ v2] m (en_i v) m' k n :=
  Ct_of (by decide +kernel) rfl hst (Nat.le_of_ble_eq_true rfl) rfl (fun E C hret h0 hin => wX12_applies_d14 C hret h0 hin N m v0 v1 v2 0 0)
theorem wX1_searchByWalk_b182 {l : Launch} {g : GG} {E : Me_} (C : Cx_ l g E "MasterTree" cX1_searchByWalk 13 35) (hret : (eT_ E).sig.returnType = (Option.some Jvm.ClassFile.FieldType.int)) (h0 : ∀ x ∈ (eC_ E).exceptionTable.toList, False) (hin : (eT_ E).name = "searchByWalk") (N : Nat) {k42 : Mm → Int32 → Option Nat → Option Nat → Option Nat → Int32 → Int32 → Rs (Int32 ⊕ Nat)} (hk42 : ∀ (m : Mm) (v3 : Int32) (v4 : Option Nat) (v5 : Option Nat) (v6 : Option Nat) (v7 : Int32) (v8 : Int32) (k n : Nat), Sm_ l g E 13 (xe_ en_i) (k42 m v3 v4 v5 v6 v7 v8) k n 42 [(3, vi_ v3), (4, vr_ v4), (5, vr_ v5), (6, vr_ v6), (7, vi_ v7), (8, vi_ v8)] [] m) : ∀ (F : Nat) (m : Mm) (v3 : Int32) (v4 : Option Nat) (v5 : Option Nat) (v6 : Option Nat) (v7 : Int32) (v8 : Int32) (v9 : Int32) (v12 : Int32) (k n : Nat), Sm_ l g E 13 (xe_ en_i) (fX1_searchByWalk_b182 (gE_ g) N k42 F m v3 v4 v5 v6 v7 v8 v9 v12) k n 182 [(3, vi_ v3), (4, vr_ v4), (5, vr_ v5), (6, vr_ v6), (7, vi_ v7), (8, vi_ v8), (9, vi_ v9), (12, vi_ v12)] [] m := by
  intro F
  induction F with
  | zero => intros; exact Sm_none
  | succ F ih =>
    intro m v3 v4 v5 v6 v7 v8 v9 v12 k n
    unfold fX1_searchByWalk_b182
    refine s_iload C 7 rfl dX1_searchByWalk_182 184 rfl ?_
    refine s_iconst C (-1) rfl dX1_searchByWalk_184 185 rfl ?_
    refine s_icmp_eq C dX1_searchByWalk_185 220 rfl 188 rfl (fun c_ => ?_) (fun c_ => ?_)
    · refine s_iinc C 1 rfl 5 rfl (Nat.le_of_ble_eq_true rfl) [0, 1, 2, 3, 4, 6, 7] rfl rfl dX1_searchByWalk_220 223 rfl ?_
      refine s_goto C (off := -181) 42 dX1_searchByWalk_223 rfl ?_
      refine Sm_sub [1, 2, 3, 4, 5, 0] rfl ?_
      exact hk42 _ _ _ _ _ _ _ _ _
    · refine s_aload C 3 rfl dX1_searchByWalk_188 190 rfl ?_
      refine s_iload C 7 rfl dX1_searchByWalk_190 192 rfl ?_
      refine x_callS (enc := en_r) C 12 1 [vi_ v12] (ctJ21_valueOf C.2.2.2.2.2.2.2.2.1 N m v12) q2785 q1620 q108 q1621 hdJ21_valueOf (Nat.le_of_ble_eq_true rfl) (Nat.le_of_ble_eq_true rfl) rfl (Nat.le_of_ble_eq_true rfl) dX1_searchByWalk_192 195 rfl rfl hen_r (kk_r (fun x1 m1 k1 n1 => ?_)) (kx_n he_r)
      refine x_ck (fun hb_ hb0_ => ?_)
      refine x_callF (enc := en_i) C 15 1 [vr_ x1] 13 (ctJ2_add C.2.2.2.2.2.2.2.2.1 N m1 v6 x1) hb_ hb0_ rfl rfl rfl fw_0 q346 q350 q352 q84 q354 hx0 (Nat.le_of_ble_eq_true rfl) (Nat.le_of_ble_eq_true rfl) rfl (Nat.le_of_ble_eq_true rfl) dX1_searchByWalk_195 200 rfl rfl hen_i (kk_i (fun x2 m2 k1 n1 => ?_)) (kx_n he_i)
      refine s_pop C rfl dX1_searchByWalk_200 201 rfl ?_
      refine s_aload C 1 rfl dX1_searchByWalk_201 203 rfl ?_
      refine s_iload C 6 rfl dX1_searchByWalk_203 205 rfl ?_
      refine s_aload C 1 rfl dX1_searchByWalk_205 207 rfl ?_
      refine s_iload C 7 rfl dX1_searchByWalk_207 209 rfl ?_
      refine x_ck (fun hb_ hb0_ => ?_)
      refine x_callV (enc := en_i) C 15 1 [vi_ v12] 2 (ctX2_shownName C.2.2.2.2.2.2.2.2.1 N m2 v4 v12) hb_ hb0_ rfl rfl q2462 q1668 q1669 q85 q1670 hdX2_shownName (Nat.le_of_ble_eq_true rfl) (Nat.le_of_ble_eq_true rfl) rfl (Nat.le_of_ble_eq_true rfl) dX1_searchByWalk_209 212 rfl rfl hen_i (kk_i (fun x3 m3 k1 n1 => ?_)) (kx_n he_i)
      refine x_ck (fun hb_ hb0_ => ?_)
      refine x_callV (enc := en_i) C 16 2 [vi_ v9, vi_ x3] 2 (ctX2_next C.2.2.2.2.2.2.2.2.1 N m3 v4 v9 x3) hb_ hb0_ rfl rfl q2480 q2481 q2482 q85 q2483 hdX2_next (Nat.le_of_ble_eq_true rfl) (Nat.le_of_ble_eq_true rfl) rfl (Nat.le_of_ble_eq_true rfl) dX1_searchByWalk_212 215 rfl rfl hen_i (kk_i (fun x4 m4 k1 n1 => ?_)) (kx_n he_i)
      refine s_istore C (Nat.le_of_ble_eq_true rfl) [0, 1, 2, 3, 4, 5, 6] rfl rfl dX1_searchByWalk_215 217 rfl ?_
      refine s_goto C (off := -35) 182 dX1_searchByWalk_217 rfl ?_
      refine Sm_sub [1, 2, 3, 4, 5, 6, 7, 0] rfl ?_
      exact ih _ _ _ _ _ _ _ _ _ _ _
theorem wX1_searchByWalk_b180 {l : Launch} {g : GG} {E : Me_} (C : Cx_ l g E "MasterTree" cX1_searchByWalk 13 35) (hret : (eT_ E).sig.returnType = (Option.some Jvm.ClassFile.FieldType.int)) (h0 : ∀ x ∈ (eC_ E).exceptionTable.toList, False) (hin : (eT_ E).name = "searchByWalk") (N : Nat) {k42 : Mm → Int32 → Option Nat → Option Nat → Option Nat → Int32 → Int32 → Rs (Int32 ⊕ Nat)} (hk42 : ∀ (m : Mm) (v3 : Int32) (v4 : Option Nat) (v5 : Option Nat) (v6 : Option Nat) (v7 : Int32) (v8 : Int32) (k n : Nat), Sm_ l g E 13 (xe_ en_i) (k42 m v3 v4 v5 v6 v7 v8) k n 42 [(3, vi_ v3), (4, vr_ v4), (5, vr_ v5), (6, vr_ v6), (7, vi_ v7), (8, vi_ v8)] [] m) : ∀ (m : Mm) (v3 : Int32) (v4 : Option Nat) (v5 : Option Nat) (v6 : Option Nat) (v7 : Int32) (v8 : Int32) (v9 : Int32) (s0 : Int32) (k n : Nat), Sm_ l g E 13 (xe_ en_i) (fX1_searchByWalk_b180 (gE_ g) N k42 m v3 v4 v5 v6 v7 v8 v9 s0) k n 180 [(3, vi_ v3), (4, vr_ v4), (5, vr_ v5), (6, vr_ v6), (7, vi_ v7), (8, vi_ v8), (9, vi_ v9)] [vi_ s0] m := by
  intro m v3 v4 v5 v6 v7 v8 v9 s0 k n
  unfold fX1_searchByWalk_b180
  refine s_istore C (Nat.le_of_ble_eq_true rfl) [0, 1, 2, 3, 4, 5, 6] rfl rfl dX1_searchByWalk_180 182 rfl ?_
  refine Sm_sub [1, 2, 3, 4, 5, 6, 7, 0] rfl ?_
  exact wX1_searchByWalk_b182 C hret h0 hin N hk42 N _ _ _ _ _ _ _ _ _ _ _
theorem wX1_searchByWalk_b161 {l : Launch} {g : GG} {E : Me_} (C : Cx_ l g E "MasterTree" cX1_searchByWalk 13 35) (hret : (eT_ E).sig.returnType = (Option.some Jvm.ClassFile.FieldType.int)) (h0 : ∀ x ∈ (eC_ E).exceptionTable.toList, False) (hin : (eT_ E).name = "searchByWalk") (N : Nat) {k42 : Mm → Int32 → Option Nat → Option Nat → Option Nat → Int32 → Int32 → Rs (Int32 ⊕ Nat)} (hk42 : ∀ (m : Mm) (v3 : Int32) (v4 : Option Nat) (v5 : Option Nat) (v6 : Option Nat) (v7 : Int32) (v8 : Int32) (k n : Nat), Sm_ l g E 13 (xe_ en_i) (k42 m v3 v4 v5 v6 v7 v8) k n 42 [(3, vi_ v3), (4, vr_ v4), (5, vr_ v5), (6, vr_ v6), (7, vi_ v7), (8, vi_ v8)] [] m) : ∀ (m : Mm) (v3 : Int32) (v4 : Option Nat) (v5 : Option Nat) (v6 : Option Nat) (v7 : Int32) (v8 : Int32) (v9 : Int32) (s0 : Int32) (k n : Nat), Sm_ l g E 13 (xe_ en_i) (fX1_searchByWalk_b161 (gE_ g) N k42 m v3 v4 v5 v6 v7 v8 v9 s0) k n 161 [(3, vi_ v3), (4, vr_ v4), (5, vr_ v5), (6, vr_ v6), (7, vi_ v7), (8, vi_ v8), (9, vi_ v9)] [vi_ s0] m := by
  intro m v3 v4 v5 v6 v7 v8 v9 s0 k n
  unfold fX1_searchByWalk_b161
  refine s_istore C (Nat.le_of_ble_eq_true rfl) [0, 1, 2, 3, 4, 5, 6] rfl rfl dX1_searchByWalk_161 163 rfl ?_
  refine s_iload C 0 rfl dX1_searchByWalk_163 165 rfl ?_
  refine s_if_eq C dX1_searchByWalk_165 179 rfl 168 rfl (fun c_ => ?_) (fun c_ => ?_)
  · refine s_iconst C (-1) rfl dX1_searchByWalk_179 180 rfl ?_
    refine Sm_sub [1, 2, 3, 4, 5, 6, 7] rfl ?_
    exact wX1_searchByWalk_b180 C hret h0 hin N hk42 _ _ _ _ _ _ _ _ _ _ _
  · refine s_aload C 2 rfl dX1_searchByWalk_168 170 rfl ?_
    refine s_iload C 7 rfl dX1_searchByWalk_170 172 rfl ?_
    refine s_iconst C (-1) rfl dX1_searchByWalk_172 173 rfl ?_
    refine x_ck (fun hb_ hb0_ => ?_)
    refine x_callV (enc := en_i) C 16 2 [vi_ v9, vi_ (-1)] 2 (ctX2_next C.2.2.2.2.2.2.2.2.1 N m v4 v9 (-1)) hb_ hb0_ rfl rfl q2480 q2481 q2482 q85 q2483 hdX2_next (Nat.le_of_ble_eq_true rfl) (Nat.le_of_ble_eq_true rfl) rfl (Nat.le_of_ble_eq_true rfl) dX1_searchByWalk_173 176 rfl rfl hen_i (kk_i (fun x1 m1 k1 n1 => ?_)) (kx_n he_i)
    refine s_goto C (off := 4) 180 dX1_searchByWalk_176 rfl ?_
    refine Sm_sub [1, 2, 3, 4, 5, 6, 7] rfl ?_
    exact wX1_searchByWalk_b180 C hret h0 hin N hk42 _ _ _ _ _ _ _ _ _ _ _
theorem wX1_searchByWalk_b156 {l : Launch} {g : GG} {E : Me_} (C : Cx_ l g E "MasterTree" cX1_searchByWalk 13 35) (hret : (eT_ E).sig.returnType = (Option.some Jvm.ClassFile.FieldType.int)) (h0 : ∀ x ∈ (eC_ E).exceptionTable.toList, False) (hin : (eT_ E).name = "searchByWalk") (N : Nat) {k42 : Mm → Int32 → Option Nat → Option Nat → Option Nat → Int32 → Int32 → Rs (Int32 ⊕ Nat)} (hk42 : ∀ (m : Mm) (v3 : Int32) (v4 : Option Nat) (v5 : Option Nat) (v6 : Option Nat) (v7 : Int32) (v8 : Int32) (k n : Nat), Sm_ l g E 13 (xe_ en_i) (k42 m v3 v4 v5 v6 v7 v8) k n 42 [(3, vi_ v3), (4, vr_ v4), (5, vr_ v5), (6, vr_ v6), (7, vi_ v7), (8, vi_ v8)] [] m) : ∀ (m : Mm) (v3 : Int32) (v4 : Option Nat) (v5 : Option Nat) (v6 : Option Nat) (v7 : Int32) (v8 : Int32) (v9 : Int32) (k n : Nat), Sm_ l g E 13 (xe_ en_i) (fX1_searchByWalk_b156 (gE_ g) N k42 m v3 v4 v5 v6 v7 v8 v9) k n 156 [(3, vi_ v3), (4, vr_ v4), (5, vr_ v5), (6, vr_ v6), (7, vi_ v7), (8, vi_ v8), (9, vi_ v9)] [] m := by
  intro m v3 v4 v5 v6 v7 v8 v9 k n
  unfold fX1_searchByWalk_b156
  refine s_iconst C 1 rfl dX1_searchByWalk_156 157 rfl ?_
  refine s_goto C (off := 4) 161 dX1_searchByWalk_157 rfl ?_
  exact wX1_searchByWalk_b161 C hret h0 hin N hk42 _ _ _ _ _ _ _ _ _ _ _
theorem wX1_searchByWalk_b160 {l : Launch} {g : GG} {E : Me_} (C : Cx_ l g E "MasterTree" cX1_searchByWalk 13 35) (hret : (eT_ E).sig.returnType = (Option.some Jvm.ClassFile.FieldType.int)) (h0 : ∀ x ∈ (eC_ E).exceptionTable.toList, False) (hin : (eT_ E).name = "searchByWalk") (N : Nat) {k42 : Mm → Int32 → Option Nat → Option Nat → Option Nat → Int32 → Int32 → Rs (Int32 ⊕ Nat)} (hk42 : ∀ (m : Mm) (v3 : Int32) (v4 : Option Nat) (v5 : Option Nat) (v6 : Option Nat) (v7 : Int32) (v8 : Int32) (k n : Nat), Sm_ l g E 13 (xe_ en_i) (k42 m v3 v4 v5 v6 v7 v8) k n 42 [(3, vi_ v3), (4, vr_ v4), (5, vr_ v5), (6, vr_ v6), (7, vi_ v7), (8, vi_ v8)] [] m) : ∀ (m : Mm) (v3 : Int32) (v4 : Option Nat) (v5 : Option Nat) (v6 : Option Nat) (v7 : Int32) (v8 : Int32) (v9 : Int32) (k n : Nat), Sm_ l g E 13 (xe_ en_i) (fX1_searchByWalk_b160 (gE_ g) N k42 m v3 v4 v5 v6 v7 v8 v9) k n 160 [(3, vi_ v3), (4, vr_ v4), (5, vr_ v5), (6, vr_ v6), (7, vi_ v7), (8, vi_ v8), (9, vi_ v9)] [] m := by
  intro m v3 v4 v5 v6 v7 v8 v9 k n
  unfold fX1_searchByWalk_b160
  refine s_iconst C 0 rfl dX1_searchByWalk_160 161 rfl ?_
  exact wX1_searchByWalk_b161 C hret h0 hin N hk42 _ _ _ _ _ _ _ _ _ _ _
theorem wX1_searchByWalk_b138 {l : Launch} {g : GG} {E : Me_} (C : Cx_ l g E "MasterTree" cX1_searchByWalk 13 35) (hret : (eT_ E).sig.returnType = (Option.some Jvm.ClassFile.FieldType.int)) (h0 : ∀ x ∈ (eC_ E).exceptionTable.toList, False) (hin : (eT_ E).name = "searchByWalk") (N : Nat) {k42 : Mm → Int32 → Option Nat → Option Nat → Option Nat → Int32 → Int32 → Rs (Int32 ⊕ Nat)} (hk42 : ∀ (m : Mm) (v3 : Int32) (v4 : Option Nat) (v5 : Option Nat) (v6 : Option Nat) (v7 : Int32) (v8 : Int32) (k n : Nat), Sm_ l g E 13 (xe_ en_i) (k42 m v3 v4 v5 v6 v7 v8) k n 42 [(3, vi_ v3), (4, vr_ v4), (5, vr_ v5), (6, vr_ v6), (7, vi_ v7), (8, vi_ v8)] [] m) : ∀ (m : Mm) (v3 : Int32) (v4 : Option Nat) (v5 : Option Nat) (v6 : Option Nat) (v8 : Int32) (v9 : Int32) (s0 : Int32) (s1 : Int32) (k n : Nat), Sm_ l g E 13 (xe_ en_i) (fX1_searchByWalk_b138 (gE_ g) N k42 m v3 v4 v5 v6 v8 v9 s0 s1) k n 138 [(3, vi_ v3), (4, vr_ v4), (5, vr_ v5), (6, vr_ v6), (8, vi_ v8), (9, vi_ v9)] [vi_ s1, vi_ s0] m := by
  intro m v3 v4 v5 v6 v8 v9 s0 s1 k n
  unfold fX1_searchByWalk_b138
  refine s_iadd C dX1_searchByWalk_138 139 rfl ?_
  refine s_istore C (Nat.le_of_ble_eq_true rfl) [0, 1, 2, 3, 4, 5] rfl rfl dX1_searchByWalk_139 141 rfl ?_
  refine s_iload_n C rfl 1 rfl dX1_searchByWalk_141 142 rfl ?_
  refine s_iconst C 2 rfl dX1_searchByWalk_142 143 rfl ?_
  refine s_icmp_eq C dX1_searchByWalk_143 156 rfl 146 rfl (fun c_ => ?_) (fun c_ => ?_)
  · refine Sm_sub [1, 2, 3, 4, 0, 5, 6] rfl ?_
    exact wX1_searchByWalk_b156 C hret h0 hin N hk42 _ _ _ _ _ _ _ _ _ _
  · refine s_iload_n C rfl 1 rfl dX1_searchByWalk_146 147 rfl ?_
    refine s_iconst C 1 rfl dX1_searchByWalk_147 148 rfl ?_
    refine s_icmp_ne C dX1_searchByWalk_148 160 rfl 151 rfl (fun c_ => ?_) (fun c_ => ?_)
    · refine s_iload C 5 rfl dX1_searchByWalk_151 153 rfl ?_
      refine s_if_ne C dX1_searchByWalk_153 160 rfl 156 rfl (fun c_ => ?_) (fun c_ => ?_)
      · refine Sm_sub [1, 2, 3, 4, 0, 5, 6] rfl ?_
        exact wX1_searchByWalk_b156 C hret h0 hin N hk42 _ _ _ _ _ _ _ _ _ _
      · refine Sm_sub [1, 2, 3, 4, 0, 5, 6] rfl ?_
        exact wX1_searchByWalk_b160 C hret h0 hin N hk42 _ _ _ _ _ _ _ _ _ _
    · refine Sm_sub [1, 2, 3, 4, 0, 5, 6] rfl ?_
      exact wX1_searchByWalk_b160 C hret h0 hin N hk42 _ _ _ _ _ _ _ _ _ _
theorem wX1_searchByWalk_b137 {l : Launch} {g : GG} {E : Me_} (C : Cx_ l g E "MasterTree" cX1_searchByWalk 13 35) (hret : (eT_ E).sig.returnType = (Option.some Jvm.ClassFile.FieldType.int)) (h0 : ∀ x ∈ (eC_ E).exceptionTable.toList, False) (hin : (eT_ E).name = "searchByWalk") (N : Nat) {k42 : Mm → Int32 → Option Nat → Option Nat → Option Nat → Int32 → Int32 → Rs (Int32 ⊕ Nat)} (hk42 : ∀ (m : Mm) (v3 : Int32) (v4 : Option Nat) (v5 : Option Nat) (v6 : Option Nat) (v7 : Int32) (v8 : Int32) (k n : Nat), Sm_ l g E 13 (xe_ en_i) (k42 m v3 v4 v5 v6 v7 v8) k n 42 [(3, vi_ v3), (4, vr_ v4), (5, vr_ v5), (6, vr_ v6), (7, vi_ v7), (8, vi_ v8)] [] m) : ∀ (m : Mm) (v3 : Int32) (v4 : Option Nat) (v5 : Option Nat) (v6 : Option Nat) (v8 : Int32) (v9 : Int32) (s0 : Int32) (k n : Nat), Sm_ l g E 13 (xe_ en_i) (fX1_searchByWalk_b137 (gE_ g) N k42 m v3 v4 v5 v6 v8 v9 s0) k n 137 [(3, vi_ v3), (4, vr_ v4), (5, vr_ v5), (6, vr_ v6), (8, vi_ v8), (9, vi_ v9)] [vi_ s0] m := by
  intro m v3 v4 v5 v6 v8 v9 s0 k n
  unfold fX1_searchByWalk_b137
  refine s_iconst C 0 rfl dX1_searchByWalk_137 138 rfl ?_
  exact wX1_searchByWalk_b138 C hret h0 hin N hk42 _ _ _ _ _ _ _ _ _ _ _
theorem wX1_searchByWalk_b90 {l : Launch} {g : GG} {E : Me_} (C : Cx_ l g E "MasterTree" cX1_searchByWalk 13 35) (hret : (eT_ E).sig.returnType = (Option.some Jvm.ClassFile.FieldType.int)) (h0 : ∀ x ∈ (eC_ E).exceptionTable.toList, False) (hin : (eT_ E).name = "searchByWalk") (N : Nat) {k42 : Mm → Int32 → Option Nat → Option Nat → Option Nat → Int32 → Int32 → Rs (Int32 ⊕ Nat)} (hk42 : ∀ (m : Mm) (v3 : Int32) (v4 : Option Nat) (v5 : Option Nat) (v6 : Option Nat) (v7 : Int32) (v8 : Int32) (k n : Nat), Sm_ l g E 13 (xe_ en_i) (k42 m v3 v4 v5 v6 v7 v8) k n 42 [(3, vi_ v3), (4, vr_ v4), (5, vr_ v5), (6, vr_ v6), (7, vi_ v7), (8, vi_ v8)] [] m) : ∀ (m : Mm) (v3 : Int32) (v4 : Option Nat) (v5 : Option Nat) (v6 : Option Nat) (v7 : Int32) (v8 : Int32) (v9 : Int32) (s0 : Int32) (k n : Nat), Sm_ l g E 13 (xe_ en_i) (fX1_searchByWalk_b90 (gE_ g) N k42 m v3 v4 v5 v6 v7 v8 v9 s0) k n 90 [(3, vi_ v3), (4, vr_ v4), (5, vr_ v5), (6, vr_ v6), (7, vi_ v7), (8, vi_ v8), (9, vi_ v9)] [vi_ s0] m := by
  intro m v3 v4 v5 v6 v7 v8 v9 s0 k n
  unfold fX1_searchByWalk_b90
  refine s_istore C (Nat.le_of_ble_eq_true rfl) [0, 1, 2, 3, 4, 5, 6] rfl rfl dX1_searchByWalk_90 92 rfl ?_
  refine s_iload C 5 rfl dX1_searchByWalk_92 94 rfl ?_
  refine s_iload C 0 rfl dX1_searchByWalk_94 96 rfl ?_
  refine s_if_eq C dX1_searchByWalk_96 137 rfl 99 rfl (fun c_ => ?_) (fun c_ => ?_)
  · refine Sm_sub [1, 2, 3, 4, 6, 7] rfl ?_
    exact wX1_searchByWalk_b137 C hret h0 hin N hk42 _ _ _ _ _ _ _ _ _ _
  · refine s_aload C 3 rfl dX1_searchByWalk_99 101 rfl ?_
    refine s_aload C 2 rfl dX1_searchByWalk_101 103 rfl ?_
    refine s_aload C 2 rfl dX1_searchByWalk_103 105 rfl ?_
    refine x_grN C 1 (RX2, TX2, 12) rfl 6 (Nat.le_of_ble_eq_true rfl) q309 rfl rfl 2 rfl dX1_searchByWalk_105 108 rfl (fun x1 => ?_)
    refine s_iload C 7 rfl dX1_searchByWalk_108 110 rfl ?_
    refine x_ar C 5 (.object "MasterTree$Entry") rfl rfl rfl 205 rfl dX1_searchByWalk_110 111 rfl (fun x2 => ?_)
    refine x_wi [vi_ v7] 114 (fun kk_ => ?_) (fun x3 m1 k1 n1 => ?_)
    · refine x_csr (kd := 8) (fun hb_ hb0_ => ?_) ?_
      · exact x_callA (enc := en_i) (owner := "MasterTree$Filter") C 19 2 [vr_ v4, vr_ x2] 8 (ctX9_applies C.2.2.2.2.2.2.2.2.1 N m v5 v4 x2) hb_ hb0_ rfl rfl q2795 q2797 q2801 q2802 q139 q2803 q2796 ⟨by decide +kernel, by decide +kernel, by decide +kernel⟩ (Nat.le_of_ble_eq_true rfl) (Nat.le_of_ble_eq_true rfl) rfl (Nat.le_of_ble_eq_true rfl) dX1_searchByWalk_111 114 rfl rfl hen_i (kk_i kk_) (kx_n he_i)
      refine x_csr (kd := 9) (fun hb_ hb0_ => ?_) ?_
      · exact x_callA (enc := en_i) (owner := "MasterTree$Filter") C 13 2 [vr_ v4, vr_ x2] 9 (ctX10_applies C.2.2.2.2.2.2.2.2.1 N m v5 v4 x2) hb_ hb0_ rfl rfl q2795 q2797 q2798 q2799 q140 q2800 q2796 ⟨by decide +kernel, by decide +kernel, by decide +kernel⟩ (Nat.le_of_ble_eq_true rfl) (Nat.le_of_ble_eq_true rfl) rfl (Nat.le_of_ble_eq_true rfl) dX1_searchByWalk_111 114 rfl rfl hen_i (kk_i kk_) (kx_n he_i)
      refine x_csr (kd := 10) (fun hb_ hb0_ => ?_) ?_
      · exact x_callA (enc := en_i) (owner := "MasterTree$Filter") C 34 2 [vr_ v4, vr_ x2] 10 (ctX11_applies_d14 C.2.2.2.2.2.2.2.2.1 N m v5 v4 x2) hb_ hb0_ rfl rfl q2795 q2797 q2828 q2829 q141 q2830 q2796 ⟨by decide +kernel, by decide +kernel, by decide +kernel⟩ (Nat.le_of_ble_eq_true rfl) (Nat.le_of_ble_eq_true rfl) rfl (Nat.le_of_ble_eq_true rfl) dX1_searchByWalk_111 114 rfl rfl hen_i (kk_i kk_) (kx_n he_i)
      refine x_csr (kd := 11) (fun hb_ hb0_ => ?_) ?_
      · exact x_callA (enc := en_i) (owner := "MasterTree$Filter") C 34 2 [vr_ v4, vr_ x2] 11 (ctX12_applies_d14 C.2.2.2.2.2.2.2.2.1 N m v5 v4 x2) hb_ hb0_ rfl rfl q2795 q2797 q2835 q2832 q142 q2833 q2796 ⟨by decide +kernel, by decide +kernel, by decide +kernel⟩ (Nat.le_of_ble_eq_true rfl) (Nat.le_of_ble_eq_true rfl) rfl (Nat.le_of_ble_eq_true rfl) dX1_searchByWalk_111 114 rfl rfl hen_i (kk_i kk_) (kx_n he_i)
      exact Sm_bn
    refine s_if_eq C dX1_searchByWalk_114 137 rfl 117 rfl (fun c_ => ?_) (fun c_ => ?_)
    · refine Sm_sub [1, 2, 3, 4, 6, 7] rfl ?_
      exact wX1_searchByWalk_b137 C hret h0 hin N hk42 _ _ _ _ _ _ _ _ _ _
    · refine s_aload C 2 rfl dX1_searchByWalk_117 119 rfl ?_
      refine s_aload C 2 rfl dX1_searchByWalk_119 121 rfl ?_
      refine x_giN C 1 (RX2, TX2, 12) rfl 3 (Nat.le_of_ble_eq_true rfl) q302 rfl rfl 2 rfl dX1_searchByWalk_121 124 rfl (fun x8 => ?_)
      refine s_iload C 7 rfl dX1_searchByWalk_124 126 rfl ?_
      refine s_iconst C 0 rfl dX1_searchByWalk_126 127 rfl ?_
      refine x_ck (fun hb_ hb0_ => ?_)
      refine x_callV (enc := en_i) C 18 3 [vi_ x8, vi_ v9, vi_ 0] 2 (ctX2_may C.2.2.2.2.2.2.2.2.1 N m1 v4 x8 v9 0) hb_ hb0_ rfl rfl q986 q987 q988 q85 q989 hdX2_may (Nat.le_of_ble_eq_true rfl) (Nat.le_of_ble_eq_true rfl) rfl (Nat.le_of_ble_eq_true rfl) dX1_searchByWalk_127 130 rfl rfl hen_i (kk_i (fun x9 m6 k1 n1 => ?_)) (kx_n he_i)
      refine s_if_eq C dX1_searchByWalk_130 137 rfl 133 rfl (fun c_ => ?_) (fun c_ => ?_)
      · refine Sm_sub [1, 2, 3, 4, 6, 7] rfl ?_
        exact wX1_searchByWalk_b137 C hret h0 hin N hk42 _ _ _ _ _ _ _ _ _ _
      · refine s_iconst C 1 rfl dX1_searchByWalk_133 134 rfl ?_
        refine s_goto C (off := 4) 138 dX1_searchByWalk_134 rfl ?_
        refine Sm_sub [1, 2, 3, 4, 6, 7] rfl ?_
        exact wX1_searchByWalk_b138 C hret h0 hin N hk42 _ _ _ _ _ _ _ _ _ _ _
theorem wX1_searchByWalk_b85 {l : Launch} {g : GG} {E : Me_} (C : Cx_ l g E "MasterTree" cX1_searchByWalk 13 35) (hret : (eT_ E).sig.returnType = (Option.some Jvm.ClassFile.FieldType.int)) (h0 : ∀ x ∈ (eC_ E).exceptionTable.toList, False) (hin : (eT_ E).name = "searchByWalk") (N : Nat) {k42 : Mm → Int32 → Option Nat → Option Nat → Option Nat → Int32 → Int32 → Rs (Int32 ⊕ Nat)} (hk42 : ∀ (m : Mm) (v3 : Int32) (v4 : Option Nat) (v5 : Option Nat) (v6 : Option Nat) (v7 : Int32) (v8 : Int32) (k n : Nat), Sm_ l g E 13 (xe_ en_i) (k42 m v3 v4 v5 v6 v7 v8) k n 42 [(3, vi_ v3), (4, vr_ v4), (5, vr_ v5), (6, vr_ v6), (7, vi_ v7), (8, vi_ v8)] [] m) : ∀ (m : Mm) (v3 : Int32) (v4 : Option Nat) (v5 : Option Nat) (v6 : Option Nat) (v7 : Int32) (v8 : Int32) (v9 : Int32) (k n : Nat), Sm_ l g E 13 (xe_ en_i) (fX1_searchByWalk_b85 (gE_ g) N k42 m v3 v4 v5 v6 v7 v8 v9) k n 85 [(3, vi_ v3), (4, vr_ v4), (5, vr_ v5), (6, vr_ v6), (7, vi_ v7), (8, vi_ v8), (9, vi_ v9)] [] m := by
  intro m v3 v4 v5 v6 v7 v8 v9 k n
  unfold fX1_searchByWalk_b85
  refine s_iconst C 1 rfl dX1_searchByWalk_85 86 rfl ?_
  refine s_goto C (off := 4) 90 dX1_searchByWalk_86 rfl ?_
  exact wX1_searchByWalk_b90 C hret h0 hin N hk42 _ _ _ _ _ _ _ _ _ _ _
theorem wX1_searchByWalk_b42 {l : Launch} {g : GG} {E : Me_} (C : Cx_ l g E "MasterTree" cX1_searchByWalk 13 35) (hret : (eT_ E).sig.returnType = (Option.some Jvm.ClassFile.FieldType.int)) (h0 : ∀ x ∈ (eC_ E).exceptionTable.toList, False) (hin : (eT_ E).name = "searchByWalk") (N : Nat) : ∀ (F : Nat) (m : Mm) (v3 : Int32) (v4 : Option Nat) (v5 : Option Nat) (v6 : Option Nat) (v7 : Int32) (v8 : Int32) (k n : Nat), Sm_ l g E 13 (xe_ en_i) (fX1_searchByWalk_b42 (gE_ g) N F m v3 v4 v5 v6 v7 v8) k n 42 [(3, vi_ v3), (4, vr_ v4), (5, vr_ v5), (6, vr_ v6), (7, vi_ v7), (8, vi_ v8)] [] m := by
  intro F
  induction F with
  | zero => intros; exact Sm_none
  | succ F ih =>
    intro m v3 v4 v5 v6 v7 v8 k n
    unfold fX1_searchByWalk_b42
    refine s_iload C 5 rfl dX1_searchByWalk_42 44 rfl ?_
    refine s_aload C 3 rfl dX1_searchByWalk_44 46 rfl ?_
    refine x_ck (fun hb_ hb0_ => ?_)
    refine x_callF (enc := en_i) C 10 0 [] 13 (ctJ2_size C.2.2.2.2.2.2.2.2.1 N m v6) hb_ hb0_ rfl rfl rfl fw_1 q480 q483 q485 q84 q487 hx1 (Nat.le_of_ble_eq_true rfl) (Nat.le_of_ble_eq_true rfl) rfl (Nat.le_of_ble_eq_true rfl) dX1_searchByWalk_46 51 rfl rfl hen_i (kk_i (fun x1 m1 k1 n1 => ?_)) (kx_n he_i)
    refine s_icmp_ge C dX1_searchByWalk_51 226 rfl 54 rfl (fun c_ => ?_) (fun c_ => ?_)
    · refine s_aload C 3 rfl dX1_searchByWalk_54 56 rfl ?_
      refine s_iload C 5 rfl dX1_searchByWalk_56 58 rfl ?_
      refine x_ck (fun hb_ hb0_ => ?_)
      refine x_callF (enc := en_r) C 12 1 [vi_ v8] 13 (ctJ2_get C.2.2.2.2.2.2.2.2.1 N m1 v6 v8) hb_ hb0_ rfl rfl rfl fw_3 q888 q891 q893 q84 q895 hx2 (Nat.le_of_ble_eq_true rfl) (Nat.le_of_ble_eq_true rfl) rfl (Nat.le_of_ble_eq_true rfl) dX1_searchByWalk_58 63 rfl rfl hen_r (kk_r (fun x2 m2 k1 n1 => ?_)) (kx_n he_r)
      refine x_cc C "java/lang/Integer" [27] (fun k hk => by rw [List.mem_singleton.mp hk]; exact ⟨rfl, Or.inr rfl⟩) q2793 dX1_searchByWalk_63 66 rfl ?_
      refine x_ck (fun hb_ hb0_ => ?_)
      refine x_callV (enc := en_i) C 10 0 [] 27 (ctJ21_intValue C.2.2.2.2.2.2.2.2.1 N m2 x2) hb_ hb0_ rfl rfl q2794 q1585 q1586 q108 q1587 hdJ21_intValue (Nat.le_of_ble_eq_true rfl) (Nat.le_of_ble_eq_true rfl) rfl (Nat.le_of_ble_eq_true rfl) dX1_searchByWalk_66 69 rfl rfl hen_i (kk_i (fun x3 m3 k1 n1 => ?_)) (kx_n he_i)
      refine s_istore C (Nat.le_of_ble_eq_true rfl) [0, 1, 2, 3, 4, 5] rfl rfl dX1_searchByWalk_69 71 rfl ?_
      refine s_iload_n C rfl 1 rfl dX1_searchByWalk_71 72 rfl ?_
      refine s_iconst C 2 rfl dX1_searchByWalk_72 73 rfl ?_
      refine s_icmp_eq C dX1_searchByWalk_73 85 rfl 76 rfl (fun c_ => ?_) (fun c_ => ?_)
      · refine Sm_sub [1, 2, 3, 4, 5, 6, 0] rfl ?_
        exact wX1_searchByWalk_b85 C hret h0 hin N (fun m v3 v4 v5 v6 v7 v8 k n => ih m v3 v4 v5 v6 v7 v8 k n) _ _ _ _ _ _ _ _ _ _
      · refine s_iload_n C rfl 1 rfl dX1_searchByWalk_76 77 rfl ?_
        refine s_if_eq C dX1_searchByWalk_77 85 rfl 80 rfl (fun c_ => ?_) (fun c_ => ?_)
        · refine Sm_sub [1, 2, 3, 4, 5, 6, 0] rfl ?_
          exact wX1_searchByWalk_b85 C hret h0 hin N (fun m v3 v4 v5 v6 v7 v8 k n => ih m v3 v4 v5 v6 v7 v8 k n) _ _ _ _ _ _ _ _ _ _
        · refine s_iload C 6 rfl dX1_searchByWalk_80 82 rfl ?_
          refine s_if_le C dX1_searchByWalk_82 89 rfl 85 rfl (fun c_ => ?_) (fun c_ => ?_)
          · refine Sm_sub [1, 2, 3, 4, 5, 6, 0] rfl ?_
            exact wX1_searchByWalk_b85 C hret h0 hin N (fun m v3 v4 v5 v6 v7 v8 k n => ih m v3 v4 v5 v6 v7 v8 k n) _ _ _ _ _ _ _ _ _ _
          · refine s_iconst C 0 rfl dX1_searchByWalk_89 90 rfl ?_
            refine Sm_sub [1, 2, 3, 4, 5, 6, 0] rfl ?_
            exact wX1_searchByWalk_b90 C hret h0 hin N (fun m v3 v4 v5 v6 v7 v8 k n => ih m v3 v4 v5 v6 v7 v8 k n) _ _ _ _ _ _ _ _ _ _ _
    · refine s_iload C 4 rfl dX1_searchByWalk_226 228 rfl ?_
      exact x_iret C hret rfl dX1_searchByWalk_228
theorem wX1_searchByWalk {l : Launch} {g : GG} {E : Me_} (C : Cx_ l g E "MasterTree" cX1_searchByWalk 13 35) (hret : (eT_ E).sig.returnType = (Option.some Jvm.ClassFile.FieldType.int)) (h0 : ∀ x ∈ (eC_ E).exceptionTable.toList, False) (hin : (eT_ E).name = "searchByWalk") (N : Nat) : ∀ (m : Mm) (v0 : Option Nat) (v1 : Int32) (v2 : Int32) (v3 : Int32) (k n : Nat), Sm_ l g E 13 (xe_ en_i) (fX1_searchByWalk (gE_ g) N m v0 v1 v2 v3) k n 0 [(0, vr_ v0), (1, vi_ v1), (2, vi_ v2), (3, vi_ v3)] [] m := by
  intro m v0 v1 v2 v3 k n
  unfold fX1_searchByWalk
  refine s_aload_n C rfl 0 rfl dX1_searchByWalk_0 1 rfl ?_
  refine s_iload_n C rfl 1 rfl dX1_searchByWalk_1 2 rfl ?_
  refine s_iload_n C rfl 2 rfl dX1_searchByWalk_2 3 rfl ?_
  refine s_iload_n C rfl 3 rfl dX1_searchByWalk_3 4 rfl ?_
  refine x_ck (fun hb_ hb0_ => ?_)
  refine x_callV (enc := (xe_ en_r)) C 18 3 [vi_ v1, vi_ v2, vi_ v3] 1 (ctX1_searched C.2.2.2.2.2.2.2.2.1 N m v0 v1 v2 v3) hb_ hb0_ rfl rfl q2677 q2679 qs28 q81 q2680 hdX1_searched (Nat.le_of_ble_eq_true rfl) (Nat.le_of_ble_eq_true rfl) rfl (Nat.le_of_ble_eq_true rfl) dX1_searchByWalk_4 7 rfl rfl (hen_x hen_r) (kk_x (kk_r (fun x1 m1 k1 n1 => ?_))) (kx_x C h0 he_r)
  refine s_astore C (Nat.le_of_ble_eq_true rfl) [0, 2, 3] rfl rfl dX1_searchByWalk_7 9 rfl ?_
  refine s_aload_n C rfl 1 rfl dX1_searchByWalk_9 10 rfl ?_
  refine x_ck (fun hb_ hb0_ => ?_)
  refine x_callV (enc := (xe_ en_r)) C 13 0 [] 1 (ctX1_filter C.2.2.2.2.2.2.2.2.1 N m1 v0) hb_ hb0_ rfl rfl q2681 q2683 qs29 q81 q2684 hdX1_filter (Nat.le_of_ble_eq_true rfl) (Nat.le_of_ble_eq_true rfl) rfl (Nat.le_of_ble_eq_true rfl) dX1_searchByWalk_10 13 rfl rfl (hen_x hen_r) (kk_x (kk_r (fun x2 m2 k1 n1 => ?_))) (kx_x C h0 he_r)
  refine s_astore C (Nat.le_of_ble_eq_true rfl) [0, 2, 3] rfl rfl dX1_searchByWalk_13 15 rfl ?_
  refine x_nw C 12 (RJ2, TJ2, 3) rfl q154 q155 q84 13 3 rfl rfl dX1_searchByWalk_15 18 rfl (fun x3 m3 => ?_)
  refine s_dup C rfl dX1_searchByWalk_18 19 rfl ?_
  refine x_callI (enc := en_v) C 12 0 [] (ctJ2_init C.2.2.2.2.2.2.2.2.1 N m3 (some x3)) (fun h => by cases h) rfl q156 q157 q84 q158 rfl hdJ2_init (Nat.le_of_ble_eq_true rfl) (Nat.le_of_ble_eq_true rfl) rfl (Nat.le_of_ble_eq_true rfl) dX1_searchByWalk_19 22 rfl rfl hen_v (kk_v (fun m4 k1 n1 => ?_)) (kx_n he_v)
  refine s_astore C (Nat.le_of_ble_eq_true rfl) [0, 1, 2, 3] rfl rfl dX1_searchByWalk_22 24 rfl ?_
  refine s_iconst C 0 rfl dX1_searchByWalk_24 25 rfl ?_
  refine s_istore C (Nat.le_of_ble_eq_true rfl) [0, 1, 2, 3, 4] rfl rfl dX1_searchByWalk_25 27 rfl ?_
  refine s_aload C 1 rfl dX1_searchByWalk_27 29 rfl ?_
  refine s_iload_n C rfl 4 rfl dX1_searchByWalk_29 30 rfl ?_
  refine x_callS (enc := en_r) C 12 1 [vi_ v2] (ctJ21_valueOf C.2.2.2.2.2.2.2.2.1 N m4 v2) q2785 q1620 q108 q1621 hdJ21_valueOf (Nat.le_of_ble_eq_true rfl) (Nat.le_of_ble_eq_true rfl) rfl (Nat.le_of_ble_eq_true rfl) dX1_searchByWalk_30 33 rfl rfl hen_r (kk_r (fun x4 m5 k1 n1 => ?_)) (kx_n he_r)
  refine x_ck (fun hb_ hb0_ => ?_)
  refine x_callF (enc := en_i) C 15 1 [vr_ x4] 13 (ctJ2_add C.2.2.2.2.2.2.2.2.1 N m5 (some x3) x4) hb_ hb0_ rfl rfl rfl fw_0 q346 q350 q352 q84 q354 hx0 (Nat.le_of_ble_eq_true rfl) (Nat.le_of_ble_eq_true rfl) rfl (Nat.le_of_ble_eq_true rfl) dX1_searchByWalk_33 38 rfl rfl hen_i (kk_i (fun x5 m6 k1 n1 => ?_)) (kx_n he_i)
  refine s_pop C rfl dX1_searchByWalk_38 39 rfl ?_
  refine s_iconst C 0 rfl dX1_searchByWalk_39 40 rfl ?_
  refine s_istore C (Nat.le_of_ble_eq_true rfl) [0, 1, 2, 3, 5] rfl rfl dX1_searchByWalk_40 42 rfl ?_
  refine Sm_sub [5, 4, 3, 2, 1, 0] rfl ?_
  exact wX1_searchByWalk_b42 C hret h0 hin N N _ _ _ _ _ _ _ _ _
theorem hdX1_searchByWalk : ((⟨"MasterTree", "searchByWalk", "(III)I"⟩ : MethodName)).cls ≠ "java/lang/invoke/MethodHandle" ∧ ((⟨"MasterTree", "searchByWalk", "(III)I"⟩ : MethodName)).cls ≠ "java/lang/invoke/VarHandle" ∧ (parseMethodDescriptor ((⟨"MasterTree", "searchByWalk", "(III)I"⟩ : MethodName)).desc).map (fun d => d.parameters.length) = some 3 := ⟨by decide +kernel, by decide +kernel, by decide +kernel⟩
theorem ctX1_searchByWalk {l : Launch} {g : GG} (hst : l.stackTraces = false) (N : Nat) (m : Mm) (v0 : Option Nat) (v1 : Int32) (v2 : Int32) (v3 : Int32) : ∀ v m' k n, fX1_searchByWalk (gE_ g) N m v0 v1 v2 v3 = some (v, m', k, n) → Ct_ l g (⟨"MasterTree", "searchByWalk", "(III)I"⟩ : MethodName) (ws_ (⟨"MasterTree", "searchByWalk", "(III)I"⟩ : MethodName) cX1_searchByWalk 13 (Option.some Jvm.ClassFile.FieldType.int)) 35 [vr_ v0, vi_ v1, vi_ v2, vi_ v3] m ((xe_ en_i) v) m' k n :=
  Ct_of (by decide +kernel) rfl hst (Nat.le_of_ble_eq_true rfl) rfl (fun E C hret h0 hin => wX1_searchByWalk C hret h0 hin N m v0 v1 v2 v3 0 0)
theorem wX0_searchByWalk {l : Launch} {g : GG} {E : Me_} (C : Cx_ l g E "MasterTreeLaw" cX0_searchByWalk 6 36) (hret : (eT_ E).sig.returnType = (Option.some Jvm.ClassFile.FieldType.int)) (h0 : (eC_ E).exceptionTable.toList = tableOf [(0, 12, 15, 19), (0, 12, 19, 13)]) (hin : (eT_ E).name = "searchByWalk") (N : Nat) : ∀ (m : Mm) (v0 : Option Nat) (v1 : Int32) (v2 : Int32) (v3 : Int32) (v4 : Option Nat) (k n : Nat), Sm_ l g E 6 en_i (fX0_searchByWalk (gE_ g) N m v0 v1 v2 v3 v4) k n 0 [(0, vr_ v0), (1, vi_ v1), (2, vi_ v2), (3, vi_ v3), (4, vr_ v4)] [] m := by
  intro m v0 v1 v2 v3 v4 k n
  unfold fX0_searchByWalk
  refine s_aload C 4 rfl dX0_searchByWalk_0 2 rfl ?_
  refine s_iconst C 0 rfl dX0_searchByWalk_2 3 rfl ?_
  refine s_aload_n C rfl 0 rfl dX0_searchByWalk_3 4 rfl ?_
  refine s_iload_n C rfl 1 rfl dX0_searchByWalk_4 5 rfl ?_
  refine s_iload_n C rfl 2 rfl dX0_searchByWalk_5 6 rfl ?_
  refine s_iload_n C rfl 3 rfl dX0_searchByWalk_6 7 rfl ?_
  refine x_ck (fun hb_ hb0_ => ?_)
  refine x_callV (enc := (xe_ en_i)) C 35 3 [vi_ v1, vi_ v2, vi_ v3] 1 (ctX1_searchByWalk C.2.2.2.2.2.2.2.2.1 N m v0 v1 v2 v3) hb_ hb0_ rfl rfl q2789 q2790 q2791 q81 q2792 hdX1_searchByWalk (Nat.le_of_ble_eq_true rfl) (Nat.le_of_ble_eq_true rfl) rfl (Nat.le_of_ble_eq_true rfl) dX0_searchByWalk_7 10 rfl rfl (hen_x hen_i) (kk_c (kk_i (fun x1 m1 k1 n1 => ?_))) (kx_c he_i (fun i_ m0 k0 n0 => ?_))
  · refine s_i2l C dX0_searchByWalk_10 11 rfl ?_
    refine x_bj3 C 203 rfl dX0_searchByWalk_11 12 rfl (fun m2 => ?_)
    refine s_goto C (off := 11) 23 dX0_searchByWalk_12 rfl ?_
    refine s_iconst C 0 rfl dX0_searchByWalk_23 24 rfl ?_
    exact x_iret C hret rfl dX0_searchByWalk_24
  · refine Sx_if ?_ ?_
    · refine Sx_ctch C h0 0 [] ({ startPc := 0, endPc := 12, handlerPc := 15, catchType := 19 } : ExceptionTableEntry) [{ startPc := 0, endPc := 12, handlerPc := 19, catchType := 13 }] rfl (fun z hz => by cases hz) (by decide) (by decide) q600 q638 15 rfl (fun q_ => ?_)
      refine s_astore C (Nat.le_of_ble_eq_true rfl) [] rfl rfl dX0_searchByWalk_15 17 rfl ?_
      refine s_iconst C 1 rfl dX0_searchByWalk_17 18 rfl ?_
      exact x_iret C hret rfl dX0_searchByWalk_18
    refine Sx_if ?_ ?_
    · refine Sx_ctch C h0 2 [{ startPc := 0, endPc := 12, handlerPc := 15, catchType := 19 }] ({ startPc := 0, endPc := 12, handlerPc := 19, catchType := 13 } : ExceptionTableEntry) [] rfl (List.forall_mem_cons.mpr ⟨Or.inr ⟨by decide, "java/lang/IndexOutOfBoundsException", q600, List.mem_of_getElem? (i := 4) rfl⟩, fun z hz => by cases hz⟩) (by decide) (by decide) q504 q515 19 rfl (fun q_ => ?_)
      refine s_astore C (Nat.le_of_ble_eq_true rfl) [] rfl rfl dX0_searchByWalk_19 21 rfl ?_
      refine s_iconst C 2 rfl dX0_searchByWalk_21 22 rfl ?_
      exact x_iret C hret rfl dX0_searchByWalk_22
    exact Sx_none
theorem hdX0_searchByWalk : ((⟨"MasterTreeLaw", "searchByWalk", "(LMasterTree;III[J)I"⟩ : MethodName)).cls ≠ "java/lang/invoke/MethodHandle" ∧ ((⟨"MasterTreeLaw", "searchByWalk", "(LMasterTree;III[J)I"⟩ : MethodName)).cls ≠ "java/lang/invoke/VarHandle" ∧ (parseMethodDescriptor ((⟨"MasterTreeLaw", "searchByWalk", "(LMasterTree;III[J)I"⟩ : MethodName)).desc).map (fun d => d.parameters.length) = some 5 := ⟨by decide +kernel, by decide +kernel, by decide +kernel⟩
theorem ctX0_searchByWalk {l : Launch} {g : GG} (hst : l.stackTraces = false) (N : Nat) (m : Mm) (v0 : Option Nat) (v1 : Int32) (v2 : Int32) (v3 : Int32) (v4 : Option Nat) : ∀ v m' k n, fX0_searchByWalk (gE_ g) N m v0 v1 v2 v3 v4 = some (v, m', k, n) → Ct_ l g (⟨"MasterTreeLaw", "searchByWalk", "(LMasterTree;III[J)I"⟩ : MethodName) (wsW_ (⟨"MasterTreeLaw", "searchByWalk", "(LMasterTree;III[J)I"⟩ : MethodName) cX0_searchByWalk 6 (Option.some Jvm.ClassFile.FieldType.int) [(0, 12, 15, 19), (0, 12, 19, 13)]) 36 [vr_ v0, vi_ v1, vi_ v2, vi_ v3, vr_ v4] m (en_i v) m' k n :=
  Ct_ofW (by decide +kernel) rfl hst (Nat.le_of_ble_eq_true rfl) rfl (fun E C hret h0 hin => wX0_searchByWalk C hret h0 hin N m v0 v1 v2 v3 v4 0 0)
theorem wX13_arrives_b134 {l : Launch} {g : GG} {E : Me_} (C : Cx_ l g E "MasterTree$Following" cX13_arrives 8 35) (hret : (eT_ E).sig.returnType = (Option.none : Option Jvm.ClassFile.FieldType)) (h0 : ∀ x ∈ (eC_ E).exceptionTable.toList, False) (hin : (eT_ E).name = "arrives") (N : Nat) : ∀ (F : Nat) (m : Mm) (v0 : Option Nat) (v1 : Option Nat) (v2 : Int32) (v5 : Int32) (v7 : Int32) (k n : Nat), Sm_ l g E 8 en_v (fX13_arrives_b134 (gE_ g) N F m v0 v1 v2 v5 v7) k n 134 [(0, vr_ v0), (1, vr_ v1), (2, vi_ v2), (5, vi_ v5), (7, vi_ v7)] [] m := by
  intro F
  induction F with
  | zero => intros; exact Sm_none
  | succ F ih =>
    intro m v0 v1 v2 v5 v7 k n
    unfold fX13_arrives_b134
    refine s_iload C 4 rfl dX13_arrives_134 136 rfl ?_
    refine s_iconst C (-1) rfl dX13_arrives_136 137 rfl ?_
    refine s_icmp_eq C dX13_arrives_137 182 rfl 140 rfl (fun c_ => ?_) (fun c_ => ?_)
    · exact x_vret C hret rfl dX13_arrives_182
    · refine s_aload_n C rfl 0 rfl dX13_arrives_140 141 rfl ?_
      refine x_gr C 11 (RX13, TX13, 6) rfl 4 (Nat.le_of_ble_eq_true rfl) q2886 (Or.inl rfl) rfl 12 rfl dX13_arrives_141 144 rfl (fun x1 => ?_)
      refine s_iload C 3 rfl dX13_arrives_144 146 rfl ?_
      refine s_iconst C 2 rfl dX13_arrives_146 147 rfl ?_
      refine x_naI C dX13_arrives_147 149 rfl (fun x2 m1 => ?_)
      refine s_dup C rfl dX13_arrives_149 150 rfl ?_
      refine s_iconst C 0 rfl dX13_arrives_150 151 rfl ?_
      refine s_aload_n C rfl 1 rfl dX13_arrives_151 152 rfl ?_
      refine x_giN C 1 (RX2, TX2, 12) rfl 0 (Nat.le_of_ble_eq_true rfl) q296 rfl rfl 2 rfl dX13_arrives_152 155 rfl (fun x3 => ?_)
      refine x_bi0 C 200 rfl dX13_arrives_155 156 rfl (fun m2 => ?_)
      refine s_dup C rfl dX13_arrives_156 157 rfl ?_
      refine s_iconst C 1 rfl dX13_arrives_157 158 rfl ?_
      refine s_iload C 4 rfl dX13_arrives_158 160 rfl ?_
      refine x_bi0 C 200 rfl dX13_arrives_160 161 rfl (fun m3 => ?_)
      refine x_ck (fun hb_ hb0_ => ?_)
      refine x_callF (enc := en_v) C 14 2 [vi_ v5, vr_ (some x2)] 13 (ctJ2_add_3 C.2.2.2.2.2.2.2.2.1 N m3 x1 v5 (some x2)) hb_ hb0_ rfl rfl rfl fw_28 q2872 q1801 q1803 q84 q1805 hx9 (Nat.le_of_ble_eq_true rfl) (Nat.le_of_ble_eq_true rfl) rfl (Nat.le_of_ble_eq_true rfl) dX13_arrives_161 166 rfl rfl hen_v (kk_v (fun m4 k1 n1 => ?_)) (kx_n he_v)
      refine s_aload_n C rfl 1 rfl dX13_arrives_166 167 rfl ?_
      refine s_iload_n C rfl 2 rfl dX13_arrives_167 168 rfl ?_
      refine s_aload_n C rfl 1 rfl dX13_arrives_168 169 rfl ?_
      refine s_iload C 4 rfl dX13_arrives_169 171 rfl ?_
      refine x_ck (fun hb_ hb0_ => ?_)
      refine x_callV (enc := en_i) C 15 1 [vi_ v7] 2 (ctX2_shownName C.2.2.2.2.2.2.2.2.1 N m4 v1 v7) hb_ hb0_ rfl rfl q2873 q1668 q1669 q85 q1670 hdX2_shownName (Nat.le_of_ble_eq_true rfl) (Nat.le_of_ble_eq_true rfl) rfl (Nat.le_of_ble_eq_true rfl) dX13_arrives_171 174 rfl rfl hen_i (kk_i (fun x4 m5 k1 n1 => ?_)) (kx_n he_i)
      refine x_ck (fun hb_ hb0_ => ?_)
      refine x_callV (enc := en_i) C 16 2 [vi_ v2, vi_ x4] 2 (ctX2_next C.2.2.2.2.2.2.2.2.1 N m5 v1 v2 x4) hb_ hb0_ rfl rfl q2870 q2481 q2482 q85 q2483 hdX2_next (Nat.le_of_ble_eq_true rfl) (Nat.le_of_ble_eq_true rfl) rfl (Nat.le_of_ble_eq_true rfl) dX13_arrives_174 177 rfl rfl hen_i (kk_i (fun x5 m6 k1 n1 => ?_)) (kx_n he_i)
      refine s_istore C (Nat.le_of_ble_eq_true rfl) [0, 1, 2, 3] rfl rfl dX13_arrives_177 179 rfl ?_
      refine s_goto C (off := -45) 134 dX13_arrives_179 rfl ?_
      refine Sm_sub [1, 2, 3, 4, 0] rfl ?_
      exact ih _ _ _ _ _ _ _ _
theorem wX13_arrives_b132 {l : Launch} {g : GG} {E : Me_} (C : Cx_ l g E "MasterTree$Following" cX13_arrives 8 35) (hret : (eT_ E).sig.returnType = (Option.none : Option Jvm.ClassFile.FieldType)) (h0 : ∀ x ∈ (eC_ E).exceptionTable.toList, False) (hin : (eT_ E).name = "arrives") (N : Nat) : ∀ (m : Mm) (v0 : Option Nat) (v1 : Option Nat) (v2 : Int32) (v5 : Int32) (s0 : Int32) (k n : Nat), Sm_ l g E 8 en_v (fX13_arrives_b132 (gE_ g) N m v0 v1 v2 v5 s0) k n 132 [(0, vr_ v0), (1, vr_ v1), (2, vi_ v2), (5, vi_ v5)] [vi_ s0] m := by
  intro m v0 v1 v2 v5 s0 k n
  unfold fX13_arrives_b132
  refine s_istore C (Nat.le_of_ble_eq_true rfl) [0, 1, 2, 3] rfl rfl dX13_arrives_132 134 rfl ?_
  refine Sm_sub [1, 2, 3, 4, 0] rfl ?_
  exact wX13_arrives_b134 C hret h0 hin N N _ _ _ _ _ _ _ _
theorem wX13_arrives_b115 {l : Launch} {g : GG} {E : Me_} (C : Cx_ l g E "MasterTree$Following" cX13_arrives 8 35) (hret : (eT_ E).sig.returnType = (Option.none : Option Jvm.ClassFile.FieldType)) (h0 : ∀ x ∈ (eC_ E).exceptionTable.toList, False) (hin : (eT_ E).name = "arrives") (N : Nat) : ∀ (m : Mm) (v0 : Option Nat) (v1 : Option Nat) (v2 : Int32) (v5 : Int32) (s0 : Int32) (k n : Nat), Sm_ l g E 8 en_v (fX13_arrives_b115 (gE_ g) N m v0 v1 v2 v5 s0) k n 115 [(0, vr_ v0), (1, vr_ v1), (2, vi_ v2), (5, vi_ v5)] [vi_ s0] m := by
  intro m v0 v1 v2 v5 s0 k n
  unfold fX13_arrives_b115
  refine s_istore C (Nat.le_of_ble_eq_true rfl) [0, 1, 2, 3] rfl rfl dX13_arrives_115 117 rfl ?_
  refine s_iload C 0 rfl dX13_arrives_117 119 rfl ?_
  refine s_if_eq C dX13_arrives_119 131 rfl 122 rfl (fun c_ => ?_) (fun c_ => ?_)
  · refine s_iconst C (-1) rfl dX13_arrives_131 132 rfl ?_
    refine Sm_sub [1, 2, 3, 4] rfl ?_
    exact wX13_arrives_b132 C hret h0 hin N _ _ _ _ _ _ _ _
  · refine s_aload_n C rfl 2 rfl dX13_arrives_122 123 rfl ?_
    refine s_iload_n C rfl 3 rfl dX13_arrives_123 124 rfl ?_
    refine s_iconst C (-1) rfl dX13_arrives_124 125 rfl ?_
    refine x_ck (fun hb_ hb0_ => ?_)
    refine x_callV (enc := en_i) C 16 2 [vi_ v2, vi_ (-1)] 2 (ctX2_next C.2.2.2.2.2.2.2.2.1 N m v1 v2 (-1)) hb_ hb0_ rfl rfl q2870 q2481 q2482 q85 q2483 hdX2_next (Nat.le_of_ble_eq_true rfl) (Nat.le_of_ble_eq_true rfl) rfl (Nat.le_of_ble_eq_true rfl) dX13_arrives_125 128 rfl rfl hen_i (kk_i (fun x1 m1 k1 n1 => ?_)) (kx_n he_i)
    refine s_goto C (off := 4) 132 dX13_arrives_128 rfl ?_
    refine Sm_sub [1, 2, 3, 4] rfl ?_
    exact wX13_arrives_b132 C hret h0 hin N _ _ _ _ _ _ _ _
theorem wX13_arrives_b110 {l : Launch} {g : GG} {E : Me_} (C : Cx_ l g E "MasterTree$Following" cX13_arrives 8 35) (hret : (eT_ E).sig.returnType = (Option.none : Option Jvm.ClassFile.FieldType)) (h0 : ∀ x ∈ (eC_ E).exceptionTable.toList, False) (hin : (eT_ E).name = "arrives") (N : Nat) : ∀ (m : Mm) (v0 : Option Nat) (v1 : Option Nat) (v2 : Int32) (v5 : Int32) (k n : Nat), Sm_ l g E 8 en_v (fX13_arrives_b110 (gE_ g) N m v0 v1 v2 v5) k n 110 [(0, vr_ v0), (1, vr_ v1), (2, vi_ v2), (5, vi_ v5)] [] m := by
  intro m v0 v1 v2 v5 k n
  unfold fX13_arrives_b110
  refine s_iconst C 1 rfl dX13_arrives_110 111 rfl ?_
  refine s_goto C (off := 4) 115 dX13_arrives_111 rfl ?_
  exact wX13_arrives_b115 C hret h0 hin N _ _ _ _ _ _ _ _
theorem wX13_arrives_b114 {l : Launch} {g : GG} {E : Me_} (C : Cx_ l g E "MasterTree$Following" cX13_arrives 8 35) (hret : (eT_ E).sig.returnType = (Option.none : Option Jvm.ClassFile.FieldType)) (h0 : ∀ x ∈ (eC_ E).exceptionTable.toList, False) (hin : (eT_ E).name = "arrives") (N : Nat) : ∀ (m : Mm) (v0 : Option Nat) (v1 : Option Nat) (v2 : Int32) (v5 : Int32) (k n : Nat), Sm_ l g E 8 en_v (fX13_arrives_b114 (gE_ g) N m v0 v1 v2 v5) k n 114 [(0, vr_ v0), (1, vr_ v1), (2, vi_ v2), (5, vi_ v5)] [] m := by
  intro m v0 v1 v2 v5 k n
  unfold fX13_arrives_b114
  refine s_iconst C 0 rfl dX13_arrives_114 115 rfl ?_
  exact wX13_arrives_b115 C hret h0 hin N _ _ _ _ _ _ _ _
theorem wX13_arrives_b79 {l : Launch} {g : GG} {E : Me_} (C : Cx_ l g E "MasterTree$Following" cX13_arrives 8 35) (hret : (eT_ E).sig.returnType = (Option.none : Option Jvm.ClassFile.FieldType)) (h0 : ∀ x ∈ (eC_ E).exceptionTable.toList, False) (hin : (eT_ E).name = "arrives") (N : Nat) : ∀ (m : Mm) (v0 : Option Nat) (v1 : Option Nat) (v2 : Int32) (v3 : Int32) (k n : Nat), Sm_ l g E 8 en_v (fX13_arrives_b79 (gE_ g) N m v0 v1 v2 v3) k n 79 [(0, vr_ v0), (1, vr_ v1), (2, vi_ v2), (3, vi_ v3)] [] m := by
  intro m v0 v1 v2 v3 k n
  unfold fX13_arrives_b79
  refine s_aload_n C rfl 0 rfl dX13_arrives_79 80 rfl ?_
  refine x_gr C 11 (RX13, TX13, 6) rfl 4 (Nat.le_of_ble_eq_true rfl) q2886 (Or.inl rfl) rfl 12 rfl dX13_arrives_80 83 rfl (fun x1 => ?_)
  refine x_ck (fun hb_ hb0_ => ?_)
  refine x_callF (enc := en_i) C 10 0 [] 13 (ctJ2_size C.2.2.2.2.2.2.2.2.1 N m x1) hb_ hb0_ rfl rfl rfl fw_1 q2869 q483 q485 q84 q487 hx1 (Nat.le_of_ble_eq_true rfl) (Nat.le_of_ble_eq_true rfl) rfl (Nat.le_of_ble_eq_true rfl) dX13_arrives_83 88 rfl rfl hen_i (kk_i (fun x2 m1 k1 n1 => ?_)) (kx_n he_i)
  refine s_istore C (Nat.le_of_ble_eq_true rfl) [0, 1, 2, 3] rfl rfl dX13_arrives_88 90 rfl ?_
  refine s_aload_n C rfl 1 rfl dX13_arrives_90 91 rfl ?_
  refine x_gi C 11 (RX13, TX13, 6) rfl 2 (Nat.le_of_ble_eq_true rfl) q2884 (Or.inl rfl) rfl 12 rfl dX13_arrives_91 94 rfl (fun x3 => ?_)
  refine s_iconst C 2 rfl dX13_arrives_94 95 rfl ?_
  refine s_icmp_eq C dX13_arrives_95 110 rfl 98 rfl (fun c_ => ?_) (fun c_ => ?_)
  · refine Sm_sub [1, 2, 3, 0] rfl ?_
    exact wX13_arrives_b110 C hret h0 hin N _ _ _ _ _ _ _
  · refine s_aload_n C rfl 1 rfl dX13_arrives_98 99 rfl ?_
    refine x_gi C 11 (RX13, TX13, 6) rfl 2 (Nat.le_of_ble_eq_true rfl) q2884 (Or.inl rfl) rfl 12 rfl dX13_arrives_99 102 rfl (fun x4 => ?_)
    refine s_iconst C 1 rfl dX13_arrives_102 103 rfl ?_
    refine s_icmp_ne C dX13_arrives_103 114 rfl 106 rfl (fun c_ => ?_) (fun c_ => ?_)
    · refine s_iload_n C rfl 4 rfl dX13_arrives_106 107 rfl ?_
      refine s_if_ne C dX13_arrives_107 114 rfl 110 rfl (fun c_ => ?_) (fun c_ => ?_)
      · refine Sm_sub [1, 2, 3, 0] rfl ?_
        exact wX13_arrives_b110 C hret h0 hin N _ _ _ _ _ _ _
      · refine Sm_sub [1, 2, 3, 0] rfl ?_
        exact wX13_arrives_b114 C hret h0 hin N _ _ _ _ _ _ _
    · refine Sm_sub [1, 2, 3, 0] rfl ?_
      exact wX13_arrives_b114 C hret h0 hin N _ _ _ _ _ _ _
theorem wX13_arrives_b17 {l : Launch} {g : GG} {E : Me_} (C : Cx_ l g E "MasterTree$Following" cX13_arrives 8 35) (hret : (eT_ E).sig.returnType = (Option.none : Option Jvm.ClassFile.FieldType)) (h0 : ∀ x ∈ (eC_ E).exceptionTable.toList, False) (hin : (eT_ E).name = "arrives") (N : Nat) : ∀ (m : Mm) (v0 : Option Nat) (v1 : Option Nat) (v2 : Int32) (v3 : Int32) (s0 : Int32) (k n : Nat), Sm_ l g E 8 en_v (fX13_arrives_b17 (gE_ g) N m v0 v1 v2 v3 s0) k n 17 [(0, vr_ v0), (1, vr_ v1), (2, vi_ v2), (3, vi_ v3)] [vi_ s0] m := by
  intro m v0 v1 v2 v3 s0 k n
  unfold fX13_arrives_b17
  refine s_istore C (Nat.le_of_ble_eq_true rfl) [0, 1, 2, 3] rfl rfl dX13_arrives_17 19 rfl ?_
  refine s_iload C 0 rfl dX13_arrives_19 21 rfl ?_
  refine s_if_eq C dX13_arrives_21 79 rfl 24 rfl (fun c_ => ?_) (fun c_ => ?_)
  · refine Sm_sub [1, 2, 3, 4] rfl ?_
    exact wX13_arrives_b79 C hret h0 hin N _ _ _ _ _ _ _
  · refine s_aload_n C rfl 1 rfl dX13_arrives_24 25 rfl ?_
    refine x_gr C 11 (RX13, TX13, 6) rfl 0 (Nat.le_of_ble_eq_true rfl) q2882 (Or.inl rfl) rfl 12 rfl dX13_arrives_25 28 rfl (fun x1 => ?_)
    refine s_aload_n C rfl 2 rfl dX13_arrives_28 29 rfl ?_
    refine s_aload_n C rfl 2 rfl dX13_arrives_29 30 rfl ?_
    refine x_grN C 1 (RX2, TX2, 12) rfl 6 (Nat.le_of_ble_eq_true rfl) q308 rfl rfl 2 rfl dX13_arrives_30 33 rfl (fun x2 => ?_)
    refine s_iload_n C rfl 3 rfl dX13_arrives_33 34 rfl ?_
    refine x_ar C 5 (.object "MasterTree$Entry") rfl rfl rfl 205 rfl dX13_arrives_34 35 rfl (fun x3 => ?_)
    refine x_wi [] 38 (fun kk_ => ?_) (fun x4 m1 k1 n1 => ?_)
    · refine x_csr (kd := 8) (fun hb_ hb0_ => ?_) ?_
      · exact x_callA (enc := en_i) (owner := "MasterTree$Filter") C 19 2 [vr_ v1, vr_ x3] 8 (ctX9_applies C.2.2.2.2.2.2.2.2.1 N m x1 v1 x3) hb_ hb0_ rfl rfl q2863 q2797 q2801 q2802 q139 q2803 q2796 ⟨by decide +kernel, by decide +kernel, by decide +kernel⟩ (Nat.le_of_ble_eq_true rfl) (Nat.le_of_ble_eq_true rfl) rfl (Nat.le_of_ble_eq_true rfl) dX13_arrives_35 38 rfl rfl hen_i (kk_i kk_) (kx_n he_i)
      refine x_csr (kd := 9) (fun hb_ hb0_ => ?_) ?_
      · exact x_callA (enc := en_i) (owner := "MasterTree$Filter") C 13 2 [vr_ v1, vr_ x3] 9 (ctX10_applies C.2.2.2.2.2.2.2.2.1 N m x1 v1 x3) hb_ hb0_ rfl rfl q2863 q2797 q2798 q2799 q140 q2800 q2796 ⟨by decide +kernel, by decide +kernel, by decide +kernel⟩ (Nat.le_of_ble_eq_true rfl) (Nat.le_of_ble_eq_true rfl) rfl (Nat.le_of_ble_eq_true rfl) dX13_arrives_35 38 rfl rfl hen_i (kk_i kk_) (kx_n he_i)
      refine x_csr (kd := 10) (fun hb_ hb0_ => ?_) ?_
      · exact x_callA (enc := en_i) (owner := "MasterTree$Filter") C 34 2 [vr_ v1, vr_ x3] 10 (ctX11_applies_d14 C.2.2.2.2.2.2.2.2.1 N m x1 v1 x3) hb_ hb0_ rfl rfl q2863 q2797 q2828 q2829 q141 q2830 q2796 ⟨by decide +kernel, by decide +kernel, by decide +kernel⟩ (Nat.le_of_ble_eq_true rfl) (Nat.le_of_ble_eq_true rfl) rfl (Nat.le_of_ble_eq_true rfl) dX13_arrives_35 38 rfl rfl hen_i (kk_i kk_) (kx_n he_i)
      refine x_csr (kd := 11) (fun hb_ hb0_ => ?_) ?_
      · exact x_callA (enc := en_i) (owner := "MasterTree$Filter") C 34 2 [vr_ v1, vr_ x3] 11 (ctX12_applies_d14 C.2.2.2.2.2.2.2.2.1 N m x1 v1 x3) hb_ hb0_ rfl rfl q2863 q2797 q2835 q2832 q142 q2833 q2796 ⟨by decide +kernel, by decide +kernel, by decide +kernel⟩ (Nat.le_of_ble_eq_true rfl) (Nat.le_of_ble_eq_true rfl) rfl (Nat.le_of_ble_eq_true rfl) dX13_arrives_35 38 rfl rfl hen_i (kk_i kk_) (kx_n he_i)
      exact Sm_bn
    refine s_if_eq C dX13_arrives_38 79 rfl 41 rfl (fun c_ => ?_) (fun c_ => ?_)
    · refine Sm_sub [1, 2, 3, 4] rfl ?_
      exact wX13_arrives_b79 C hret h0 hin N _ _ _ _ _ _ _
    · refine s_aload_n C rfl 2 rfl dX13_arrives_41 42 rfl ?_
      refine s_aload_n C rfl 1 rfl dX13_arrives_42 43 rfl ?_
      refine x_gi C 11 (RX13, TX13, 6) rfl 1 (Nat.le_of_ble_eq_true rfl) q2883 (Or.inl rfl) rfl 12 rfl dX13_arrives_43 46 rfl (fun x9 => ?_)
      refine s_iload_n C rfl 3 rfl dX13_arrives_46 47 rfl ?_
      refine s_iconst C 0 rfl dX13_arrives_47 48 rfl ?_
      refine x_ck (fun hb_ hb0_ => ?_)
      refine x_callV (enc := en_i) C 18 3 [vi_ x9, vi_ v2, vi_ 0] 2 (ctX2_may C.2.2.2.2.2.2.2.2.1 N m1 v1 x9 v2 0) hb_ hb0_ rfl rfl q2864 q987 q988 q85 q989 hdX2_may (Nat.le_of_ble_eq_true rfl) (Nat.le_of_ble_eq_true rfl) rfl (Nat.le_of_ble_eq_true rfl) dX13_arrives_48 51 rfl rfl hen_i (kk_i (fun x10 m6 k1 n1 => ?_)) (kx_n he_i)
      refine s_if_eq C dX13_arrives_51 79 rfl 54 rfl (fun c_ => ?_) (fun c_ => ?_)
      · refine Sm_sub [1, 2, 3, 4] rfl ?_
        exact wX13_arrives_b79 C hret h0 hin N _ _ _ _ _ _ _
      · refine s_aload_n C rfl 1 rfl dX13_arrives_54 55 rfl ?_
        refine x_gr C 11 (RX13, TX13, 6) rfl 5 (Nat.le_of_ble_eq_true rfl) q2887 (Or.inl rfl) rfl 12 rfl dX13_arrives_55 58 rfl (fun x11 => ?_)
        refine x_grN C 0 (RX1, TX1, 9) rfl 8 (Nat.le_of_ble_eq_true rfl) q454 rfl rfl 1 rfl dX13_arrives_58 61 rfl (fun x12 => ?_)
        refine s_bipush C 100 rfl dX13_arrives_61 63 rfl ?_
        refine s_aload_n C rfl 2 rfl dX13_arrives_63 64 rfl ?_
        refine x_giN C 1 (RX2, TX2, 12) rfl 0 (Nat.le_of_ble_eq_true rfl) q296 rfl rfl 2 rfl dX13_arrives_64 67 rfl (fun x13 => ?_)
        refine s_imul C dX13_arrives_67 68 rfl ?_
        refine s_iload_n C rfl 3 rfl dX13_arrives_68 69 rfl ?_
        refine s_iadd C dX13_arrives_69 70 rfl ?_
        refine x_callS (enc := en_r) C 12 1 [vi_ ((100 * x13) + v2)] (ctJ21_valueOf C.2.2.2.2.2.2.2.2.1 N m6 ((100 * x13) + v2)) q2865 q1620 q108 q1621 hdJ21_valueOf (Nat.le_of_ble_eq_true rfl) (Nat.le_of_ble_eq_true rfl) rfl (Nat.le_of_ble_eq_true rfl) dX13_arrives_70 73 rfl rfl hen_r (kk_r (fun x14 m7 k1 n1 => ?_)) (kx_n he_r)
        refine x_ck (fun hb_ hb0_ => ?_)
        refine x_callF (enc := en_i) C 15 1 [vr_ x14] 13 (ctJ2_add C.2.2.2.2.2.2.2.2.1 N m7 x12 x14) hb_ hb0_ rfl rfl rfl fw_0 q2867 q350 q352 q84 q354 hx0 (Nat.le_of_ble_eq_true rfl) (Nat.le_of_ble_eq_true rfl) rfl (Nat.le_of_ble_eq_true rfl) dX13_arrives_73 78 rfl rfl hen_i (kk_i (fun x15 m8 k1 n1 => ?_)) (kx_n he_i)
        refine s_pop C rfl dX13_arrives_78 79 rfl ?_
        refine Sm_sub [1, 2, 3, 4] rfl ?_
        exact wX13_arrives_b79 C hret h0 hin N _ _ _ _ _ _ _
theorem wX13_arrives_b12 {l : Launch} {g : GG} {E : Me_} (C : Cx_ l g E "MasterTree$Following" cX13_arrives 8 35) (hret : (eT_ E).sig.returnType = (Option.none : Option Jvm.ClassFile.FieldType)) (h0 : ∀ x ∈ (eC_ E).exceptionTable.toList, False) (hin : (eT_ E).name = "arrives") (N : Nat) : ∀ (m : Mm) (v0 : Option Nat) (v1 : Option Nat) (v2 : Int32) (v3 : Int32) (k n : Nat), Sm_ l g E 8 en_v (fX13_arrives_b12 (gE_ g) N m v0 v1 v2 v3) k n 12 [(0, vr_ v0), (1, vr_ v1), (2, vi_ v2), (3, vi_ v3)] [] m := by
  intro m v0 v1 v2 v3 k n
  unfold fX13_arrives_b12
  refine s_iconst C 1 rfl dX13_arrives_12 13 rfl ?_
  refine s_goto C (off := 4) 17 dX13_arrives_13 rfl ?_
  exact wX13_arrives_b17 C hret h0 hin N _ _ _ _ _ _ _ _
theorem wX13_arrives {l : Launch} {g : GG} {E : Me_} (C : Cx_ l g E "MasterTree$Following" cX13_arrives 8 35) (hret : (eT_ E).sig.returnType = (Option.none : Option Jvm.ClassFile.FieldType)) (h0 : ∀ x ∈ (eC_ E).exceptionTable.toList, False) (hin : (eT_ E).name = "arrives") (N : Nat) : ∀ (m : Mm) (v0 : Option Nat) (v1 : Option Nat) (v2 : Int32) (v3 : Int32) (k n : Nat), Sm_ l g E 8 en_v (fX13_arrives (gE_ g) N m v0 v1 v2 v3) k n 0 [(0, vr_ v0), (1, vr_ v1), (2, vi_ v2), (3, vi_ v3)] [] m := by
  intro m v0 v1 v2 v3 k n
  unfold fX13_arrives
  refine s_aload_n C rfl 0 rfl dX13_arrives_0 1 rfl ?_
  refine x_gi C 11 (RX13, TX13, 6) rfl 2 (Nat.le_of_ble_eq_true rfl) q2884 (Or.inl rfl) rfl 12 rfl dX13_arrives_1 4 rfl (fun x1 => ?_)
  refine s_iconst C 1 rfl dX13_arrives_4 5 rfl ?_
  refine s_icmp_ne C dX13_arrives_5 12 rfl 8 rfl (fun c_ => ?_) (fun c_ => ?_)
  · refine s_iload_n C rfl 3 rfl dX13_arrives_8 9 rfl ?_
    refine s_if_le C dX13_arrives_9 16 rfl 12 rfl (fun c_ => ?_) (fun c_ => ?_)
    · exact wX13_arrives_b12 C hret h0 hin N _ _ _ _ _ _ _
    · refine s_iconst C 0 rfl dX13_arrives_16 17 rfl ?_
      exact wX13_arrives_b17 C hret h0 hin N _ _ _ _ _ _ _ _
  · exact wX13_arrives_b12 C hret h0 hin N _ _ _ _ _ _ _
theorem hdX13_arrives : ((⟨"MasterTree$Following", "arrives", "(LMasterTree$Master;II)V"⟩ : MethodName)).cls ≠ "java/lang/invoke/MethodHandle" ∧ ((⟨"MasterTree$Following", "arrives", "(LMasterTree$Master;II)V"⟩ : MethodName)).cls ≠ "java/lang/invoke/VarHandle" ∧ (parseMethodDescriptor ((⟨"MasterTree$Following", "arrives", "(LMasterTree$Master;II)V"⟩ : MethodName)).desc).map (fun d => d.parameters.length) = some 3 := ⟨by decide +kernel, by decide +kernel, by decide +kernel⟩
theorem ctX13_arrives {l : Launch} {g : GG} (hst : l.stackTraces = false) (N : Nat) (m : Mm) (v0 : Option Nat) (v1 : Option Nat) (v2 : Int32) (v3 : Int32) : ∀ v m' k n, fX13_arrives (gE_ g) N m v0 v1 v2 v3 = some (v, m', k, n) → Ct_ l g (⟨"MasterTree$Following", "arrives", "(LMasterTree$Master;II)V"⟩ : MethodName) (ws_ (⟨"MasterTree$Following", "arrives", "(LMasterTree$Master;II)V"⟩ : MethodName) cX13_arrives 8 (Option.none : Option Jvm.ClassFile.FieldType)) 35 [vr_ v0, vr_ v1, vi_ v2, vi_ v3] m (en_v v) m' k n :=
  Ct_of (by decide +kernel) rfl hst (Nat.le_of_ble_eq_true rfl) rfl (fun E C hret h0 hin => wX13_arrives C hret h0 hin N m v0 v1 v2 v3 0 0)
theorem wX13_comes_b175 {l : Launch} {g : GG} {E : Me_} (C : Cx_ l g E "MasterTree$Following" cX13_comes 8 36) (hret : (eT_ E).sig.returnType = (Option.none : Option Jvm.ClassFile.FieldType)) (h0 : ∀ x ∈ (eC_ E).exceptionTable.toList, False) (hin : (eT_ E).name = "comes") (N : Nat) {k6 : Mm → Option Nat → Int32 → Option Nat → Int32 → Rs (Unit)} (hk6 : ∀ (m : Mm) (v0 : Option Nat) (v3 : Int32) (v4 : Option Nat) (v5 : Int32) (k n : Nat), Sm_ l g E 8 en_v (k6 m v0 v3 v4 v5) k n 6 [(0, vr_ v0), (3, vi_ v3), (4, vr_ v4), (5, vi_ v5)] [] m) : ∀ (m : Mm) (v0 : Option Nat) (v3 : Int32) (v4 : Option Nat) (s0 : Int32) (k n : Nat), Sm_ l g E 8 en_v (fX13_comes_b175 (gE_ g) N k6 m v0 v3 v4 s0) k n 175 [(0, vr_ v0), (3, vi_ v3), (4, vr_ v4)] [vi_ s0] m := by
  intro m v0 v3 v4 s0 k n
  unfold fX13_comes_b175
  refine s_istore C (Nat.le_of_ble_eq_true rfl) [0, 1, 2] rfl rfl dX13_comes_175 177 rfl ?_
  refine s_goto C (off := -171) 6 dX13_comes_177 rfl ?_
  refine Sm_sub [1, 2, 3, 0] rfl ?_
  exact hk6 _ _ _ _ _ _ _
theorem wX13_comes_b149 {l : Launch} {g : GG} {E : Me_} (C : Cx_ l g E "MasterTree$Following" cX13_comes 8 36) (hret : (eT_ E).sig.returnType = (Option.none : Option Jvm.ClassFile.FieldType)) (h0 : ∀ x ∈ (eC_ E).exceptionTable.toList, False) (hin : (eT_ E).name = "comes") (N : Nat) {k6 : Mm → Option Nat → Int32 → Option Nat → Int32 → Rs (Unit)} (hk6 : ∀ (m : Mm) (v0 : Option Nat) (v3 : Int32) (v4 : Option Nat) (v5 : Int32) (k n : Nat), Sm_ l g E 8 en_v (k6 m v0 v3 v4 v5) k n 6 [(0, vr_ v0), (3, vi_ v3), (4, vr_ v4), (5, vi_ v5)] [] m) : ∀ (m : Mm) (v0 : Option Nat) (v3 : Int32) (v5 : Int32) (v7 : Int32) (s0 : Option Nat) (k n : Nat), Sm_ l g E 8 en_v (fX13_comes_b149 (gE_ g) N k6 m v0 v3 v5 v7 s0) k n 149 [(0, vr_ v0), (3, vi_ v3), (5, vi_ v5), (7, vi_ v7)] [vr_ s0] m := by
  intro m v0 v3 v5 v7 s0 k n
  unfold fX13_comes_b149
  refine s_astore C (Nat.le_of_ble_eq_true rfl) [0, 1, 2, 3] rfl rfl dX13_comes_149 151 rfl ?_
  refine s_iload C 4 rfl dX13_comes_151 153 rfl ?_
  refine s_iconst C (-1) rfl dX13_comes_153 154 rfl ?_
  refine s_icmp_ne C dX13_comes_154 161 rfl 157 rfl (fun c_ => ?_) (fun c_ => ?_)
  · refine s_iconst C (-1) rfl dX13_comes_157 158 rfl ?_
    refine s_goto C (off := 17) 175 dX13_comes_158 rfl ?_
    refine Sm_sub [1, 2, 0] rfl ?_
    exact wX13_comes_b175 C hret h0 hin N hk6 _ _ _ _ _ _ _
  · refine s_iload C 4 rfl dX13_comes_161 163 rfl ?_
    refine s_bipush C 100 rfl dX13_comes_163 165 rfl ?_
    refine s_icmp_lt C dX13_comes_165 173 rfl 168 rfl (fun c_ => ?_) (fun c_ => ?_)
    · refine s_iload C 4 rfl dX13_comes_173 175 rfl ?_
      refine Sm_sub [1, 2, 0] rfl ?_
      exact wX13_comes_b175 C hret h0 hin N hk6 _ _ _ _ _ _ _
    · refine s_iload C 3 rfl dX13_comes_168 170 rfl ?_
      refine s_goto C (off := 5) 175 dX13_comes_170 rfl ?_
      refine Sm_sub [1, 2, 0] rfl ?_
      exact wX13_comes_b175 C hret h0 hin N hk6 _ _ _ _ _ _ _
theorem wX13_comes_b117 {l : Launch} {g : GG} {E : Me_} (C : Cx_ l g E "MasterTree$Following" cX13_comes 8 36) (hret : (eT_ E).sig.returnType = (Option.none : Option Jvm.ClassFile.FieldType)) (h0 : ∀ x ∈ (eC_ E).exceptionTable.toList, False) (hin : (eT_ E).name = "comes") (N : Nat) {k6 : Mm → Option Nat → Int32 → Option Nat → Int32 → Rs (Unit)} (hk6 : ∀ (m : Mm) (v0 : Option Nat) (v3 : Int32) (v4 : Option Nat) (v5 : Int32) (k n : Nat), Sm_ l g E 8 en_v (k6 m v0 v3 v4 v5) k n 6 [(0, vr_ v0), (3, vi_ v3), (4, vr_ v4), (5, vi_ v5)] [] m) : ∀ (m : Mm) (v0 : Option Nat) (v3 : Int32) (v4 : Option Nat) (v5 : Int32) (v7 : Int32) (k n : Nat), Sm_ l g E 8 en_v (fX13_comes_b117 (gE_ g) N k6 m v0 v3 v4 v5 v7) k n 117 [(0, vr_ v0), (3, vi_ v3), (4, vr_ v4), (5, vi_ v5), (7, vi_ v7)] [] m := by
  intro m v0 v3 v4 v5 v7 k n
  unfold fX13_comes_b117
  refine s_iload C 4 rfl dX13_comes_117 119 rfl ?_
  refine s_bipush C 100 rfl dX13_comes_119 121 rfl ?_
  refine s_icmp_lt C dX13_comes_121 147 rfl 124 rfl (fun c_ => ?_) (fun c_ => ?_)
  · refine s_aload C 2 rfl dX13_comes_147 149 rfl ?_
    refine Sm_sub [0, 1, 3, 4] rfl ?_
    exact wX13_comes_b149 C hret h0 hin N hk6 _ _ _ _ _ _ _ _
  · refine s_aload_n C rfl 0 rfl dX13_comes_124 125 rfl ?_
    refine x_gr C 11 (RX13, TX13, 6) rfl 5 (Nat.le_of_ble_eq_true rfl) q2887 (Or.inl rfl) rfl 12 rfl dX13_comes_125 128 rfl (fun x1 => ?_)
    refine x_grN C 0 (RX1, TX1, 9) rfl 2 (Nat.le_of_ble_eq_true rfl) q447 rfl rfl 1 rfl dX13_comes_128 131 rfl (fun x2 => ?_)
    refine s_iload C 4 rfl dX13_comes_131 133 rfl ?_
    refine s_bipush C 100 rfl dX13_comes_133 135 rfl ?_
    refine s_isub C dX13_comes_135 136 rfl ?_
    refine x_ck (fun hb_ hb0_ => ?_)
    refine x_callF (enc := en_r) C 12 1 [vi_ (v7 - 100)] 13 (ctJ2_get C.2.2.2.2.2.2.2.2.1 N m x2 (v7 - 100)) hb_ hb0_ rfl rfl rfl fw_3 q2875 q891 q893 q84 q895 hx2 (Nat.le_of_ble_eq_true rfl) (Nat.le_of_ble_eq_true rfl) rfl (Nat.le_of_ble_eq_true rfl) dX13_comes_136 141 rfl rfl hen_r (kk_r (fun x3 m1 k1 n1 => ?_)) (kx_n he_r)
    refine x_cc C "MasterTree$Master" [2] (fun k hk => by rw [List.mem_singleton.mp hk]; exact ⟨rfl, Or.inr rfl⟩) q2876 dX13_comes_141 144 rfl ?_
    refine s_goto C (off := 5) 149 dX13_comes_144 rfl ?_
    refine Sm_sub [0, 1, 3, 4] rfl ?_
    exact wX13_comes_b149 C hret h0 hin N hk6 _ _ _ _ _ _ _ _
theorem wX13_comes_b95 {l : Launch} {g : GG} {E : Me_} (C : Cx_ l g E "MasterTree$Following" cX13_comes 8 36) (hret : (eT_ E).sig.returnType = (Option.none : Option Jvm.ClassFile.FieldType)) (h0 : ∀ x ∈ (eC_ E).exceptionTable.toList, False) (hin : (eT_ E).name = "comes") (N : Nat) {k6 : Mm → Option Nat → Int32 → Option Nat → Int32 → Rs (Unit)} (hk6 : ∀ (m : Mm) (v0 : Option Nat) (v3 : Int32) (v4 : Option Nat) (v5 : Int32) (k n : Nat), Sm_ l g E 8 en_v (k6 m v0 v3 v4 v5) k n 6 [(0, vr_ v0), (3, vi_ v3), (4, vr_ v4), (5, vi_ v5)] [] m) : ∀ (m : Mm) (v0 : Option Nat) (v3 : Int32) (v4 : Option Nat) (v5 : Int32) (v6 : Int32) (v7 : Int32) (s0 : Option Nat) (s1 : Int32) (s2 : Int64) (s3 : Int64) (k n : Nat), Sm_ l g E 8 en_v (fX13_comes_b95 (gE_ g) N k6 m v0 v3 v4 v5 v6 v7 s0 s1 s2 s3) k n 95 [(0, vr_ v0), (3, vi_ v3), (4, vr_ v4), (5, vi_ v5), (6, vi_ v6), (7, vi_ v7)] [vj_ s3, vj_ s2, vi_ s1, vr_ s0] m := by
  intro m v0 v3 v4 v5 v6 v7 s0 s1 s2 s3 k n
  unfold fX13_comes_b95
  refine s_lor C dX13_comes_95 96 rfl ?_
  refine x_bj3 C 203 rfl dX13_comes_96 97 rfl (fun m1 => ?_)
  refine s_iload C 4 rfl dX13_comes_97 99 rfl ?_
  refine s_if_eq C dX13_comes_99 117 rfl 102 rfl (fun c_ => ?_) (fun c_ => ?_)
  · refine Sm_sub [0, 1, 2, 3, 5] rfl ?_
    exact wX13_comes_b117 C hret h0 hin N hk6 _ _ _ _ _ _ _ _
  · refine s_iload C 5 rfl dX13_comes_102 104 rfl ?_
    refine s_iconst C (-1) rfl dX13_comes_104 105 rfl ?_
    refine s_icmp_ne C dX13_comes_105 117 rfl 108 rfl (fun c_ => ?_) (fun c_ => ?_)
    · refine s_aload_n C rfl 0 rfl dX13_comes_108 109 rfl ?_
      refine s_aload C 2 rfl dX13_comes_109 111 rfl ?_
      refine s_iload C 3 rfl dX13_comes_111 113 rfl ?_
      refine s_iload_n C rfl 1 rfl dX13_comes_113 114 rfl ?_
      refine x_ck (fun hb_ hb0_ => ?_)
      refine x_callV (enc := en_v) C 35 3 [vr_ v4, vi_ v5, vi_ v3] 12 (ctX13_arrives C.2.2.2.2.2.2.2.2.1 N m1 v0 v4 v5 v3) hb_ hb0_ rfl rfl q2859 q2861 qs31 q145 q2862 hdX13_arrives (Nat.le_of_ble_eq_true rfl) (Nat.le_of_ble_eq_true rfl) rfl (Nat.le_of_ble_eq_true rfl) dX13_comes_114 117 rfl rfl hen_v (kk_v (fun m2 k1 n1 => ?_)) (kx_n he_v)
      refine Sm_sub [0, 1, 2, 3, 5] rfl ?_
      exact wX13_comes_b117 C hret h0 hin N hk6 _ _ _ _ _ _ _ _
    · refine Sm_sub [0, 1, 2, 3, 5] rfl ?_
      exact wX13_comes_b117 C hret h0 hin N hk6 _ _ _ _ _ _ _ _
theorem wX13_comes_b69 {l : Launch} {g : GG} {E : Me_} (C : Cx_ l g E "MasterTree$Following" cX13_comes 8 36) (hret : (eT_ E).sig.returnType = (Option.none : Option Jvm.ClassFile.FieldType)) (h0 : ∀ x ∈ (eC_ E).exceptionTable.toList, False) (hin : (eT_ E).name = "comes") (N : Nat) {k6 : Mm → Option Nat → Int32 → Option Nat → Int32 → Rs (Unit)} (hk6 : ∀ (m : Mm) (v0 : Option Nat) (v3 : Int32) (v4 : Option Nat) (v5 : Int32) (k n : Nat), Sm_ l g E 8 en_v (k6 m v0 v3 v4 v5) k n 6 [(0, vr_ v0), (3, vi_ v3), (4, vr_ v4), (5, vi_ v5)] [] m) : ∀ (m : Mm) (v0 : Option Nat) (v3 : Int32) (v4 : Option Nat) (v5 : Int32) (v6 : Int32) (s0 : Int32) (k n : Nat), Sm_ l g E 8 en_v (fX13_comes_b69 (gE_ g) N k6 m v0 v3 v4 v5 v6 s0) k n 69 [(0, vr_ v0), (3, vi_ v3), (4, vr_ v4), (5, vi_ v5), (6, vi_ v6)] [vi_ s0] m := by
  intro m v0 v3 v4 v5 v6 s0 k n
  unfold fX13_comes_b69
  refine s_istore C (Nat.le_of_ble_eq_true rfl) [0, 1, 2, 3, 4] rfl rfl dX13_comes_69 71 rfl ?_
  refine s_aload_n C rfl 1 rfl dX13_comes_71 72 rfl ?_
  refine x_gr C 11 (RX13, TX13, 6) rfl 3 (Nat.le_of_ble_eq_true rfl) q2885 (Or.inl rfl) rfl 12 rfl dX13_comes_72 75 rfl (fun x1 => ?_)
  refine s_aload C 3 rfl dX13_comes_75 77 rfl ?_
  refine x_giN C 1 (RX2, TX2, 12) rfl 0 (Nat.le_of_ble_eq_true rfl) q296 rfl rfl 2 rfl dX13_comes_77 80 rfl (fun x2 => ?_)
  refine s_dup2_11 C rfl rfl dX13_comes_80 81 rfl ?_
  refine x_aj3 C 203 rfl dX13_comes_81 82 rfl (fun x3 => ?_)
  refine s_iload C 5 rfl dX13_comes_82 84 rfl ?_
  refine s_if_eq C dX13_comes_84 94 rfl 87 rfl (fun c_ => ?_) (fun c_ => ?_)
  · refine s_lconst C 0 rfl dX13_comes_94 95 rfl ?_
    refine Sm_sub [1, 2, 3, 4, 5, 0] rfl ?_
    exact wX13_comes_b95 C hret h0 hin N hk6 _ _ _ _ _ _ _ _ _ _ _ _ _
  · refine s_lconst C 1 rfl dX13_comes_87 88 rfl ?_
    refine s_iload C 4 rfl dX13_comes_88 90 rfl ?_
    refine s_lshl C dX13_comes_90 91 rfl ?_
    refine s_goto C (off := 4) 95 dX13_comes_91 rfl ?_
    refine Sm_sub [1, 2, 3, 4, 5, 0] rfl ?_
    exact wX13_comes_b95 C hret h0 hin N hk6 _ _ _ _ _ _ _ _ _ _ _ _ _
theorem wX13_comes_b47 {l : Launch} {g : GG} {E : Me_} (C : Cx_ l g E "MasterTree$Following" cX13_comes 8 36) (hret : (eT_ E).sig.returnType = (Option.none : Option Jvm.ClassFile.FieldType)) (h0 : ∀ x ∈ (eC_ E).exceptionTable.toList, False) (hin : (eT_ E).name = "comes") (N : Nat) {k6 : Mm → Option Nat → Int32 → Option Nat → Int32 → Rs (Unit)} (hk6 : ∀ (m : Mm) (v0 : Option Nat) (v3 : Int32) (v4 : Option Nat) (v5 : Int32) (k n : Nat), Sm_ l g E 8 en_v (k6 m v0 v3 v4 v5) k n 6 [(0, vr_ v0), (3, vi_ v3), (4, vr_ v4), (5, vi_ v5)] [] m) : ∀ (m : Mm) (v0 : Option Nat) (v3 : Int32) (v4 : Option Nat) (v5 : Int32) (s0 : Int32) (k n : Nat), Sm_ l g E 8 en_v (fX13_comes_b47 (gE_ g) N k6 m v0 v3 v4 v5 s0) k n 47 [(0, vr_ v0), (3, vi_ v3), (4, vr_ v4), (5, vi_ v5)] [vi_ s0] m := by
  intro m v0 v3 v4 v5 s0 k n
  unfold fX13_comes_b47
  refine s_istore C (Nat.le_of_ble_eq_true rfl) [0, 1, 2, 3] rfl rfl dX13_comes_47 49 rfl ?_
  refine s_iload C 0 rfl dX13_comes_49 51 rfl ?_
  refine s_if_eq C dX13_comes_51 68 rfl 54 rfl (fun c_ => ?_) (fun c_ => ?_)
  · refine s_iconst C (-1) rfl dX13_comes_68 69 rfl ?_
    refine Sm_sub [1, 2, 3, 4, 0] rfl ?_
    exact wX13_comes_b69 C hret h0 hin N hk6 _ _ _ _ _ _ _ _ _
  · refine s_aload C 3 rfl dX13_comes_54 56 rfl ?_
    refine x_grN C 1 (RX2, TX2, 12) rfl 6 (Nat.le_of_ble_eq_true rfl) q308 rfl rfl 2 rfl dX13_comes_56 59 rfl (fun x1 => ?_)
    refine s_iload C 4 rfl dX13_comes_59 61 rfl ?_
    refine x_ar C 5 (.object "MasterTree$Entry") rfl rfl rfl 205 rfl dX13_comes_61 62 rfl (fun x2 => ?_)
    refine x_giN C 2 (RX3, TX3, 9) rfl 6 (Nat.le_of_ble_eq_true rfl) q265 rfl rfl 3 rfl dX13_comes_62 65 rfl (fun x3 => ?_)
    refine s_goto C (off := 4) 69 dX13_comes_65 rfl ?_
    refine Sm_sub [1, 2, 3, 4, 0] rfl ?_
    exact wX13_comes_b69 C hret h0 hin N hk6 _ _ _ _ _ _ _ _ _
theorem wX13_comes_b46 {l : Launch} {g : GG} {E : Me_} (C : Cx_ l g E "MasterTree$Following" cX13_comes 8 36) (hret : (eT_ E).sig.returnType = (Option.none : Option Jvm.ClassFile.FieldType)) (h0 : ∀ x ∈ (eC_ E).exceptionTable.toList, False) (hin : (eT_ E).name = "comes") (N : Nat) {k6 : Mm → Option Nat → Int32 → Option Nat → Int32 → Rs (Unit)} (hk6 : ∀ (m : Mm) (v0 : Option Nat) (v3 : Int32) (v4 : Option Nat) (v5 : Int32) (k n : Nat), Sm_ l g E 8 en_v (k6 m v0 v3 v4 v5) k n 6 [(0, vr_ v0), (3, vi_ v3), (4, vr_ v4), (5, vi_ v5)] [] m) : ∀ (m : Mm) (v0 : Option Nat) (v3 : Int32) (v4 : Option Nat) (v5 : Int32) (k n : Nat), Sm_ l g E 8 en_v (fX13_comes_b46 (gE_ g) N k6 m v0 v3 v4 v5) k n 46 [(0, vr_ v0), (3, vi_ v3), (4, vr_ v4), (5, vi_ v5)] [] m := by
  intro m v0 v3 v4 v5 k n
  unfold fX13_comes_b46
  refine s_iconst C 0 rfl dX13_comes_46 47 rfl ?_
  exact wX13_comes_b47 C hret h0 hin N hk6 _ _ _ _ _ _ _ _
theorem wX13_comes_b6 {l : Launch} {g : GG} {E : Me_} (C : Cx_ l g E "MasterTree$Following" cX13_comes 8 36) (hret : (eT_ E).sig.returnType = (Option.none : Option Jvm.ClassFile.FieldType)) (h0 : ∀ x ∈ (eC_ E).exceptionTable.toList, False) (hin : (eT_ E).name = "comes") (N : Nat) : ∀ (F : Nat) (m : Mm) (v0 : Option Nat) (v3 : Int32) (v4 : Option Nat) (v5 : Int32) (k n : Nat), Sm_ l g E 8 en_v (fX13_comes_b6 (gE_ g) N F m v0 v3 v4 v5) k n 6 [(0, vr_ v0), (3, vi_ v3), (4, vr_ v4), (5, vi_ v5)] [] m := by
  intro F
  induction F with
  | zero => intros; exact Sm_none
  | succ F ih =>
    intro m v0 v3 v4 v5 k n
    unfold fX13_comes_b6
    refine s_iload C 3 rfl dX13_comes_6 8 rfl ?_
    refine s_iconst C (-1) rfl dX13_comes_8 9 rfl ?_
    refine s_icmp_eq C dX13_comes_9 180 rfl 12 rfl (fun c_ => ?_) (fun c_ => ?_)
    · exact x_vret C hret rfl dX13_comes_180
    · refine s_aload C 2 rfl dX13_comes_12 14 rfl ?_
      refine s_iload C 3 rfl dX13_comes_14 16 rfl ?_
      refine x_ck (fun hb_ hb0_ => ?_)
      refine x_callV (enc := en_i) C 11 1 [vi_ v5] 2 (ctX2_isLive C.2.2.2.2.2.2.2.2.1 N m v4 v5) hb_ hb0_ rfl rfl q2858 q972 q973 q85 q974 hdX2_isLive (Nat.le_of_ble_eq_true rfl) (Nat.le_of_ble_eq_true rfl) rfl (Nat.le_of_ble_eq_true rfl) dX13_comes_16 19 rfl rfl hen_i (kk_i (fun x1 m1 k1 n1 => ?_)) (kx_n he_i)
      refine s_if_eq C dX13_comes_19 46 rfl 22 rfl (fun c_ => ?_) (fun c_ => ?_)
      · exact wX13_comes_b46 C hret h0 hin N (fun m v0 v3 v4 v5 k n => ih m v0 v3 v4 v5 k n) _ _ _ _ _ _ _
      · refine s_aload_n C rfl 0 rfl dX13_comes_22 23 rfl ?_
        refine x_gr C 11 (RX13, TX13, 6) rfl 3 (Nat.le_of_ble_eq_true rfl) q2885 (Or.inl rfl) rfl 12 rfl dX13_comes_23 26 rfl (fun x2 => ?_)
        refine s_aload C 2 rfl dX13_comes_26 28 rfl ?_
        refine x_giN C 1 (RX2, TX2, 12) rfl 0 (Nat.le_of_ble_eq_true rfl) q296 rfl rfl 2 rfl dX13_comes_28 31 rfl (fun x3 => ?_)
        refine x_aj3 C 203 rfl dX13_comes_31 32 rfl (fun x4 => ?_)
        refine s_iload C 3 rfl dX13_comes_32 34 rfl ?_
        refine s_lshr C dX13_comes_34 35 rfl ?_
        refine s_lconst C 1 rfl dX13_comes_35 36 rfl ?_
        refine s_land C dX13_comes_36 37 rfl ?_
        refine s_lconst C 0 rfl dX13_comes_37 38 rfl ?_
        refine s_lcmp C dX13_comes_38 39 rfl ?_
        refine s_if_ne C dX13_comes_39 46 rfl 42 rfl (fun c_ => ?_) (fun c_ => ?_)
        · refine s_iconst C 1 rfl dX13_comes_42 43 rfl ?_
          refine s_goto C (off := 4) 47 dX13_comes_43 rfl ?_
          exact wX13_comes_b47 C hret h0 hin N (fun m v0 v3 v4 v5 k n => ih m v0 v3 v4 v5 k n) _ _ _ _ _ _ _ _
        · exact wX13_comes_b46 C hret h0 hin N (fun m v0 v3 v4 v5 k n => ih m v0 v3 v4 v5 k n) _ _ _ _ _ _ _
theorem wX13_comes {l : Launch} {g : GG} {E : Me_} (C : Cx_ l g E "MasterTree$Following" cX13_comes 8 36) (hret : (eT_ E).sig.returnType = (Option.none : Option Jvm.ClassFile.FieldType)) (h0 : ∀ x ∈ (eC_ E).exceptionTable.toList, False) (hin : (eT_ E).name = "comes") (N : Nat) : ∀ (m : Mm) (v0 : Option Nat) (v1 : Option Nat) (v2 : Int32) (v3 : Int32) (k n : Nat), Sm_ l g E 8 en_v (fX13_comes (gE_ g) N m v0 v1 v2 v3) k n 0 [(0, vr_ v0), (1, vr_ v1), (2, vi_ v2), (3, vi_ v3)] [] m := by
  intro m v0 v1 v2 v3 k n
  unfold fX13_comes
  refine s_aload_n C rfl 1 rfl dX13_comes_0 1 rfl ?_
  refine s_astore C (Nat.le_of_ble_eq_true rfl) [0, 2, 3] rfl rfl dX13_comes_1 3 rfl ?_
  refine s_iload_n C rfl 2 rfl dX13_comes_3 4 rfl ?_
  refine s_istore C (Nat.le_of_ble_eq_true rfl) [0, 1, 3] rfl rfl dX13_comes_4 6 rfl ?_
  refine Sm_sub [2, 3, 1, 0] rfl ?_
  exact wX13_comes_b6 C hret h0 hin N N _ _ _ _ _ _ _
theorem hdX13_comes : ((⟨"MasterTree$Following", "comes", "(LMasterTree$Master;II)V"⟩ : MethodName)).cls ≠ "java/lang/invoke/MethodHandle" ∧ ((⟨"MasterTree$Following", "comes", "(LMasterTree$Master;II)V"⟩ : MethodName)).cls ≠ "java/lang/invoke/VarHandle" ∧ (parseMethodDescriptor ((⟨"MasterTree$Following", "comes", "(LMasterTree$Master;II)V"⟩ : MethodName)).desc).map (fun d => d.parameters.length) = some 3 := ⟨by decide +kernel, by decide +kernel, by decide +kernel⟩
theorem ctX13_comes {l : Launch} {g : GG} (hst : l.stackTraces = false) (N : Nat) (m : Mm) (v0 : Option Nat) (v1 : Option Nat) (v2 : Int32) (v3 : Int32) : ∀ v m' k n, fX13_comes (gE_ g) N m v0 v1 v2 v3 = some (v, m', k, n) → Ct_ l g (⟨"MasterTree$Following", "comes", "(LMasterTree$Master;II)V"⟩ : MethodName) (ws_ (⟨"MasterTree$Following", "comes", "(LMasterTree$Master;II)V"⟩ : MethodName) cX13_comes 8 (Option.none : Option Jvm.ClassFile.FieldType)) 36 [vr_ v0, vr_ v1, vi_ v2, vi_ v3] m (en_v v) m' k n :=
  Ct_of (by decide +kernel) rfl hst (Nat.le_of_ble_eq_true rfl) rfl (fun E C hret h0 hin => wX13_comes C hret h0 hin N m v0 v1 v2 v3 0 0)
theorem wX13_init_b68 {l : Launch} {g : GG} {E : Me_} (C : Cx_ l g E "MasterTree$Following" cX13_init 6 37) (hret : (eT_ E).sig.returnType = (Option.none : Option Jvm.ClassFile.FieldType)) (h0 : ∀ x ∈ (eC_ E).exceptionTable.toList, False) (hin : (eT_ E).name = "<init>") (N : Nat) : ∀ (F : Nat) (m : Mm) (v0 : Option Nat) (v1 : Option Nat) (k n : Nat), Sm_ l g E 6 (xe_ en_v) (fX13_init_b68 (gE_ g) N F m v0 v1) k n 68 [(0, vr_ v0), (1, vr_ v1)] [] m := by
  intro F
  induction F with
  | zero => intros; exact Sm_none
  | succ F ih =>
    intro m v0 v1 k n
    unfold fX13_init_b68
    refine s_aload_n C rfl 0 rfl dX13_init_68 69 rfl ?_
    refine x_gr C 11 (RX13, TX13, 6) rfl 4 (Nat.le_of_ble_eq_true rfl) q2886 (Or.inl rfl) rfl 12 rfl dX13_init_69 72 rfl (fun x1 => ?_)
    refine x_ck (fun hb_ hb0_ => ?_)
    refine x_callF (enc := en_i) C 10 0 [] 13 (ctJ2_isEmpty C.2.2.2.2.2.2.2.2.1 N m x1) hb_ hb0_ rfl rfl rfl fw_26 q2878 q1599 q1601 q84 q1603 hx15 (Nat.le_of_ble_eq_true rfl) (Nat.le_of_ble_eq_true rfl) rfl (Nat.le_of_ble_eq_true rfl) dX13_init_72 77 rfl rfl hen_i (kk_i (fun x2 m1 k1 n1 => ?_)) (kx_n he_i)
    refine s_if_ne C dX13_init_77 133 rfl 80 rfl (fun c_ => ?_) (fun c_ => ?_)
    · refine s_aload_n C rfl 0 rfl dX13_init_80 81 rfl ?_
      refine x_gr C 11 (RX13, TX13, 6) rfl 4 (Nat.le_of_ble_eq_true rfl) q2886 (Or.inl rfl) rfl 12 rfl dX13_init_81 84 rfl (fun x3 => ?_)
      refine s_aload_n C rfl 0 rfl dX13_init_84 85 rfl ?_
      refine x_gr C 11 (RX13, TX13, 6) rfl 4 (Nat.le_of_ble_eq_true rfl) q2886 (Or.inl rfl) rfl 12 rfl dX13_init_85 88 rfl (fun x4 => ?_)
      refine x_ck (fun hb_ hb0_ => ?_)
      refine x_callF (enc := en_i) C 10 0 [] 13 (ctJ2_size C.2.2.2.2.2.2.2.2.1 N m1 x4) hb_ hb0_ rfl rfl rfl fw_1 q2869 q483 q485 q84 q487 hx1 (Nat.le_of_ble_eq_true rfl) (Nat.le_of_ble_eq_true rfl) rfl (Nat.le_of_ble_eq_true rfl) dX13_init_88 93 rfl rfl hen_i (kk_i (fun x5 m2 k1 n1 => ?_)) (kx_n he_i)
      refine s_iconst C 1 rfl dX13_init_93 94 rfl ?_
      refine s_isub C dX13_init_94 95 rfl ?_
      refine x_ck (fun hb_ hb0_ => ?_)
      refine x_callF (enc := en_r) C 12 1 [vi_ (x5 - 1)] 13 (ctJ2_remove C.2.2.2.2.2.2.2.2.1 N m2 x3 (x5 - 1)) hb_ hb0_ rfl rfl rfl fw_50 q2880 q2630 q2173 q84 q2175 hx20 (Nat.le_of_ble_eq_true rfl) (Nat.le_of_ble_eq_true rfl) rfl (Nat.le_of_ble_eq_true rfl) dX13_init_95 100 rfl rfl hen_r (kk_r (fun x6 m3 k1 n1 => ?_)) (kx_n he_r)
      refine x_cc C "[I" [200] (fun k hk => by rw [List.mem_singleton.mp hk]; exact ⟨rfl, Or.inr rfl⟩) q2881 dX13_init_100 103 rfl ?_
      refine s_astore C (Nat.le_of_ble_eq_true rfl) [0, 1] rfl rfl dX13_init_103 105 rfl ?_
      refine s_aload_n C rfl 1 rfl dX13_init_105 106 rfl ?_
      refine s_aload_n C rfl 2 rfl dX13_init_106 107 rfl ?_
      refine x_grN C 0 (RX1, TX1, 9) rfl 2 (Nat.le_of_ble_eq_true rfl) q447 rfl rfl 1 rfl dX13_init_107 110 rfl (fun x7 => ?_)
      refine s_aload C 0 rfl dX13_init_110 112 rfl ?_
      refine s_iconst C 0 rfl dX13_init_112 113 rfl ?_
      refine x_ai0 C 200 rfl dX13_init_113 114 rfl (fun x8 => ?_)
      refine x_ck (fun hb_ hb0_ => ?_)
      refine x_callF (enc := en_r) C 12 1 [vi_ x8] 13 (ctJ2_get C.2.2.2.2.2.2.2.2.1 N m3 x7 x8) hb_ hb0_ rfl rfl rfl fw_3 q2875 q891 q893 q84 q895 hx2 (Nat.le_of_ble_eq_true rfl) (Nat.le_of_ble_eq_true rfl) rfl (Nat.le_of_ble_eq_true rfl) dX13_init_114 119 rfl rfl hen_r (kk_r (fun x9 m4 k1 n1 => ?_)) (kx_n he_r)
      refine x_cc C "MasterTree$Master" [2] (fun k hk => by rw [List.mem_singleton.mp hk]; exact ⟨rfl, Or.inr rfl⟩) q2876 dX13_init_119 122 rfl ?_
      refine s_aload C 0 rfl dX13_init_122 124 rfl ?_
      refine s_iconst C 1 rfl dX13_init_124 125 rfl ?_
      refine x_ai0 C 200 rfl dX13_init_125 126 rfl (fun x10 => ?_)
      refine s_iconst C 1 rfl dX13_init_126 127 rfl ?_
      refine x_ck (fun hb_ hb0_ => ?_)
      refine x_callV (enc := en_v) C 36 3 [vr_ x9, vi_ x10, vi_ 1] 12 (ctX13_comes C.2.2.2.2.2.2.2.2.1 N m4 v0 x9 x10 1) hb_ hb0_ rfl rfl q2854 q2856 qs30 q145 q2857 hdX13_comes (Nat.le_of_ble_eq_true rfl) (Nat.le_of_ble_eq_true rfl) rfl (Nat.le_of_ble_eq_true rfl) dX13_init_127 130 rfl rfl hen_v (kk_v (fun m5 k1 n1 => ?_)) (kx_n he_v)
      refine s_goto C (off := -62) 68 dX13_init_130 rfl ?_
      refine Sm_sub [1, 2] rfl ?_
      exact ih _ _ _ _ _
    · exact x_vret C hret rfl dX13_init_133
theorem wX13_init {l : Launch} {g : GG} {E : Me_} (C : Cx_ l g E "MasterTree$Following" cX13_init 6 37) (hret : (eT_ E).sig.returnType = (Option.none : Option Jvm.ClassFile.FieldType)) (h0 : ∀ x ∈ (eC_ E).exceptionTable.toList, False) (hin : (eT_ E).name = "<init>") (N : Nat) : ∀ (m : Mm) (v0 : Option Nat) (v1 : Option Nat) (v2 : Option Nat) (v3 : Int32) (v4 : Int32) (k n : Nat), Sm_ l g E 6 (xe_ en_v) (fX13_init (gE_ g) N m v0 v1 v2 v3 v4) k n 0 [(0, vr_ v0), (1, vr_ v1), (2, vr_ v2), (3, vi_ v3), (4, vi_ v4)] [] m := by
  intro m v0 v1 v2 v3 v4 k n
  unfold fX13_init
  refine s_aload_n C rfl 0 rfl dX13_init_0 1 rfl ?_
  refine s_aload_n C rfl 1 rfl dX13_init_1 2 rfl ?_
  refine x_prF C hin 11 (RX13, TX13, 6) rfl 5 (Nat.le_of_ble_eq_true rfl) rfl q2887 rfl rfl trivial 12 rfl dX13_init_2 5 rfl (fun m1 => ?_)
  refine s_aload_n C rfl 0 rfl dX13_init_5 6 rfl ?_
  refine x_ok (fun hb_ => ?_)
  refine x_obj C hb_ q2848 q152 q153 (by decide) (Nat.le_of_ble_eq_true rfl) dX13_init_6 9 rfl ?_
  refine s_aload_n C rfl 0 rfl dX13_init_9 10 rfl ?_
  refine s_aload_n C rfl 0 rfl dX13_init_10 11 rfl ?_
  refine x_gr C 11 (RX13, TX13, 6) rfl 5 (Nat.le_of_ble_eq_true rfl) q2887 (Or.inl rfl) rfl 12 rfl dX13_init_11 14 rfl (fun x1 => ?_)
  refine x_ck (fun hb_ hb0_ => ?_)
  refine x_callVN (enc := (xe_ en_r)) C 13 0 [] 1 (ctX1_filter C.2.2.2.2.2.2.2.2.1 N m1 x1) hb_ hb0_ rfl rfl q2849 q2683 qs29 q81 q2684 hdX1_filter (Nat.le_of_ble_eq_true rfl) (Nat.le_of_ble_eq_true rfl) rfl (Nat.le_of_ble_eq_true rfl) dX13_init_14 17 rfl rfl (hen_x hen_r) (kk_x (kk_r (fun x2 m2 k1 n1 => ?_))) (kx_x C h0 he_r)
  refine x_prF C hin 11 (RX13, TX13, 6) rfl 0 (Nat.le_of_ble_eq_true rfl) rfl q2882 rfl rfl trivial 12 rfl dX13_init_17 20 rfl (fun m3 => ?_)
  refine s_aload_n C rfl 0 rfl dX13_init_20 21 rfl ?_
  refine s_iconst C 4 rfl dX13_init_21 22 rfl ?_
  refine x_naJ C dX13_init_22 24 rfl (fun x3 m4 => ?_)
  refine x_prF C hin 11 (RX13, TX13, 6) rfl 3 (Nat.le_of_ble_eq_true rfl) rfl q2885 rfl rfl trivial 12 rfl dX13_init_24 27 rfl (fun m5 => ?_)
  refine s_aload_n C rfl 0 rfl dX13_init_27 28 rfl ?_
  refine x_nw C 12 (RJ2, TJ2, 3) rfl q2850 q155 q84 13 3 rfl rfl dX13_init_28 31 rfl (fun x4 m6 => ?_)
  refine s_dup C rfl dX13_init_31 32 rfl ?_
  refine x_callI (enc := en_v) C 12 0 [] (ctJ2_init C.2.2.2.2.2.2.2.2.1 N m6 (some x4)) (fun h => by cases h) rfl q2851 q157 q84 q158 rfl hdJ2_init (Nat.le_of_ble_eq_true rfl) (Nat.le_of_ble_eq_true rfl) rfl (Nat.le_of_ble_eq_true rfl) dX13_init_32 35 rfl rfl hen_v (kk_v (fun m7 k1 n1 => ?_)) (kx_n he_v)
  refine x_prF C hin 11 (RX13, TX13, 6) rfl 4 (Nat.le_of_ble_eq_true rfl) rfl q2886 rfl rfl trivial 12 rfl dX13_init_35 38 rfl (fun m8 => ?_)
  refine s_aload_n C rfl 0 rfl dX13_init_38 39 rfl ?_
  refine s_aload_n C rfl 2 rfl dX13_init_39 40 rfl ?_
  refine x_giN C 1 (RX2, TX2, 12) rfl 3 (Nat.le_of_ble_eq_true rfl) q301 rfl rfl 2 rfl dX13_init_40 43 rfl (fun x5 => ?_)
  refine x_piF C hin 11 (RX13, TX13, 6) rfl 1 (Nat.le_of_ble_eq_true rfl) rfl q2883 rfl rfl trivial 12 rfl dX13_init_43 46 rfl (fun m9 => ?_)
  refine s_aload_n C rfl 0 rfl dX13_init_46 47 rfl ?_
  refine s_iload C 4 rfl dX13_init_47 49 rfl ?_
  refine x_piF C hin 11 (RX13, TX13, 6) rfl 2 (Nat.le_of_ble_eq_true rfl) rfl q2884 rfl rfl trivial 12 rfl dX13_init_49 52 rfl (fun m10 => ?_)
  refine s_aload_n C rfl 1 rfl dX13_init_52 53 rfl ?_
  refine x_grN C 0 (RX1, TX1, 9) rfl 8 (Nat.le_of_ble_eq_true rfl) q454 rfl rfl 1 rfl dX13_init_53 56 rfl (fun x6 => ?_)
  refine x_ck (fun hb_ hb0_ => ?_)
  refine x_callF (enc := en_v) C 10 0 [] 13 (ctJ2_clear C.2.2.2.2.2.2.2.2.1 N m10 x6) hb_ hb0_ rfl rfl rfl fw_2 q2853 q492 q494 q84 q496 hx4 (Nat.le_of_ble_eq_true rfl) (Nat.le_of_ble_eq_true rfl) rfl (Nat.le_of_ble_eq_true rfl) dX13_init_56 61 rfl rfl hen_v (kk_v (fun m11 k1 n1 => ?_)) (kx_n he_v)
  refine s_aload_n C rfl 0 rfl dX13_init_61 62 rfl ?_
  refine s_aload_n C rfl 2 rfl dX13_init_62 63 rfl ?_
  refine s_iload_n C rfl 3 rfl dX13_init_63 64 rfl ?_
  refine s_iconst C 0 rfl dX13_init_64 65 rfl ?_
  refine x_ck (fun hb_ hb0_ => ?_)
  refine x_callV (enc := en_v) C 36 3 [vr_ v2, vi_ v3, vi_ 0] 12 (ctX13_comes C.2.2.2.2.2.2.2.2.1 N m11 v0 v2 v3 0) hb_ hb0_ rfl rfl q2854 q2856 qs30 q145 q2857 hdX13_comes (Nat.le_of_ble_eq_true rfl) (Nat.le_of_ble_eq_true rfl) rfl (Nat.le_of_ble_eq_true rfl) dX13_init_65 68 rfl rfl hen_v (kk_v (fun m12 k1 n1 => ?_)) (kx_n he_v)
  refine Sm_sub [0, 1] rfl ?_
  exact wX13_init_b68 C hret h0 hin N N _ _ _ _ _
theorem hdX13_init : ((⟨"MasterTree$Following", "<init>", "(LMasterTree;LMasterTree$Master;II)V"⟩ : MethodName)).cls ≠ "java/lang/invoke/MethodHandle" ∧ ((⟨"MasterTree$Following", "<init>", "(LMasterTree;LMasterTree$Master;II)V"⟩ : MethodName)).cls ≠ "java/lang/invoke/VarHandle" ∧ (parseMethodDescriptor ((⟨"MasterTree$Following", "<init>", "(LMasterTree;LMasterTree$Master;II)V"⟩ : MethodName)).desc).map (fun d => d.parameters.length) = some 4 := ⟨by decide +kernel, by decide +kernel, by decide +kernel⟩
theorem ctX13_init {l : Launch} {g : GG} (hst : l.stackTraces = false) (N : Nat) (m : Mm) (v0 : Option Nat) (v1 : Option Nat) (v2 : Option Nat) (v3 : Int32) (v4 : Int32) : ∀ v m' k n, fX13_init (gE_ g) N m v0 v1 v2 v3 v4 = some (v, m', k, n) → Ct_ l g (⟨"MasterTree$Following", "<init>", "(LMasterTree;LMasterTree$Master;II)V"⟩ : MethodName) (ws_ (⟨"MasterTree$Following", "<init>", "(LMasterTree;LMasterTree$Master;II)V"⟩ : MethodName) cX13_init 6 (Option.none : Option Jvm.ClassFile.FieldType)) 37 [vr_ v0, vr_ v1, vr_ v2, vi_ v3, vi_ v4] m ((xe_ en_v) v) m' k n :=
  Ct_of (by decide +kernel) rfl hst (Nat.le_of_ble_eq_true rfl) rfl (fun E C hret h0 hin => wX13_init C hret h0 hin N m v0 v1 v2 v3 v4 0 0)
theorem wX1_follow {l : Launch} {g : GG} {E : Me_} (C : Cx_ l g E "MasterTree" cX1_follow 5 38) (hret : (eT_ E).sig.returnType = (Option.some Jvm.ClassFile.FieldType.int)) (h0 : ∀ x ∈ (eC_ E).exceptionTable.toList, False) (hin : (eT_ E).name = "follow") (N : Nat) : ∀ (m : Mm) (v0 : Option Nat) (v1 : Int32) (v2 : Int32) (v3 : Int32) (k n : Nat), Sm_ l g E 5 (xe_ en_i) (fX1_follow (gE_ g) N m v0 v1 v2 v3) k n 0 [(0, vr_ v0), (1, vi_ v1), (2, vi_ v2), (3, vi_ v3)] [] m := by
  intro m v0 v1 v2 v3 k n
  unfold fX1_follow
  refine s_aload_n C rfl 0 rfl dX1_follow_0 1 rfl ?_
  refine s_iload_n C rfl 1 rfl dX1_follow_1 2 rfl ?_
  refine s_iload_n C rfl 2 rfl dX1_follow_2 3 rfl ?_
  refine s_iload_n C rfl 3 rfl dX1_follow_3 4 rfl ?_
  refine x_ck (fun hb_ hb0_ => ?_)
  refine x_callV (enc := (xe_ en_r)) C 18 3 [vi_ v1, vi_ v2, vi_ v3] 1 (ctX1_searched C.2.2.2.2.2.2.2.2.1 N m v0 v1 v2 v3) hb_ hb0_ rfl rfl q2677 q2679 qs28 q81 q2680 hdX1_searched (Nat.le_of_ble_eq_true rfl) (Nat.le_of_ble_eq_true rfl) rfl (Nat.le_of_ble_eq_true rfl) dX1_follow_4 7 rfl rfl (hen_x hen_r) (kk_x (kk_r (fun x1 m1 k1 n1 => ?_))) (kx_x C h0 he_r)
  refine s_astore C (Nat.le_of_ble_eq_true rfl) [0, 2, 3] rfl rfl dX1_follow_7 9 rfl ?_
  refine s_aload_n C rfl 1 rfl dX1_follow_9 10 rfl ?_
  refine x_ck (fun hb_ hb0_ => ?_)
  refine x_callV (enc := (xe_ en_r)) C 13 0 [] 1 (ctX1_filter C.2.2.2.2.2.2.2.2.1 N m1 v0) hb_ hb0_ rfl rfl q2681 q2683 qs29 q81 q2684 hdX1_filter (Nat.le_of_ble_eq_true rfl) (Nat.le_of_ble_eq_true rfl) rfl (Nat.le_of_ble_eq_true rfl) dX1_follow_10 13 rfl rfl (hen_x hen_r) (kk_x (kk_r (fun x2 m2 k1 n1 => ?_))) (kx_x C h0 he_r)
  refine s_pop C rfl dX1_follow_13 14 rfl ?_
  refine x_nw C 11 (RX13, TX13, 6) rfl q2843 q2844 q145 12 6 rfl rfl dX1_follow_14 17 rfl (fun x3 m3 => ?_)
  refine s_dup C rfl dX1_follow_17 18 rfl ?_
  refine s_aload_n C rfl 1 rfl dX1_follow_18 19 rfl ?_
  refine s_aload C 0 rfl dX1_follow_19 21 rfl ?_
  refine s_iload_n C rfl 2 rfl dX1_follow_21 22 rfl ?_
  refine s_iload_n C rfl 3 rfl dX1_follow_22 23 rfl ?_
  refine x_callI (enc := (xe_ en_v)) C 37 4 [vr_ v0, vr_ x1, vi_ v2, vi_ v3] (ctX13_init C.2.2.2.2.2.2.2.2.1 N m3 (some x3) v0 x1 v2 v3) (fun h => by cases h) rfl q2845 q2846 q145 q2847 rfl hdX13_init (Nat.le_of_ble_eq_true rfl) (Nat.le_of_ble_eq_true rfl) rfl (Nat.le_of_ble_eq_true rfl) dX1_follow_23 26 rfl rfl (hen_x hen_v) (kk_x (kk_v (fun m4 k1 n1 => ?_))) (kx_x C h0 he_v)
  refine s_pop C rfl dX1_follow_26 27 rfl ?_
  refine s_aload_n C rfl 1 rfl dX1_follow_27 28 rfl ?_
  refine x_gr C 0 (RX1, TX1, 9) rfl 8 (Nat.le_of_ble_eq_true rfl) q455 (Or.inl rfl) rfl 1 rfl dX1_follow_28 31 rfl (fun x4 => ?_)
  refine x_ck (fun hb_ hb0_ => ?_)
  refine x_callF (enc := en_i) C 10 0 [] 13 (ctJ2_size C.2.2.2.2.2.2.2.2.1 N m4 x4) hb_ hb0_ rfl rfl rfl fw_1 q480 q483 q485 q84 q487 hx1 (Nat.le_of_ble_eq_true rfl) (Nat.le_of_ble_eq_true rfl) rfl (Nat.le_of_ble_eq_true rfl) dX1_follow_31 36 rfl rfl hen_i (kk_i (fun x5 m5 k1 n1 => ?_)) (kx_n he_i)
  exact x_iret C hret rfl dX1_follow_36
theorem hdX1_follow : ((⟨"MasterTree", "follow", "(III)I"⟩ : MethodName)).cls ≠ "java/lang/invoke/MethodHandle" ∧ ((⟨"MasterTree", "follow", "(III)I"⟩ : MethodName)).cls ≠ "java/lang/invoke/VarHandle" ∧ (parseMethodDescriptor ((⟨"MasterTree", "follow", "(III)I"⟩ : MethodName)).desc).map (fun d => d.parameters.length) = some 3 := ⟨by decide +kernel, by decide +kernel, by decide +kernel⟩
theorem ctX1_follow {l : Launch} {g : GG} (hst : l.stackTraces = false) (N : Nat) (m : Mm) (v0 : Option Nat) (v1 : Int32) (v2 : Int32) (v3 : Int32) : ∀ v m' k n, fX1_follow (gE_ g) N m v0 v1 v2 v3 = some (v, m', k, n) → Ct_ l g (⟨"MasterTree", "follow", "(III)I"⟩ : MethodName) (ws_ (⟨"MasterTree", "follow", "(III)I"⟩ : MethodName) cX1_follow 5 (Option.some Jvm.ClassFile.FieldType.int)) 38 [vr_ v0, vi_ v1, vi_ v2, vi_ v3] m ((xe_ en_i) v) m' k n :=
  Ct_of (by decide +kernel) rfl hst (Nat.le_of_ble_eq_true rfl) rfl (fun E C hret h0 hin => wX1_follow C hret h0 hin N m v0 v1 v2 v3 0 0)
theorem wX0_follow {l : Launch} {g : GG} {E : Me_} (C : Cx_ l g E "MasterTreeLaw" cX0_follow 6 39) (hret : (eT_ E).sig.returnType = (Option.some Jvm.ClassFile.FieldType.int)) (h0 : (eC_ E).exceptionTable.toList = tableOf [(0, 12, 15, 19), (0, 12, 19, 13)]) (hin : (eT_ E).name = "follow") (N : Nat) : ∀ (m : Mm) (v0 : Option Nat) (v1 : Int32) (v2 : Int32) (v3 : Int32) (v4 : Option Nat) (k n : Nat), Sm_ l g E 6 en_i (fX0_follow (gE_ g) N m v0 v1 v2 v3 v4) k n 0 [(0, vr_ v0), (1, vi_ v1), (2, vi_ v2), (3, vi_ v3), (4, vr_ v4)] [] m := by
  intro m v0 v1 v2 v3 v4 k n
  unfold fX0_follow
  refine s_aload C 4 rfl dX0_follow_0 2 rfl ?_
  refine s_iconst C 0 rfl dX0_follow_2 3 rfl ?_
  refine s_aload_n C rfl 0 rfl dX0_follow_3 4 rfl ?_
  refine s_iload_n C rfl 1 rfl dX0_follow_4 5 rfl ?_
  refine s_iload_n C rfl 2 rfl dX0_follow_5 6 rfl ?_
  refine s_iload_n C rfl 3 rfl dX0_follow_6 7 rfl ?_
  refine x_ck (fun hb_ hb0_ => ?_)
  refine x_callV (enc := (xe_ en_i)) C 38 3 [vi_ v1, vi_ v2, vi_ v3] 1 (ctX1_follow C.2.2.2.2.2.2.2.2.1 N m v0 v1 v2 v3) hb_ hb0_ rfl rfl q2839 q2840 q2841 q81 q2842 hdX1_follow (Nat.le_of_ble_eq_true rfl) (Nat.le_of_ble_eq_true rfl) rfl (Nat.le_of_ble_eq_true rfl) dX0_follow_7 10 rfl rfl (hen_x hen_i) (kk_c (kk_i (fun x1 m1 k1 n1 => ?_))) (kx_c he_i (fun i_ m0 k0 n0 => ?_))
  · refine s_i2l C dX0_follow_10 11 rfl ?_
    refine x_bj3 C 203 rfl dX0_follow_11 12 rfl (fun m2 => ?_)
    refine s_goto C (off := 11) 23 dX0_follow_12 rfl ?_
    refine s_iconst C 0 rfl dX0_follow_23 24 rfl ?_
    exact x_iret C hret rfl dX0_follow_24
  · refine Sx_if ?_ ?_
    · refine Sx_ctch C h0 0 [] ({ startPc := 0, endPc := 12, handlerPc := 15, catchType := 19 } : ExceptionTableEntry) [{ startPc := 0, endPc := 12, handlerPc := 19, catchType := 13 }] rfl (fun z hz => by cases hz) (by decide) (by decide) q600 q638 15 rfl (fun q_ => ?_)
      refine s_astore C (Nat.le_of_ble_eq_true rfl) [] rfl rfl dX0_follow_15 17 rfl ?_
      refine s_iconst C 1 rfl dX0_follow_17 18 rfl ?_
      exact x_iret C hret rfl dX0_follow_18
    refine Sx_if ?_ ?_
    · refine Sx_ctch C h0 2 [{ startPc := 0, endPc := 12, handlerPc := 15, catchType := 19 }] ({ startPc := 0, endPc := 12, handlerPc := 19, catchType := 13 } : ExceptionTableEntry) [] rfl (List.forall_mem_cons.mpr ⟨Or.inr ⟨by decide, "java/lang/IndexOutOfBoundsException", q600, List.mem_of_getElem? (i := 4) rfl⟩, fun z hz => by cases hz⟩) (by decide) (by decide) q504 q515 19 rfl (fun q_ => ?_)
      refine s_astore C (Nat.le_of_ble_eq_true rfl) [] rfl rfl dX0_follow_19 21 rfl ?_
      refine s_iconst C 2 rfl dX0_follow_21 22 rfl ?_
      exact x_iret C hret rfl dX0_follow_22
    exact Sx_none
theorem hdX0_follow : ((⟨"MasterTreeLaw", "follow", "(LMasterTree;III[J)I"⟩ : MethodName)).cls ≠ "java/lang/invoke/MethodHandle" ∧ ((⟨"MasterTreeLaw", "follow", "(LMasterTree;III[J)I"⟩ : MethodName)).cls ≠ "java/lang/invoke/VarHandle" ∧ (parseMethodDescriptor ((⟨"MasterTreeLaw", "follow", "(LMasterTree;III[J)I"⟩ : MethodName)).desc).map (fun d => d.parameters.length) = some 5 := ⟨by decide +kernel, by decide +kernel, by decide +kernel⟩
theorem ctX0_follow {l : Launch} {g : GG} (hst : l.stackTraces = false) (N : Nat) (m : Mm) (v0 : Option Nat) (v1 : Int32) (v2 : Int32) (v3 : Int32) (v4 : Option Nat) : ∀ v m' k n, fX0_follow (gE_ g) N m v0 v1 v2 v3 v4 = some (v, m', k, n) → Ct_ l g (⟨"MasterTreeLaw", "follow", "(LMasterTree;III[J)I"⟩ : MethodName) (wsW_ (⟨"MasterTreeLaw", "follow", "(LMasterTree;III[J)I"⟩ : MethodName) cX0_follow 6 (Option.some Jvm.ClassFile.FieldType.int) [(0, 12, 15, 19), (0, 12, 19, 13)]) 39 [vr_ v0, vi_ v1, vi_ v2, vi_ v3, vr_ v4] m (en_i v) m' k n :=
  Ct_ofW (by decide +kernel) rfl hst (Nat.le_of_ble_eq_true rfl) rfl (fun E C hret h0 hin => wX0_follow C hret h0 hin N m v0 v1 v2 v3 v4 0 0)
theorem wX1_found {l : Launch} {g : GG} {E : Me_} (C : Cx_ l g E "MasterTree" cX1_found 2 17) (hret : (eT_ E).sig.returnType = (Option.some Jvm.ClassFile.FieldType.int)) (h0 : ∀ x ∈ (eC_ E).exceptionTable.toList, False) (hin : (eT_ E).name = "found") (N : Nat) : ∀ (m : Mm) (v0 : Option Nat) (v1 : Int32) (k n : Nat), Sm_ l g E 2 (xe_ en_i) (fX1_found (gE_ g) N m v0 v1) k n 0 [(0, vr_ v0), (1, vi_ v1)] [] m := by
  intro m v0 v1 k n
  unfold fX1_found
  refine s_aload_n C rfl 0 rfl dX1_found_0 1 rfl ?_
  refine x_gr C 0 (RX1, TX1, 9) rfl 8 (Nat.le_of_ble_eq_true rfl) q455 (Or.inl rfl) rfl 1 rfl dX1_found_1 4 rfl (fun x1 => ?_)
  refine s_iload_n C rfl 1 rfl dX1_found_4 5 rfl ?_
  refine s_aload_n C rfl 0 rfl dX1_found_5 6 rfl ?_
  refine x_gr C 0 (RX1, TX1, 9) rfl 8 (Nat.le_of_ble_eq_true rfl) q455 (Or.inl rfl) rfl 1 rfl dX1_found_6 9 rfl (fun x2 => ?_)
  refine x_ck (fun hb_ hb0_ => ?_)
  refine x_callF (enc := en_i) C 10 0 [] 13 (ctJ2_size C.2.2.2.2.2.2.2.2.1 N m x2) hb_ hb0_ rfl rfl rfl fw_1 q480 q483 q485 q84 q487 hx1 (Nat.le_of_ble_eq_true rfl) (Nat.le_of_ble_eq_true rfl) rfl (Nat.le_of_ble_eq_true rfl) dX1_found_9 14 rfl rfl hen_i (kk_i (fun x3 m1 k1 n1 => ?_)) (kx_n he_i)
  refine x_lsw C 37 37 rfl dX1_found_14 17 rfl ?_
  refine x_callS (enc := (xe_ en_i)) C 16 3 [vi_ v1, vi_ x3, vr_ (some (gE_ g (100 + 37)))] (ctX1_place C.2.2.2.2.2.2.2.2.1 N m1 v1 x3 (some (gE_ g (100 + 37)))) q633 q634 q81 q635 hdX1_place (Nat.le_of_ble_eq_true rfl) (Nat.le_of_ble_eq_true rfl) rfl (Nat.le_of_ble_eq_true rfl) dX1_found_17 20 rfl rfl (hen_x hen_i) (kk_x (kk_i (fun x4 m2 k1 n1 => ?_))) (kx_x C h0 he_i)
  refine x_ck (fun hb_ hb0_ => ?_)
  refine x_callF (enc := en_r) C 12 1 [vi_ x4] 13 (ctJ2_get C.2.2.2.2.2.2.2.2.1 N m2 x1 x4) hb_ hb0_ rfl rfl rfl fw_3 q888 q891 q893 q84 q895 hx2 (Nat.le_of_ble_eq_true rfl) (Nat.le_of_ble_eq_true rfl) rfl (Nat.le_of_ble_eq_true rfl) dX1_found_20 25 rfl rfl hen_r (kk_r (fun x5 m3 k1 n1 => ?_)) (kx_n he_r)
  refine x_cc C "java/lang/Integer" [27] (fun k hk => by rw [List.mem_singleton.mp hk]; exact ⟨rfl, Or.inr rfl⟩) q2793 dX1_found_25 28 rfl ?_
  refine x_ck (fun hb_ hb0_ => ?_)
  refine x_callV (enc := en_i) C 10 0 [] 27 (ctJ21_intValue C.2.2.2.2.2.2.2.2.1 N m3 x5) hb_ hb0_ rfl rfl q2794 q1585 q1586 q108 q1587 hdJ21_intValue (Nat.le_of_ble_eq_true rfl) (Nat.le_of_ble_eq_true rfl) rfl (Nat.le_of_ble_eq_true rfl) dX1_found_28 31 rfl rfl hen_i (kk_i (fun x6 m4 k1 n1 => ?_)) (kx_n he_i)
  exact x_iret C hret rfl dX1_found_31
theorem hdX1_found : ((⟨"MasterTree", "found", "(I)I"⟩ : MethodName)).cls ≠ "java/lang/invoke/MethodHandle" ∧ ((⟨"MasterTree", "found", "(I)I"⟩ : MethodName)).cls ≠ "java/lang/invoke/VarHandle" ∧ (parseMethodDescriptor ((⟨"MasterTree", "found", "(I)I"⟩ : MethodName)).desc).map (fun d => d.parameters.length) = some 1 := ⟨by decide +kernel, by decide +kernel, by decide +kernel⟩
theorem ctX1_found {l : Launch} {g : GG} (hst : l.stackTraces = false) (N : Nat) (m : Mm) (v0 : Option Nat) (v1 : Int32) : ∀ v m' k n, fX1_found (gE_ g) N m v0 v1 = some (v, m', k, n) → Ct_ l g (⟨"MasterTree", "found", "(I)I"⟩ : MethodName) (ws_ (⟨"MasterTree", "found", "(I)I"⟩ : MethodName) cX1_found 2 (Option.some Jvm.ClassFile.FieldType.int)) 17 [vr_ v0, vi_ v1] m ((xe_ en_i) v) m' k n :=
  Ct_of (by decide +kernel) rfl hst (Nat.le_of_ble_eq_true rfl) rfl (fun E C hret h0 hin => wX1_found C hret h0 hin N m v0 v1 0 0)
theorem wX0_found {l : Launch} {g : GG} {E : Me_} (C : Cx_ l g E "MasterTreeLaw" cX0_found 4 18) (hret : (eT_ E).sig.returnType = (Option.some Jvm.ClassFile.FieldType.int)) (h0 : (eC_ E).exceptionTable.toList = tableOf [(0, 9, 12, 19)]) (hin : (eT_ E).name = "found") (N : Nat) : ∀ (m : Mm) (v0 : Option Nat) (v1 : Int32) (v2 : Option Nat) (k n : Nat), Sm_ l g E 4 en_i (fX0_found (gE_ g) N m v0 v1 v2) k n 0 [(0, vr_ v0), (1, vi_ v1), (2, vr_ v2)] [] m := by
  intro m v0 v1 v2 k n
  unfold fX0_found
  refine s_aload_n C rfl 2 rfl dX0_found_0 1 rfl ?_
  refine s_iconst C 0 rfl dX0_found_1 2 rfl ?_
  refine s_aload_n C rfl 0 rfl dX0_found_2 3 rfl ?_
  refine s_iload_n C rfl 1 rfl dX0_found_3 4 rfl ?_
  refine x_ck (fun hb_ hb0_ => ?_)
  refine x_callV (enc := (xe_ en_i)) C 17 1 [vi_ v1] 1 (ctX1_found C.2.2.2.2.2.2.2.2.1 N m v0 v1) hb_ hb0_ rfl rfl q2904 q2905 q2906 q81 q2907 hdX1_found (Nat.le_of_ble_eq_true rfl) (Nat.le_of_ble_eq_true rfl) rfl (Nat.le_of_ble_eq_true rfl) dX0_found_4 7 rfl rfl (hen_x hen_i) (kk_c (kk_i (fun x1 m1 k1 n1 => ?_))) (kx_c he_i (fun i_ m0 k0 n0 => ?_))
  · refine s_i2l C dX0_found_7 8 rfl ?_
    refine x_bj3 C 203 rfl dX0_found_8 9 rfl (fun m2 => ?_)
    refine s_goto C (off := 6) 15 dX0_found_9 rfl ?_
    refine s_iconst C 0 rfl dX0_found_15 16 rfl ?_
    exact x_iret C hret rfl dX0_found_16
  · refine Sx_if ?_ ?_
    · refine Sx_ctch C h0 0 [] ({ startPc := 0, endPc := 9, handlerPc := 12, catchType := 19 } : ExceptionTableEntry) [] rfl (fun z hz => by cases hz) (by decide) (by decide) q600 q638 12 rfl (fun q_ => ?_)
      refine s_astore_n C rfl (Nat.le_of_ble_eq_true rfl) [] rfl rfl dX0_found_12 13 rfl ?_
      refine s_iconst C 1 rfl dX0_found_13 14 rfl ?_
      exact x_iret C hret rfl dX0_found_14
    exact Sx_none
theorem hdX0_found : ((⟨"MasterTreeLaw", "found", "(LMasterTree;I[J)I"⟩ : MethodName)).cls ≠ "java/lang/invoke/MethodHandle" ∧ ((⟨"MasterTreeLaw", "found", "(LMasterTree;I[J)I"⟩ : MethodName)).cls ≠ "java/lang/invoke/VarHandle" ∧ (parseMethodDescriptor ((⟨"MasterTreeLaw", "found", "(LMasterTree;I[J)I"⟩ : MethodName)).desc).map (fun d => d.parameters.length) = some 3 := ⟨by decide +kernel, by decide +kernel, by decide +kernel⟩
theorem ctX0_found {l : Launch} {g : GG} (hst : l.stackTraces = false) (N : Nat) (m : Mm) (v0 : Option Nat) (v1 : Int32) (v2 : Option Nat) : ∀ v m' k n, fX0_found (gE_ g) N m v0 v1 v2 = some (v, m', k, n) → Ct_ l g (⟨"MasterTreeLaw", "found", "(LMasterTree;I[J)I"⟩ : MethodName) (wsW_ (⟨"MasterTreeLaw", "found", "(LMasterTree;I[J)I"⟩ : MethodName) cX0_found 4 (Option.some Jvm.ClassFile.FieldType.int) [(0, 9, 12, 19)]) 18 [vr_ v0, vi_ v1, vr_ v2] m (en_i v) m' k n :=
  Ct_ofW (by decide +kernel) rfl hst (Nat.le_of_ble_eq_true rfl) rfl (fun E C hret h0 hin => wX0_found C hret h0 hin N m v0 v1 v2 0 0)
theorem wX1_live {l : Launch} {g : GG} {E : Me_} (C : Cx_ l g E "MasterTree" cX1_live 2 18) (hret : (eT_ E).sig.returnType = (Option.some Jvm.ClassFile.FieldType.int)) (h0 : ∀ x ∈ (eC_ E).exceptionTable.toList, False) (hin : (eT_ E).name = "live") (N : Nat) : ∀ (m : Mm) (v0 : Option Nat) (v1 : Int32) (k n : Nat), Sm_ l g E 2 (xe_ en_i) (fX1_live (gE_ g) N m v0 v1) k n 0 [(0, vr_ v0), (1, vi_ v1)] [] m := by
  intro m v0 v1 k n
  unfold fX1_live
  refine s_aload_n C rfl 0 rfl dX1_live_0 1 rfl ?_
  refine s_iload_n C rfl 1 rfl dX1_live_1 2 rfl ?_
  refine x_ck (fun hb_ hb0_ => ?_)
  refine x_callV (enc := (xe_ en_r)) C 17 1 [vi_ v1] 1 (ctX1_at C.2.2.2.2.2.2.2.2.1 N m v0 v1) hb_ hb0_ rfl rfl q934 q936 qs5 q81 q937 hdX1_at (Nat.le_of_ble_eq_true rfl) (Nat.le_of_ble_eq_true rfl) rfl (Nat.le_of_ble_eq_true rfl) dX1_live_2 5 rfl rfl (hen_x hen_r) (kk_x (kk_r (fun x1 m1 k1 n1 => ?_))) (kx_x C h0 he_r)
  refine x_ck (fun hb_ hb0_ => ?_)
  refine x_callV (enc := en_j) C 12 0 [] 2 (ctX2_liveOnes C.2.2.2.2.2.2.2.2.1 N m1 x1) hb_ hb0_ rfl rfl q2916 q2776 q2777 q85 q2778 hdX2_liveOnes (Nat.le_of_ble_eq_true rfl) (Nat.le_of_ble_eq_true rfl) rfl (Nat.le_of_ble_eq_true rfl) dX1_live_5 8 rfl rfl hen_j (kk_j (fun x2 m2 k1 n1 => ?_)) (kx_n he_j)
  refine x_callS (enc := en_i) C 10 1 [vj_ x2] (ctJ28_bitCount C.2.2.2.2.2.2.2.2.1 N m2 x2) q2499 q2500 q116 q2501 hdJ28_bitCount (Nat.le_of_ble_eq_true rfl) (Nat.le_of_ble_eq_true rfl) rfl (Nat.le_of_ble_eq_true rfl) dX1_live_8 11 rfl rfl hen_i (kk_i (fun x3 m3 k1 n1 => ?_)) (kx_n he_i)
  exact x_iret C hret rfl dX1_live_11
theorem hdX1_live : ((⟨"MasterTree", "live", "(I)I"⟩ : MethodName)).cls ≠ "java/lang/invoke/MethodHandle" ∧ ((⟨"MasterTree", "live", "(I)I"⟩ : MethodName)).cls ≠ "java/lang/invoke/VarHandle" ∧ (parseMethodDescriptor ((⟨"MasterTree", "live", "(I)I"⟩ : MethodName)).desc).map (fun d => d.parameters.length) = some 1 := ⟨by decide +kernel, by decide +kernel, by decide +kernel⟩
theorem ctX1_live {l : Launch} {g : GG} (hst : l.stackTraces = false) (N : Nat) (m : Mm) (v0 : Option Nat) (v1 : Int32) : ∀ v m' k n, fX1_live (gE_ g) N m v0 v1 = some (v, m', k, n) → Ct_ l g (⟨"MasterTree", "live", "(I)I"⟩ : MethodName) (ws_ (⟨"MasterTree", "live", "(I)I"⟩ : MethodName) cX1_live 2 (Option.some Jvm.ClassFile.FieldType.int)) 18 [vr_ v0, vi_ v1] m ((xe_ en_i) v) m' k n :=
  Ct_of (by decide +kernel) rfl hst (Nat.le_of_ble_eq_true rfl) rfl (fun E C hret h0 hin => wX1_live C hret h0 hin N m v0 v1 0 0)
theorem wX0_live {l : Launch} {g : GG} {E : Me_} (C : Cx_ l g E "MasterTreeLaw" cX0_live 4 19) (hret : (eT_ E).sig.returnType = (Option.some Jvm.ClassFile.FieldType.int)) (h0 : (eC_ E).exceptionTable.toList = tableOf [(0, 9, 12, 19)]) (hin : (eT_ E).name = "live") (N : Nat) : ∀ (m : Mm) (v0 : Option Nat) (v1 : Int32) (v2 : Option Nat) (k n : Nat), Sm_ l g E 4 en_i (fX0_live (gE_ g) N m v0 v1 v2) k n 0 [(0, vr_ v0), (1, vi_ v1), (2, vr_ v2)] [] m := by
  intro m v0 v1 v2 k n
  unfold fX0_live
  refine s_aload_n C rfl 2 rfl dX0_live_0 1 rfl ?_
  refine s_iconst C 0 rfl dX0_live_1 2 rfl ?_
  refine s_aload_n C rfl 0 rfl dX0_live_2 3 rfl ?_
  refine s_iload_n C rfl 1 rfl dX0_live_3 4 rfl ?_
  refine x_ck (fun hb_ hb0_ => ?_)
  refine x_callV (enc := (xe_ en_i)) C 18 1 [vi_ v1] 1 (ctX1_live C.2.2.2.2.2.2.2.2.1 N m v0 v1) hb_ hb0_ rfl rfl q2912 q2913 q2914 q81 q2915 hdX1_live (Nat.le_of_ble_eq_true rfl) (Nat.le_of_ble_eq_true rfl) rfl (Nat.le_of_ble_eq_true rfl) dX0_live_4 7 rfl rfl (hen_x hen_i) (kk_c (kk_i (fun x1 m1 k1 n1 => ?_))) (kx_c he_i (fun i_ m0 k0 n0 => ?_))
  · refine s_i2l C dX0_live_7 8 rfl ?_
    refine x_bj3 C 203 rfl dX0_live_8 9 rfl (fun m2 => ?_)
    refine s_goto C (off := 6) 15 dX0_live_9 rfl ?_
    refine s_iconst C 0 rfl dX0_live_15 16 rfl ?_
    exact x_iret C hret rfl dX0_live_16
  · refine Sx_if ?_ ?_
    · refine Sx_ctch C h0 0 [] ({ startPc := 0, endPc := 9, handlerPc := 12, catchType := 19 } : ExceptionTableEntry) [] rfl (fun z hz => by cases hz) (by decide) (by decide) q600 q638 12 rfl (fun q_ => ?_)
      refine s_astore_n C rfl (Nat.le_of_ble_eq_true rfl) [] rfl rfl dX0_live_12 13 rfl ?_
      refine s_iconst C 1 rfl dX0_live_13 14 rfl ?_
      exact x_iret C hret rfl dX0_live_14
    exact Sx_none
theorem hdX0_live : ((⟨"MasterTreeLaw", "live", "(LMasterTree;I[J)I"⟩ : MethodName)).cls ≠ "java/lang/invoke/MethodHandle" ∧ ((⟨"MasterTreeLaw", "live", "(LMasterTree;I[J)I"⟩ : MethodName)).cls ≠ "java/lang/invoke/VarHandle" ∧ (parseMethodDescriptor ((⟨"MasterTreeLaw", "live", "(LMasterTree;I[J)I"⟩ : MethodName)).desc).map (fun d => d.parameters.length) = some 3 := ⟨by decide +kernel, by decide +kernel, by decide +kernel⟩
theorem ctX0_live {l : Launch} {g : GG} (hst : l.stackTraces = false) (N : Nat) (m : Mm) (v0 : Option Nat) (v1 : Int32) (v2 : Option Nat) : ∀ v m' k n, fX0_live (gE_ g) N m v0 v1 v2 = some (v, m', k, n) → Ct_ l g (⟨"MasterTreeLaw", "live", "(LMasterTree;I[J)I"⟩ : MethodName) (wsW_ (⟨"MasterTreeLaw", "live", "(LMasterTree;I[J)I"⟩ : MethodName) cX0_live 4 (Option.some Jvm.ClassFile.FieldType.int) [(0, 9, 12, 19)]) 19 [vr_ v0, vi_ v1, vr_ v2] m (en_i v) m' k n :=
  Ct_ofW (by decide +kernel) rfl hst (Nat.le_of_ble_eq_true rfl) rfl (fun E C hret h0 hin => wX0_live C hret h0 hin N m v0 v1 v2 0 0)
theorem wX1_parentOf {l : Launch} {g : GG} {E : Me_} (C : Cx_ l g E "MasterTree" cX1_parentOf 4 18) (hret : (eT_ E).sig.returnType = (Option.some Jvm.ClassFile.FieldType.int)) (h0 : ∀ x ∈ (eC_ E).exceptionTable.toList, False) (hin : (eT_ E).name = "parentOf") (N : Nat) : ∀ (m : Mm) (v0 : Option Nat) (v1 : Int32) (v2 : Int32) (k n : Nat), Sm_ l g E 4 (xe_ en_i) (fX1_parentOf (gE_ g) N m v0 v1 v2) k n 0 [(0, vr_ v0), (1, vi_ v1), (2, vi_ v2)] [] m := by
  intro m v0 v1 v2 k n
  unfold fX1_parentOf
  refine s_aload_n C rfl 0 rfl dX1_parentOf_0 1 rfl ?_
  refine s_iload_n C rfl 1 rfl dX1_parentOf_1 2 rfl ?_
  refine x_ck (fun hb_ hb0_ => ?_)
  refine x_callV (enc := (xe_ en_r)) C 17 1 [vi_ v1] 1 (ctX1_at C.2.2.2.2.2.2.2.2.1 N m v0 v1) hb_ hb0_ rfl rfl q934 q936 qs5 q81 q937 hdX1_at (Nat.le_of_ble_eq_true rfl) (Nat.le_of_ble_eq_true rfl) rfl (Nat.le_of_ble_eq_true rfl) dX1_parentOf_2 5 rfl rfl (hen_x hen_r) (kk_x (kk_r (fun x1 m1 k1 n1 => ?_))) (kx_x C h0 he_r)
  refine s_astore_n C rfl (Nat.le_of_ble_eq_true rfl) [2] rfl rfl dX1_parentOf_5 6 rfl ?_
  refine s_aload_n C rfl 0 rfl dX1_parentOf_6 7 rfl ?_
  refine s_iload_n C rfl 1 rfl dX1_parentOf_7 8 rfl ?_
  refine x_callS (enc := (xe_ en_r)) C 16 2 [vr_ x1, vi_ v2] (ctX1_liveAt C.2.2.2.2.2.2.2.2.1 N m1 x1 v2) q968 q969 q81 q970 hdX1_liveAt (Nat.le_of_ble_eq_true rfl) (Nat.le_of_ble_eq_true rfl) rfl (Nat.le_of_ble_eq_true rfl) dX1_parentOf_8 11 rfl rfl (hen_x hen_r) (kk_x (kk_r (fun x2 m2 k1 n1 => ?_))) (kx_x C h0 he_r)
  refine s_pop C rfl dX1_parentOf_11 12 rfl ?_
  refine s_aload_n C rfl 0 rfl dX1_parentOf_12 13 rfl ?_
  refine s_iload_n C rfl 1 rfl dX1_parentOf_13 14 rfl ?_
  refine x_ck (fun hb_ hb0_ => ?_)
  refine x_callV (enc := en_i) C 12 1 [vi_ v2] 2 (ctX2_shownAt C.2.2.2.2.2.2.2.2.1 N m2 x1 v2) hb_ hb0_ rfl rfl q2460 q1655 q1656 q85 q1657 hdX2_shownAt (Nat.le_of_ble_eq_true rfl) (Nat.le_of_ble_eq_true rfl) rfl (Nat.le_of_ble_eq_true rfl) dX1_parentOf_14 17 rfl rfl hen_i (kk_i (fun x3 m3 k1 n1 => ?_)) (kx_n he_i)
  exact x_iret C hret rfl dX1_parentOf_17
theorem hdX1_parentOf : ((⟨"MasterTree", "parentOf", "(II)I"⟩ : MethodName)).cls ≠ "java/lang/invoke/MethodHandle" ∧ ((⟨"MasterTree", "parentOf", "(II)I"⟩ : MethodName)).cls ≠ "java/lang/invoke/VarHandle" ∧ (parseMethodDescriptor ((⟨"MasterTree", "parentOf", "(II)I"⟩ : MethodName)).desc).map (fun d => d.parameters.length) = some 2 := ⟨by decide +kernel, by decide +kernel, by decide +kernel⟩
theorem ctX1_parentOf {l : Launch} {g : GG} (hst : l.stackTraces = false) (N : Nat) (m : Mm) (v0 : Option Nat) (v1 : Int32) (v2 : Int32) : ∀ v m' k n, fX1_parentOf (gE_ g) N m v0 v1 v2 = some (v, m', k, n) → Ct_ l g (⟨"MasterTree", "parentOf", "(II)I"⟩ : MethodName) (ws_ (⟨"MasterTree", "parentOf", "(II)I"⟩ : MethodName) cX1_parentOf 4 (Option.some Jvm.ClassFile.FieldType.int)) 18 [vr_ v0, vi_ v1, vi_ v2] m ((xe_ en_i) v) m' k n :=
  Ct_of (by decide +kernel) rfl hst (Nat.le_of_ble_eq_true rfl) rfl (fun E C hret h0 hin => wX1_parentOf C hret h0 hin N m v0 v1 v2 0 0)
theorem wX0_parentOf {l : Launch} {g : GG} {E : Me_} (C : Cx_ l g E "MasterTreeLaw" cX0_parentOf 5 19) (hret : (eT_ E).sig.returnType = (Option.some Jvm.ClassFile.FieldType.int)) (h0 : (eC_ E).exceptionTable.toList = tableOf [(0, 10, 13, 19)]) (hin : (eT_ E).name = "parentOf") (N : Nat) : ∀ (m : Mm) (v0 : Option Nat) (v1 : Int32) (v2 : Int32) (v3 : Option Nat) (k n : Nat), Sm_ l g E 5 en_i (fX0_parentOf (gE_ g) N m v0 v1 v2 v3) k n 0 [(0, vr_ v0), (1, vi_ v1), (2, vi_ v2), (3, vr_ v3)] [] m := by
  intro m v0 v1 v2 v3 k n
  unfold fX0_parentOf
  refine s_aload_n C rfl 3 rfl dX0_parentOf_0 1 rfl ?_
  refine s_iconst C 0 rfl dX0_parentOf_1 2 rfl ?_
  refine s_aload_n C rfl 0 rfl dX0_parentOf_2 3 rfl ?_
  refine s_iload_n C rfl 1 rfl dX0_parentOf_3 4 rfl ?_
  refine s_iload_n C rfl 2 rfl dX0_parentOf_4 5 rfl ?_
  refine x_ck (fun hb_ hb0_ => ?_)
  refine x_callV (enc := (xe_ en_i)) C 18 2 [vi_ v1, vi_ v2] 1 (ctX1_parentOf C.2.2.2.2.2.2.2.2.1 N m v0 v1 v2) hb_ hb0_ rfl rfl q2920 q2921 q2922 q81 q2923 hdX1_parentOf (Nat.le_of_ble_eq_true rfl) (Nat.le_of_ble_eq_true rfl) rfl (Nat.le_of_ble_eq_true rfl) dX0_parentOf_5 8 rfl rfl (hen_x hen_i) (kk_c (kk_i (fun x1 m1 k1 n1 => ?_))) (kx_c he_i (fun i_ m0 k0 n0 => ?_))
  · refine s_i2l C dX0_parentOf_8 9 rfl ?_
    refine x_bj3 C 203 rfl dX0_parentOf_9 10 rfl (fun m2 => ?_)
    refine s_goto C (off := 7) 17 dX0_parentOf_10 rfl ?_
    refine s_iconst C 0 rfl dX0_parentOf_17 18 rfl ?_
    exact x_iret C hret rfl dX0_parentOf_18
  · refine Sx_if ?_ ?_
    · refine Sx_ctch C h0 0 [] ({ startPc := 0, endPc := 10, handlerPc := 13, catchType := 19 } : ExceptionTableEntry) [] rfl (fun z hz => by cases hz) (by decide) (by decide) q600 q638 13 rfl (fun q_ => ?_)
      refine s_astore C (Nat.le_of_ble_eq_true rfl) [] rfl rfl dX0_parentOf_13 15 rfl ?_
      refine s_iconst C 1 rfl dX0_parentOf_15 16 rfl ?_
      exact x_iret C hret rfl dX0_parentOf_16
    exact Sx_none
theorem hdX0_parentOf : ((⟨"MasterTreeLaw", "parentOf", "(LMasterTree;II[J)I"⟩ : MethodName)).cls ≠ "java/lang/invoke/MethodHandle" ∧ ((⟨"MasterTreeLaw", "parentOf", "(LMasterTree;II[J)I"⟩ : MethodName)).cls ≠ "java/lang/invoke/VarHandle" ∧ (parseMethodDescriptor ((⟨"MasterTreeLaw", "parentOf", "(LMasterTree;II[J)I"⟩ : MethodName)).desc).map (fun d => d.parameters.length) = some 4 := ⟨by decide +kernel, by decide +kernel, by decide +kernel⟩
theorem ctX0_parentOf {l : Launch} {g : GG} (hst : l.stackTraces = false) (N : Nat) (m : Mm) (v0 : Option Nat) (v1 : Int32) (v2 : Int32) (v3 : Option Nat) : ∀ v m' k n, fX0_parentOf (gE_ g) N m v0 v1 v2 v3 = some (v, m', k, n) → Ct_ l g (⟨"MasterTreeLaw", "parentOf", "(LMasterTree;II[J)I"⟩ : MethodName) (wsW_ (⟨"MasterTreeLaw", "parentOf", "(LMasterTree;II[J)I"⟩ : MethodName) cX0_parentOf 5 (Option.some Jvm.ClassFile.FieldType.int) [(0, 10, 13, 19)]) 19 [vr_ v0, vi_ v1, vi_ v2, vr_ v3] m (en_i v) m' k n :=
  Ct_ofW (by decide +kernel) rfl hst (Nat.le_of_ble_eq_true rfl) rfl (fun E C hret h0 hin => wX0_parentOf C hret h0 hin N m v0 v1 v2 v3 0 0)
theorem wX2_init {l : Launch} {g : GG} {E : Me_} (C : Cx_ l g E "MasterTree$Master" cX2_init 4 14) (hret : (eT_ E).sig.returnType = (Option.none : Option Jvm.ClassFile.FieldType)) (h0 : ∀ x ∈ (eC_ E).exceptionTable.toList, False) (hin : (eT_ E).name = "<init>") (N : Nat) : ∀ (m : Mm) (v0 : Option Nat) (v1 : Int32) (v2 : Option Nat) (v3 : Option Nat) (k n : Nat), Sm_ l g E 4 en_v (fX2_init (gE_ g) N m v0 v1 v2 v3) k n 0 [(0, vr_ v0), (1, vi_ v1), (2, vr_ v2), (3, vr_ v3)] [] m := by
  intro m v0 v1 v2 v3 k n
  unfold fX2_init
  refine s_aload_n C rfl 0 rfl dX2_init_0 1 rfl ?_
  refine x_ok (fun hb_ => ?_)
  refine x_obj C hb_ q188 q152 q153 (by decide) (Nat.le_of_ble_eq_true rfl) dX2_init_1 4 rfl ?_
  refine s_aload_n C rfl 0 rfl dX2_init_4 5 rfl ?_
  refine x_nw C 12 (RJ2, TJ2, 3) rfl q189 q155 q84 13 3 rfl rfl dX2_init_5 8 rfl (fun x1 m1 => ?_)
  refine s_dup C rfl dX2_init_8 9 rfl ?_
  refine x_callI (enc := en_v) C 12 0 [] (ctJ2_init C.2.2.2.2.2.2.2.2.1 N m1 (some x1)) (fun h => by cases h) rfl q190 q157 q84 q158 rfl hdJ2_init (Nat.le_of_ble_eq_true rfl) (Nat.le_of_ble_eq_true rfl) rfl (Nat.le_of_ble_eq_true rfl) dX2_init_9 12 rfl rfl hen_v (kk_v (fun m2 k1 n1 => ?_)) (kx_n he_v)
  refine x_prF C hin 1 (RX2, TX2, 12) rfl 5 (Nat.le_of_ble_eq_true rfl) rfl q305 rfl rfl trivial 2 rfl dX2_init_12 15 rfl (fun m3 => ?_)
  refine s_aload_n C rfl 0 rfl dX2_init_15 16 rfl ?_
  refine s_bipush C 48 rfl dX2_init_16 18 rfl ?_
  refine x_nq C 5 "MasterTree$Entry" rfl q191 C.2.2.2.2.2.2.1.2.2.2.1.2 205 rfl dX2_init_18 21 rfl (fun x2 m4 => ?_)
  refine x_prF C hin 1 (RX2, TX2, 12) rfl 6 (Nat.le_of_ble_eq_true rfl) rfl q307 rfl rfl trivial 2 rfl dX2_init_21 24 rfl (fun m5 => ?_)
  refine s_aload_n C rfl 0 rfl dX2_init_24 25 rfl ?_
  refine s_bipush C 48 rfl dX2_init_25 27 rfl ?_
  refine x_naI C dX2_init_27 29 rfl (fun x3 m6 => ?_)
  refine x_prF C hin 1 (RX2, TX2, 12) rfl 7 (Nat.le_of_ble_eq_true rfl) rfl q310 rfl rfl trivial 2 rfl dX2_init_29 32 rfl (fun m7 => ?_)
  refine s_aload_n C rfl 0 rfl dX2_init_32 33 rfl ?_
  refine s_iconst C 4 rfl dX2_init_33 34 rfl ?_
  refine s_iconst C 4 rfl dX2_init_34 35 rfl ?_
  refine x_mn C q193 dX2_init_35 39 rfl (fun x4 m8 => ?_)
  refine x_prF C hin 1 (RX2, TX2, 12) rfl 8 (Nat.le_of_ble_eq_true rfl) rfl q312 rfl rfl trivial 2 rfl dX2_init_39 42 rfl (fun m9 => ?_)
  refine s_aload_n C rfl 0 rfl dX2_init_42 43 rfl ?_
  refine x_nw C 14 (RJ4, TJ4, 9) rfl q195 q196 q87 15 9 rfl rfl dX2_init_43 46 rfl (fun x5 m10 => ?_)
  refine s_dup C rfl dX2_init_46 47 rfl ?_
  refine x_callI (enc := en_v) C 11 0 [] (ctJ4_init C.2.2.2.2.2.2.2.2.1 N m10 (some x5)) (fun h => by cases h) rfl q197 q198 q87 q199 rfl hdJ4_init (Nat.le_of_ble_eq_true rfl) (Nat.le_of_ble_eq_true rfl) rfl (Nat.le_of_ble_eq_true rfl) dX2_init_47 50 rfl rfl hen_v (kk_v (fun m11 k1 n1 => ?_)) (kx_n he_v)
  refine x_prF C hin 1 (RX2, TX2, 12) rfl 10 (Nat.le_of_ble_eq_true rfl) rfl q316 rfl rfl trivial 2 rfl dX2_init_50 53 rfl (fun m12 => ?_)
  refine s_aload_n C rfl 0 rfl dX2_init_53 54 rfl ?_
  refine s_bipush C 8 rfl dX2_init_54 56 rfl ?_
  refine x_naJ C dX2_init_56 58 rfl (fun x6 m13 => ?_)
  refine x_prF C hin 1 (RX2, TX2, 12) rfl 11 (Nat.le_of_ble_eq_true rfl) rfl q318 rfl rfl trivial 2 rfl dX2_init_58 61 rfl (fun m14 => ?_)
  refine s_aload_n C rfl 0 rfl dX2_init_61 62 rfl ?_
  refine s_iload_n C rfl 1 rfl dX2_init_62 63 rfl ?_
  refine x_piF C hin 1 (RX2, TX2, 12) rfl 0 (Nat.le_of_ble_eq_true rfl) rfl q295 rfl rfl trivial 2 rfl dX2_init_63 66 rfl (fun m15 => ?_)
  refine s_aload_n C rfl 0 rfl dX2_init_66 67 rfl ?_
  refine s_aload_n C rfl 2 rfl dX2_init_67 68 rfl ?_
  refine x_prF C hin 1 (RX2, TX2, 12) rfl 1 (Nat.le_of_ble_eq_true rfl) rfl q298 rfl rfl trivial 2 rfl dX2_init_68 71 rfl (fun m16 => ?_)
  refine s_aload_n C rfl 0 rfl dX2_init_71 72 rfl ?_
  refine s_aload_n C rfl 3 rfl dX2_init_72 73 rfl ?_
  refine x_prF C hin 1 (RX2, TX2, 12) rfl 2 (Nat.le_of_ble_eq_true rfl) rfl q299 rfl rfl trivial 2 rfl dX2_init_73 76 rfl (fun m17 => ?_)
  refine s_aload_n C rfl 0 rfl dX2_init_76 77 rfl ?_
  refine x_gr C 1 (RX2, TX2, 12) rfl 6 (Nat.le_of_ble_eq_true rfl) q307 (Or.inl rfl) rfl 2 rfl dX2_init_77 80 rfl (fun x7 => ?_)
  refine s_iconst C 0 rfl dX2_init_80 81 rfl ?_
  refine x_nw C 2 (RX3, TX3, 9) rfl q191 q236 q88 3 9 rfl rfl dX2_init_81 84 rfl (fun x8 m18 => ?_)
  refine s_dup C rfl dX2_init_84 85 rfl ?_
  refine s_iconst C 0 rfl dX2_init_85 86 rfl ?_
  refine s_aload_n C rfl 2 rfl dX2_init_86 87 rfl ?_
  refine x_callI (enc := en_v) C 13 2 [vi_ 0, vr_ v2] (ctX3_init C.2.2.2.2.2.2.2.2.1 N m18 (some x8) 0 v2) (fun h => by cases h) rfl q237 q238 q88 q239 rfl hdX3_init (Nat.le_of_ble_eq_true rfl) (Nat.le_of_ble_eq_true rfl) rfl (Nat.le_of_ble_eq_true rfl) dX2_init_87 90 rfl rfl hen_v (kk_v (fun m19 k1 n1 => ?_)) (kx_n he_v)
  refine x_br C 5 "MasterTree$Entry" rfl _ (fun k hk => by rw [List.mem_singleton.mp hk]; exact ⟨rfl, Or.inr rfl⟩) 205 rfl dX2_init_90 91 rfl (fun m20 => ?_)
  refine s_aload_n C rfl 0 rfl dX2_init_91 92 rfl ?_
  refine x_gr C 1 (RX2, TX2, 12) rfl 7 (Nat.le_of_ble_eq_true rfl) q310 (Or.inl rfl) rfl 2 rfl dX2_init_92 95 rfl (fun x9 => ?_)
  refine s_iconst C 0 rfl dX2_init_95 96 rfl ?_
  refine s_iconst C (-1) rfl dX2_init_96 97 rfl ?_
  refine x_bi0 C 200 rfl dX2_init_97 98 rfl (fun m21 => ?_)
  exact x_vret C hret rfl dX2_init_98
theorem hdX2_init : ((⟨"MasterTree$Master", "<init>", "(ILjava/util/List;Ljava/util/List;)V"⟩ : MethodName)).cls ≠ "java/lang/invoke/MethodHandle" ∧ ((⟨"MasterTree$Master", "<init>", "(ILjava/util/List;Ljava/util/List;)V"⟩ : MethodName)).cls ≠ "java/lang/invoke/VarHandle" ∧ (parseMethodDescriptor ((⟨"MasterTree$Master", "<init>", "(ILjava/util/List;Ljava/util/List;)V"⟩ : MethodName)).desc).map (fun d => d.parameters.length) = some 3 := ⟨by decide +kernel, by decide +kernel, by decide +kernel⟩
theorem ctX2_init {l : Launch} {g : GG} (hst : l.stackTraces = false) (N : Nat) (m : Mm) (v0 : Option Nat) (v1 : Int32) (v2 : Option Nat) (v3 : Option Nat) : ∀ v m' k n, fX2_init (gE_ g) N m v0 v1 v2 v3 = some (v, m', k, n) → Ct_ l g (⟨"MasterTree$Master", "<init>", "(ILjava/util/List;Ljava/util/List;)V"⟩ : MethodName) (ws_ (⟨"MasterTree$Master", "<init>", "(ILjava/util/List;Ljava/util/List;)V"⟩ : MethodName) cX2_init 4 (Option.none : Option Jvm.ClassFile.FieldType)) 14 [vr_ v0, vi_ v1, vr_ v2, vr_ v3] m (en_v v) m' k n :=
  Ct_of (by decide +kernel) rfl hst (Nat.le_of_ble_eq_true rfl) rfl (fun E C hret h0 hin => wX2_init C hret h0 hin N m v0 v1 v2 v3 0 0)
theorem wX1_anew_b89 {l : Launch} {g : GG} {E : Me_} (C : Cx_ l g E "MasterTree" cX1_anew 5 21) (hret : (eT_ E).sig.returnType = (Option.some (Jvm.ClassFile.FieldType.object "MasterTree$Master"))) (h0 : ∀ x ∈ (eC_ E).exceptionTable.toList, False) (hin : (eT_ E).name = "anew") (N : Nat) {k30 : Mm → Option Nat → Option Nat → Option Nat → Option Nat → Rs (Option Nat)} (hk30 : ∀ (m : Mm) (v0 : Option Nat) (v1 : Option Nat) (v2 : Option Nat) (v3 : Option Nat) (k n : Nat), Sm_ l g E 5 en_r (k30 m v0 v1 v2 v3) k n 30 [(0, vr_ v0), (1, vr_ v1), (2, vr_ v2), (3, vr_ v3)] [] m) : ∀ (m : Mm) (v0 : Option Nat) (v1 : Option Nat) (v2 : Option Nat) (v3 : Option Nat) (v4 : Option Nat) (k n : Nat), Sm_ l g E 5 en_r (fX1_anew_b89 (gE_ g) N k30 m v0 v1 v2 v3 v4) k n 89 [(0, vr_ v0), (1, vr_ v1), (2, vr_ v2), (3, vr_ v3), (4, vr_ v4)] [] m := by
  intro m v0 v1 v2 v3 v4 k n
  unfold fX1_anew_b89
  refine s_aload C 4 rfl dX1_anew_89 91 rfl ?_
  refine x_grN C 6 (RX7, TX7, 9) rfl 3 (Nat.le_of_ble_eq_true rfl) q1740 rfl rfl 7 rfl dX1_anew_91 94 rfl (fun x1 => ?_)
  refine s_aload C 4 rfl dX1_anew_94 96 rfl ?_
  refine s_aload_n C rfl 2 rfl dX1_anew_96 97 rfl ?_
  refine x_grN C 1 (RX2, TX2, 12) rfl 6 (Nat.le_of_ble_eq_true rfl) q309 rfl rfl 2 rfl dX1_anew_97 100 rfl (fun x2 => ?_)
  refine s_aload C 4 rfl dX1_anew_100 102 rfl ?_
  refine x_giN C 6 (RX7, TX7, 9) rfl 4 (Nat.le_of_ble_eq_true rfl) q1744 rfl rfl 7 rfl dX1_anew_102 105 rfl (fun x3 => ?_)
  refine x_ar C 5 (.object "MasterTree$Entry") rfl rfl rfl 205 rfl dX1_anew_105 106 rfl (fun x4 => ?_)
  refine x_wv [] 109 (fun kk_ => ?_) (fun m1 k1 n1 => ?_)
  · refine x_csr (kd := 403) (fun hb_ hb0_ => ?_) ?_
    · exact x_callK (enc := en_v) (owner := "MasterTree$Kind") C 20 2 [vr_ v4, vr_ x4] 403 (by decide +kernel) (Nat.le_of_ble_eq_true rfl) rfl (fun E C hret h0 hin => wX14_does C hret h0 hin N _  x1 v4 x4 0 0) hb_ hb0_ rfl rfl q2937 q1972 q1973 q1974 q1975 q1971 ⟨by decide +kernel, by decide +kernel, by decide +kernel⟩ (Nat.le_of_ble_eq_true rfl) (Nat.le_of_ble_eq_true rfl) rfl (Nat.le_of_ble_eq_true rfl) dX1_anew_106 109 rfl rfl hen_v (kk_v kk_) (kx_n he_v)
    refine x_csr (kd := 404) (fun hb_ hb0_ => ?_) ?_
    · exact x_callK (enc := en_v) (owner := "MasterTree$Kind") C 20 2 [vr_ v4, vr_ x4] 404 (by decide +kernel) (Nat.le_of_ble_eq_true rfl) rfl (fun E C hret h0 hin => wX20_does C hret h0 hin N _  x1 v4 x4 0 0) hb_ hb0_ rfl rfl q2937 q1972 q2251 q2252 q2253 q1971 ⟨by decide +kernel, by decide +kernel, by decide +kernel⟩ (Nat.le_of_ble_eq_true rfl) (Nat.le_of_ble_eq_true rfl) rfl (Nat.le_of_ble_eq_true rfl) dX1_anew_106 109 rfl rfl hen_v (kk_v kk_) (kx_n he_v)
    refine x_csr (kd := 405) (fun hb_ hb0_ => ?_) ?_
    · exact x_callK (enc := en_v) (owner := "MasterTree$Kind") C 15 2 [vr_ v4, vr_ x4] 405 (by decide +kernel) (Nat.le_of_ble_eq_true rfl) rfl (fun E C hret h0 hin => wX18_does C hret h0 hin N _  x1 v4 x4 0 0) hb_ hb0_ rfl rfl q2937 q1972 q2255 q2256 q2257 q1971 ⟨by decide +kernel, by decide +kernel, by decide +kernel⟩ (Nat.le_of_ble_eq_true rfl) (Nat.le_of_ble_eq_true rfl) rfl (Nat.le_of_ble_eq_true rfl) dX1_anew_106 109 rfl rfl hen_v (kk_v kk_) (kx_n he_v)
    refine x_csr (kd := 406) (fun hb_ hb0_ => ?_) ?_
    · exact x_callK (enc := en_v) (owner := "MasterTree$Kind") C 20 2 [vr_ v4, vr_ x4] 406 (by decide +kernel) (Nat.le_of_ble_eq_true rfl) rfl (fun E C hret h0 hin => wX21_does C hret h0 hin N _  x1 v4 x4 0 0) hb_ hb0_ rfl rfl q2937 q1972 q2265 q2266 q2267 q1971 ⟨by decide +kernel, by decide +kernel, by decide +kernel⟩ (Nat.le_of_ble_eq_true rfl) (Nat.le_of_ble_eq_true rfl) rfl (Nat.le_of_ble_eq_true rfl) dX1_anew_106 109 rfl rfl hen_v (kk_v kk_) (kx_n he_v)
    refine x_csr (kd := 407) (fun hb_ hb0_ => ?_) ?_
    · exact x_callK (enc := en_v) (owner := "MasterTree$Kind") C 10 2 [vr_ v4, vr_ x4] 407 (by decide +kernel) (Nat.le_of_ble_eq_true rfl) rfl (fun E C hret h0 hin => wX16_does C hret h0 hin N _  x1 v4 x4 0 0) hb_ hb0_ rfl rfl q2937 q1972 q2272 q2273 q2274 q1971 ⟨by decide +kernel, by decide +kernel, by decide +kernel⟩ (Nat.le_of_ble_eq_true rfl) (Nat.le_of_ble_eq_true rfl) rfl (Nat.le_of_ble_eq_true rfl) dX1_anew_106 109 rfl rfl hen_v (kk_v kk_) (kx_n he_v)
    refine x_csr (kd := 408) (fun hb_ hb0_ => ?_) ?_
    · exact x_callK (enc := en_v) (owner := "MasterTree$Kind") C 10 2 [vr_ v4, vr_ x4] 408 (by decide +kernel) (Nat.le_of_ble_eq_true rfl) rfl (fun E C hret h0 hin => wX17_does C hret h0 hin N _  x1 v4 x4 0 0) hb_ hb0_ rfl rfl q2937 q1972 q2275 q2276 q2277 q1971 ⟨by decide +kernel, by decide +kernel, by decide +kernel⟩ (Nat.le_of_ble_eq_true rfl) (Nat.le_of_ble_eq_true rfl) rfl (Nat.le_of_ble_eq_true rfl) dX1_anew_106 109 rfl rfl hen_v (kk_v kk_) (kx_n he_v)
    refine x_csr (kd := 409) (fun hb_ hb0_ => ?_) ?_
    · exact x_callK (enc := en_v) (owner := "MasterTree$Kind") C 17 2 [vr_ v4, vr_ x4] 409 (by decide +kernel) (Nat.le_of_ble_eq_true rfl) rfl (fun E C hret h0 hin => wX19_does C hret h0 hin N _  x1 v4 x4 0 0) hb_ hb0_ rfl rfl q2937 q1972 q2278 q2279 q2280 q1971 ⟨by decide +kernel, by decide +kernel, by decide +kernel⟩ (Nat.le_of_ble_eq_true rfl) (Nat.le_of_ble_eq_true rfl) rfl (Nat.le_of_ble_eq_true rfl) dX1_anew_106 109 rfl rfl hen_v (kk_v kk_) (kx_n he_v)
    refine x_csr (kd := 410) (fun hb_ hb0_ => ?_) ?_
    · exact x_callK (enc := en_v) (owner := "MasterTree$Kind") C 10 2 [vr_ v4, vr_ x4] 410 (by decide +kernel) (Nat.le_of_ble_eq_true rfl) rfl (fun E C hret h0 hin => wX22_does C hret h0 hin N _  x1 v4 x4 0 0) hb_ hb0_ rfl rfl q2937 q1972 q2283 q2284 q2285 q1971 ⟨by decide +kernel, by decide +kernel, by decide +kernel⟩ (Nat.le_of_ble_eq_true rfl) (Nat.le_of_ble_eq_true rfl) rfl (Nat.le_of_ble_eq_true rfl) dX1_anew_106 109 rfl rfl hen_v (kk_v kk_) (kx_n he_v)
    refine x_csr (kd := 411) (fun hb_ hb0_ => ?_) ?_
    · exact x_callK (enc := en_v) (owner := "MasterTree$Kind") C 10 2 [vr_ v4, vr_ x4] 411 (by decide +kernel) (Nat.le_of_ble_eq_true rfl) rfl (fun E C hret h0 hin => wX15_does C hret h0 hin N _  x1 v4 x4 0 0) hb_ hb0_ rfl rfl q2937 q1972 q2286 q2287 q2288 q1971 ⟨by decide +kernel, by decide +kernel, by decide +kernel⟩ (Nat.le_of_ble_eq_true rfl) (Nat.le_of_ble_eq_true rfl) rfl (Nat.le_of_ble_eq_true rfl) dX1_anew_106 109 rfl rfl hen_v (kk_v kk_) (kx_n he_v)
    exact Sm_bn
  refine s_goto C (off := -79) 30 dX1_anew_109 rfl ?_
  refine Sm_sub [0, 1, 2, 3] rfl ?_
  exact hk30 _ _ _ _ _ _ _
theorem wX1_anew_b30 {l : Launch} {g : GG} {E : Me_} (C : Cx_ l g E "MasterTree" cX1_anew 5 21) (hret : (eT_ E).sig.returnType = (Option.some (Jvm.ClassFile.FieldType.object "MasterTree$Master"))) (h0 : ∀ x ∈ (eC_ E).exceptionTable.toList, False) (hin : (eT_ E).name = "anew") (N : Nat) : ∀ (F : Nat) (m : Mm) (v0 : Option Nat) (v1 : Option Nat) (v2 : Option Nat) (v3 : Option Nat) (k n : Nat), Sm_ l g E 5 en_r (fX1_anew_b30 (gE_ g) N F m v0 v1 v2 v3) k n 30 [(0, vr_ v0), (1, vr_ v1), (2, vr_ v2), (3, vr_ v3)] [] m := by
  intro F
  induction F with
  | zero => intros; exact Sm_none
  | succ F ih =>
    intro m v0 v1 v2 v3 k n
    unfold fX1_anew_b30
    refine s_aload_n C rfl 3 rfl dX1_anew_30 31 rfl ?_
    refine x_ck (fun hb_ hb0_ => ?_)
    refine x_callF (enc := en_i) C 10 0 [] 14 (ctJ34_hasNext C.2.2.2.2.2.2.2.2.1 N m v3) hb_ hb0_ rfl rfl rfl fw_13 q1716 q1458 q1460 q124 q1462 hx3 (Nat.le_of_ble_eq_true rfl) (Nat.le_of_ble_eq_true rfl) rfl (Nat.le_of_ble_eq_true rfl) dX1_anew_31 36 rfl rfl hen_i (kk_i (fun x1 m1 k1 n1 => ?_)) (kx_n he_i)
    refine s_if_eq C dX1_anew_36 112 rfl 39 rfl (fun c_ => ?_) (fun c_ => ?_)
    · refine s_aload_n C rfl 1 rfl dX1_anew_112 113 rfl ?_
      refine x_grN C 1 (RX2, TX2, 12) rfl 5 (Nat.le_of_ble_eq_true rfl) q306 rfl rfl 2 rfl dX1_anew_113 116 rfl (fun x2 => ?_)
      refine s_aload_n C rfl 2 rfl dX1_anew_116 117 rfl ?_
      refine x_grN C 1 (RX2, TX2, 12) rfl 7 (Nat.le_of_ble_eq_true rfl) q311 rfl rfl 2 rfl dX1_anew_117 120 rfl (fun x3 => ?_)
      refine x_callS (enc := en_v) C 12 2 [vr_ x2, vr_ x3] (ctX1_findsParents C.2.2.2.2.2.2.2.2.1 N m1 x2 x3) q2938 q2293 q81 q2294 hdX1_findsParents (Nat.le_of_ble_eq_true rfl) (Nat.le_of_ble_eq_true rfl) rfl (Nat.le_of_ble_eq_true rfl) dX1_anew_120 123 rfl rfl hen_v (kk_v (fun m2 k1 n1 => ?_)) (kx_n he_v)
      refine s_aload_n C rfl 2 rfl dX1_anew_123 124 rfl ?_
      exact x_aret C hret (Or.inl ⟨_, rfl⟩) rfl dX1_anew_124
    · refine s_aload_n C rfl 3 rfl dX1_anew_39 40 rfl ?_
      refine x_ck (fun hb_ hb0_ => ?_)
      refine x_callF (enc := en_r) C 11 0 [] 14 (ctJ34_next C.2.2.2.2.2.2.2.2.1 N m1 v3) hb_ hb0_ rfl rfl rfl fw_19 q1718 q1495 q1497 q124 q1499 hx5 (Nat.le_of_ble_eq_true rfl) (Nat.le_of_ble_eq_true rfl) rfl (Nat.le_of_ble_eq_true rfl) dX1_anew_40 45 rfl rfl hen_r (kk_r (fun x4 m3 k1 n1 => ?_)) (kx_n he_r)
      refine x_cc C "MasterTree$Change" [7] (fun k hk => by rw [List.mem_singleton.mp hk]; exact ⟨rfl, Or.inr rfl⟩) q1725 dX1_anew_45 48 rfl ?_
      refine s_astore C (Nat.le_of_ble_eq_true rfl) [0, 1, 2, 3] rfl rfl dX1_anew_48 50 rfl ?_
      refine s_aload_n C rfl 3 rfl dX1_anew_50 51 rfl ?_
      refine x_grN C 1 (RX2, TX2, 12) rfl 6 (Nat.le_of_ble_eq_true rfl) q309 rfl rfl 2 rfl dX1_anew_51 54 rfl (fun x5 => ?_)
      refine s_aload C 0 rfl dX1_anew_54 56 rfl ?_
      refine x_giN C 6 (RX7, TX7, 9) rfl 4 (Nat.le_of_ble_eq_true rfl) q1744 rfl rfl 7 rfl dX1_anew_56 59 rfl (fun x6 => ?_)
      refine x_ar C 5 (.object "MasterTree$Entry") rfl rfl rfl 205 rfl dX1_anew_59 60 rfl (fun x7 => ?_)
      refine s_ifnonnull C dX1_anew_60 89 rfl 63 rfl (fun c_ => ?_) (fun c_ => ?_)
      · refine s_aload_n C rfl 3 rfl dX1_anew_63 64 rfl ?_
        refine x_grN C 1 (RX2, TX2, 12) rfl 6 (Nat.le_of_ble_eq_true rfl) q309 rfl rfl 2 rfl dX1_anew_64 67 rfl (fun x8 => ?_)
        refine s_aload C 0 rfl dX1_anew_67 69 rfl ?_
        refine x_giN C 6 (RX7, TX7, 9) rfl 4 (Nat.le_of_ble_eq_true rfl) q1744 rfl rfl 7 rfl dX1_anew_69 72 rfl (fun x9 => ?_)
        refine x_nw C 2 (RX3, TX3, 9) rfl q2935 q236 q88 3 9 rfl rfl dX1_anew_72 75 rfl (fun x10 m4 => ?_)
        refine s_dup C rfl dX1_anew_75 76 rfl ?_
        refine s_aload C 0 rfl dX1_anew_76 78 rfl ?_
        refine x_giN C 6 (RX7, TX7, 9) rfl 4 (Nat.le_of_ble_eq_true rfl) q1744 rfl rfl 7 rfl dX1_anew_78 81 rfl (fun x11 => ?_)
        refine s_aload_n C rfl 1 rfl dX1_anew_81 82 rfl ?_
        refine x_gr C 0 (RX1, TX1, 9) rfl 0 (Nat.le_of_ble_eq_true rfl) q445 (Or.inl rfl) rfl 1 rfl dX1_anew_82 85 rfl (fun x12 => ?_)
        refine x_callI (enc := en_v) C 13 2 [vi_ x11, vr_ x12] (ctX3_init C.2.2.2.2.2.2.2.2.1 N m4 (some x10) x11 x12) (fun h => by cases h) rfl q2936 q238 q88 q239 rfl hdX3_init (Nat.le_of_ble_eq_true rfl) (Nat.le_of_ble_eq_true rfl) rfl (Nat.le_of_ble_eq_true rfl) dX1_anew_85 88 rfl rfl hen_v (kk_v (fun m5 k1 n1 => ?_)) (kx_n he_v)
        refine x_br C 5 "MasterTree$Entry" rfl _ (fun k hk => by rw [List.mem_singleton.mp hk]; exact ⟨rfl, Or.inr rfl⟩) 205 rfl dX1_anew_88 89 rfl (fun m6 => ?_)
        refine Sm_sub [1, 2, 3, 4, 0] rfl ?_
        exact wX1_anew_b89 C hret h0 hin N (fun m v0 v1 v2 v3 k n => ih m v0 v1 v2 v3 k n) _ _ _ _ _ _ _ _
      · refine Sm_sub [1, 2, 3, 4, 0] rfl ?_
        exact wX1_anew_b89 C hret h0 hin N (fun m v0 v1 v2 v3 k n => ih m v0 v1 v2 v3 k n) _ _ _ _ _ _ _ _
theorem wX1_anew {l : Launch} {g : GG} {E : Me_} (C : Cx_ l g E "MasterTree" cX1_anew 5 21) (hret : (eT_ E).sig.returnType = (Option.some (Jvm.ClassFile.FieldType.object "MasterTree$Master"))) (h0 : ∀ x ∈ (eC_ E).exceptionTable.toList, False) (hin : (eT_ E).name = "anew") (N : Nat) : ∀ (m : Mm) (v0 : Option Nat) (v1 : Option Nat) (k n : Nat), Sm_ l g E 5 en_r (fX1_anew (gE_ g) N m v0 v1) k n 0 [(0, vr_ v0), (1, vr_ v1)] [] m := by
  intro m v0 v1 k n
  unfold fX1_anew
  refine x_nw C 1 (RX2, TX2, 12) rfl q183 q184 q85 2 12 rfl rfl dX1_anew_0 3 rfl (fun x1 m1 => ?_)
  refine s_dup C rfl dX1_anew_3 4 rfl ?_
  refine s_aload_n C rfl 1 rfl dX1_anew_4 5 rfl ?_
  refine x_giN C 1 (RX2, TX2, 12) rfl 0 (Nat.le_of_ble_eq_true rfl) q297 rfl rfl 2 rfl dX1_anew_5 8 rfl (fun x2 => ?_)
  refine s_aload_n C rfl 0 rfl dX1_anew_8 9 rfl ?_
  refine x_gr C 0 (RX1, TX1, 9) rfl 0 (Nat.le_of_ble_eq_true rfl) q445 (Or.inl rfl) rfl 1 rfl dX1_anew_9 12 rfl (fun x3 => ?_)
  refine s_aload_n C rfl 0 rfl dX1_anew_12 13 rfl ?_
  refine x_gr C 0 (RX1, TX1, 9) rfl 1 (Nat.le_of_ble_eq_true rfl) q446 (Or.inl rfl) rfl 1 rfl dX1_anew_13 16 rfl (fun x4 => ?_)
  refine x_callI (enc := en_v) C 14 3 [vi_ x2, vr_ x3, vr_ x4] (ctX2_init C.2.2.2.2.2.2.2.2.1 N m1 (some x1) x2 x3 x4) (fun h => by cases h) rfl q185 q186 q85 q187 rfl hdX2_init (Nat.le_of_ble_eq_true rfl) (Nat.le_of_ble_eq_true rfl) rfl (Nat.le_of_ble_eq_true rfl) dX1_anew_16 19 rfl rfl hen_v (kk_v (fun m2 k1 n1 => ?_)) (kx_n he_v)
  refine s_astore_n C rfl (Nat.le_of_ble_eq_true rfl) [0, 1] rfl rfl dX1_anew_19 20 rfl ?_
  refine s_aload_n C rfl 2 rfl dX1_anew_20 21 rfl ?_
  refine x_grN C 1 (RX2, TX2, 12) rfl 5 (Nat.le_of_ble_eq_true rfl) q306 rfl rfl 2 rfl dX1_anew_21 24 rfl (fun x5 => ?_)
  refine x_ck (fun hb_ hb0_ => ?_)
  refine x_callF (enc := en_r) C 11 0 [] 13 (ctJ2_iterator C.2.2.2.2.2.2.2.2.1 N m2 x5) hb_ hb0_ rfl rfl rfl fw_27 q1688 q1691 q1693 q84 q1695 hx6 (Nat.le_of_ble_eq_true rfl) (Nat.le_of_ble_eq_true rfl) rfl (Nat.le_of_ble_eq_true rfl) dX1_anew_24 29 rfl rfl hen_r (kk_r (fun x6 m3 k1 n1 => ?_)) (kx_n he_r)
  refine s_astore_n C rfl (Nat.le_of_ble_eq_true rfl) [0, 1, 2] rfl rfl dX1_anew_29 30 rfl ?_
  refine Sm_sub [2, 3, 1, 0] rfl ?_
  exact wX1_anew_b30 C hret h0 hin N N _ _ _ _ _ _ _
theorem hdX1_anew : ((⟨"MasterTree", "anew", "(LMasterTree$Master;)LMasterTree$Master;"⟩ : MethodName)).cls ≠ "java/lang/invoke/MethodHandle" ∧ ((⟨"MasterTree", "anew", "(LMasterTree$Master;)LMasterTree$Master;"⟩ : MethodName)).cls ≠ "java/lang/invoke/VarHandle" ∧ (parseMethodDescriptor ((⟨"MasterTree", "anew", "(LMasterTree$Master;)LMasterTree$Master;"⟩ : MethodName)).desc).map (fun d => d.parameters.length) = some 1 := ⟨by decide +kernel, by decide +kernel, by decide +kernel⟩
theorem ctX1_anew {l : Launch} {g : GG} (hst : l.stackTraces = false) (N : Nat) (m : Mm) (v0 : Option Nat) (v1 : Option Nat) : ∀ v m' k n, fX1_anew (gE_ g) N m v0 v1 = some (v, m', k, n) → Ct_ l g (⟨"MasterTree", "anew", "(LMasterTree$Master;)LMasterTree$Master;"⟩ : MethodName) (ws_ (⟨"MasterTree", "anew", "(LMasterTree$Master;)LMasterTree$Master;"⟩ : MethodName) cX1_anew 5 (Option.some (Jvm.ClassFile.FieldType.object "MasterTree$Master"))) 21 [vr_ v0, vr_ v1] m (en_r v) m' k n :=
  Ct_of (by decide +kernel) rfl hst (Nat.le_of_ble_eq_true rfl) rfl (fun E C hret h0 hin => wX1_anew C hret h0 hin N m v0 v1 0 0)
theorem wX1_parentAnew {l : Launch} {g : GG} {E : Me_} (C : Cx_ l g E "MasterTree" cX1_parentAnew 4 22) (hret : (eT_ E).sig.returnType = (Option.some Jvm.ClassFile.FieldType.int)) (h0 : ∀ x ∈ (eC_ E).exceptionTable.toList, False) (hin : (eT_ E).name = "parentAnew") (N : Nat) : ∀ (m : Mm) (v0 : Option Nat) (v1 : Int32) (v2 : Int32) (k n : Nat), Sm_ l g E 4 (xe_ en_i) (fX1_parentAnew (gE_ g) N m v0 v1 v2) k n 0 [(0, vr_ v0), (1, vi_ v1), (2, vi_ v2)] [] m := by
  intro m v0 v1 v2 k n
  unfold fX1_parentAnew
  refine s_aload_n C rfl 0 rfl dX1_parentAnew_0 1 rfl ?_
  refine s_iload_n C rfl 1 rfl dX1_parentAnew_1 2 rfl ?_
  refine x_ck (fun hb_ hb0_ => ?_)
  refine x_callV (enc := (xe_ en_r)) C 17 1 [vi_ v1] 1 (ctX1_at C.2.2.2.2.2.2.2.2.1 N m v0 v1) hb_ hb0_ rfl rfl q934 q936 qs5 q81 q937 hdX1_at (Nat.le_of_ble_eq_true rfl) (Nat.le_of_ble_eq_true rfl) rfl (Nat.le_of_ble_eq_true rfl) dX1_parentAnew_2 5 rfl rfl (hen_x hen_r) (kk_x (kk_r (fun x1 m1 k1 n1 => ?_))) (kx_x C h0 he_r)
  refine s_astore_n C rfl (Nat.le_of_ble_eq_true rfl) [0, 2] rfl rfl dX1_parentAnew_5 6 rfl ?_
  refine s_aload_n C rfl 0 rfl dX1_parentAnew_6 7 rfl ?_
  refine s_iload_n C rfl 2 rfl dX1_parentAnew_7 8 rfl ?_
  refine x_callS (enc := (xe_ en_r)) C 16 2 [vr_ x1, vi_ v2] (ctX1_liveAt C.2.2.2.2.2.2.2.2.1 N m1 x1 v2) q968 q969 q81 q970 hdX1_liveAt (Nat.le_of_ble_eq_true rfl) (Nat.le_of_ble_eq_true rfl) rfl (Nat.le_of_ble_eq_true rfl) dX1_parentAnew_8 11 rfl rfl (hen_x hen_r) (kk_x (kk_r (fun x2 m2 k1 n1 => ?_))) (kx_x C h0 he_r)
  refine s_pop C rfl dX1_parentAnew_11 12 rfl ?_
  refine s_aload_n C rfl 1 rfl dX1_parentAnew_12 13 rfl ?_
  refine s_aload_n C rfl 0 rfl dX1_parentAnew_13 14 rfl ?_
  refine x_ck (fun hb_ hb0_ => ?_)
  refine x_callV (enc := en_r) C 21 1 [vr_ x1] 1 (ctX1_anew C.2.2.2.2.2.2.2.2.1 N m2 v0 x1) hb_ hb0_ rfl rfl q2931 q2933 qs32 q81 q2934 hdX1_anew (Nat.le_of_ble_eq_true rfl) (Nat.le_of_ble_eq_true rfl) rfl (Nat.le_of_ble_eq_true rfl) dX1_parentAnew_14 17 rfl rfl hen_r (kk_r (fun x3 m3 k1 n1 => ?_)) (kx_n he_r)
  refine s_iload_n C rfl 2 rfl dX1_parentAnew_17 18 rfl ?_
  refine x_ck (fun hb_ hb0_ => ?_)
  refine x_callV (enc := en_i) C 12 1 [vi_ v2] 2 (ctX2_shownAt C.2.2.2.2.2.2.2.2.1 N m3 x3 v2) hb_ hb0_ rfl rfl q2460 q1655 q1656 q85 q1657 hdX2_shownAt (Nat.le_of_ble_eq_true rfl) (Nat.le_of_ble_eq_true rfl) rfl (Nat.le_of_ble_eq_true rfl) dX1_parentAnew_18 21 rfl rfl hen_i (kk_i (fun x4 m4 k1 n1 => ?_)) (kx_n he_i)
  exact x_iret C hret rfl dX1_parentAnew_21
theorem hdX1_parentAnew : ((⟨"MasterTree", "parentAnew", "(II)I"⟩ : MethodName)).cls ≠ "java/lang/invoke/MethodHandle" ∧ ((⟨"MasterTree", "parentAnew", "(II)I"⟩ : MethodName)).cls ≠ "java/lang/invoke/VarHandle" ∧ (parseMethodDescriptor ((⟨"MasterTree", "parentAnew", "(II)I"⟩ : MethodName)).desc).map (fun d => d.parameters.length) = some 2 := ⟨by decide +kernel, by decide +kernel, by decide +kernel⟩
theorem ctX1_parentAnew {l : Launch} {g : GG} (hst : l.stackTraces = false) (N : Nat) (m : Mm) (v0 : Option Nat) (v1 : Int32) (v2 : Int32) : ∀ v m' k n, fX1_parentAnew (gE_ g) N m v0 v1 v2 = some (v, m', k, n) → Ct_ l g (⟨"MasterTree", "parentAnew", "(II)I"⟩ : MethodName) (ws_ (⟨"MasterTree", "parentAnew", "(II)I"⟩ : MethodName) cX1_parentAnew 4 (Option.some Jvm.ClassFile.FieldType.int)) 22 [vr_ v0, vi_ v1, vi_ v2] m ((xe_ en_i) v) m' k n :=
  Ct_of (by decide +kernel) rfl hst (Nat.le_of_ble_eq_true rfl) rfl (fun E C hret h0 hin => wX1_parentAnew C hret h0 hin N m v0 v1 v2 0 0)
theorem wX0_parentAnew {l : Launch} {g : GG} {E : Me_} (C : Cx_ l g E "MasterTreeLaw" cX0_parentAnew 5 23) (hret : (eT_ E).sig.returnType = (Option.some Jvm.ClassFile.FieldType.int)) (h0 : (eC_ E).exceptionTable.toList = tableOf [(0, 10, 13, 19)]) (hin : (eT_ E).name = "parentAnew") (N : Nat) : ∀ (m : Mm) (v0 : Option Nat) (v1 : Int32) (v2 : Int32) (v3 : Option Nat) (k n : Nat), Sm_ l g E 5 en_i (fX0_parentAnew (gE_ g) N m v0 v1 v2 v3) k n 0 [(0, vr_ v0), (1, vi_ v1), (2, vi_ v2), (3, vr_ v3)] [] m := by
  intro m v0 v1 v2 v3 k n
  unfold fX0_parentAnew
  refine s_aload_n C rfl 3 rfl dX0_parentAnew_0 1 rfl ?_
  refine s_iconst C 0 rfl dX0_parentAnew_1 2 rfl ?_
  refine s_aload_n C rfl 0 rfl dX0_parentAnew_2 3 rfl ?_
  refine s_iload_n C rfl 1 rfl dX0_parentAnew_3 4 rfl ?_
  refine s_iload_n C rfl 2 rfl dX0_parentAnew_4 5 rfl ?_
  refine x_ck (fun hb_ hb0_ => ?_)
  refine x_callV (enc := (xe_ en_i)) C 22 2 [vi_ v1, vi_ v2] 1 (ctX1_parentAnew C.2.2.2.2.2.2.2.2.1 N m v0 v1 v2) hb_ hb0_ rfl rfl q2927 q2928 q2929 q81 q2930 hdX1_parentAnew (Nat.le_of_ble_eq_true rfl) (Nat.le_of_ble_eq_true rfl) rfl (Nat.le_of_ble_eq_true rfl) dX0_parentAnew_5 8 rfl rfl (hen_x hen_i) (kk_c (kk_i (fun x1 m1 k1 n1 => ?_))) (kx_c he_i (fun i_ m0 k0 n0 => ?_))
  · refine s_i2l C dX0_parentAnew_8 9 rfl ?_
    refine x_bj3 C 203 rfl dX0_parentAnew_9 10 rfl (fun m2 => ?_)
    refine s_goto C (off := 7) 17 dX0_parentAnew_10 rfl ?_
    refine s_iconst C 0 rfl dX0_parentAnew_17 18 rfl ?_
    exact x_iret C hret rfl dX0_parentAnew_18
  · refine Sx_if ?_ ?_
    · refine Sx_ctch C h0 0 [] ({ startPc := 0, endPc := 10, handlerPc := 13, catchType := 19 } : ExceptionTableEntry) [] rfl (fun z hz => by cases hz) (by decide) (by decide) q600 q638 13 rfl (fun q_ => ?_)
      refine s_astore C (Nat.le_of_ble_eq_true rfl) [] rfl rfl dX0_parentAnew_13 15 rfl ?_
      refine s_iconst C 1 rfl dX0_parentAnew_15 16 rfl ?_
      exact x_iret C hret rfl dX0_parentAnew_16
    exact Sx_none
theorem hdX0_parentAnew : ((⟨"MasterTreeLaw", "parentAnew", "(LMasterTree;II[J)I"⟩ : MethodName)).cls ≠ "java/lang/invoke/MethodHandle" ∧ ((⟨"MasterTreeLaw", "parentAnew", "(LMasterTree;II[J)I"⟩ : MethodName)).cls ≠ "java/lang/invoke/VarHandle" ∧ (parseMethodDescriptor ((⟨"MasterTreeLaw", "parentAnew", "(LMasterTree;II[J)I"⟩ : MethodName)).desc).map (fun d => d.parameters.length) = some 4 := ⟨by decide +kernel, by decide +kernel, by decide +kernel⟩
theorem ctX0_parentAnew {l : Launch} {g : GG} (hst : l.stackTraces = false) (N : Nat) (m : Mm) (v0 : Option Nat) (v1 : Int32) (v2 : Int32) (v3 : Option Nat) : ∀ v m' k n, fX0_parentAnew (gE_ g) N m v0 v1 v2 v3 = some (v, m', k, n) → Ct_ l g (⟨"MasterTreeLaw", "parentAnew", "(LMasterTree;II[J)I"⟩ : MethodName) (wsW_ (⟨"MasterTreeLaw", "parentAnew", "(LMasterTree;II[J)I"⟩ : MethodName) cX0_parentAnew 5 (Option.some Jvm.ClassFile.FieldType.int) [(0, 10, 13, 19)]) 23 [vr_ v0, vi_ v1, vi_ v2, vr_ v3] m (en_i v) m' k n :=
  Ct_ofW (by decide +kernel) rfl hst (Nat.le_of_ble_eq_true rfl) rfl (fun E C hret h0 hin => wX0_parentAnew C hret h0 hin N m v0 v1 v2 v3 0 0)
theorem wX1_nameOf {l : Launch} {g : GG} {E : Me_} (C : Cx_ l g E "MasterTree" cX1_nameOf 4 18) (hret : (eT_ E).sig.returnType = (Option.some Jvm.ClassFile.FieldType.int)) (h0 : ∀ x ∈ (eC_ E).exceptionTable.toList, False) (hin : (eT_ E).name = "nameOf") (N : Nat) : ∀ (m : Mm) (v0 : Option Nat) (v1 : Int32) (v2 : Int32) (k n : Nat), Sm_ l g E 4 (xe_ en_i) (fX1_nameOf (gE_ g) N m v0 v1 v2) k n 0 [(0, vr_ v0), (1, vi_ v1), (2, vi_ v2)] [] m := by
  intro m v0 v1 v2 k n
  unfold fX1_nameOf
  refine s_aload_n C rfl 0 rfl dX1_nameOf_0 1 rfl ?_
  refine s_iload_n C rfl 1 rfl dX1_nameOf_1 2 rfl ?_
  refine x_ck (fun hb_ hb0_ => ?_)
  refine x_callV (enc := (xe_ en_r)) C 17 1 [vi_ v1] 1 (ctX1_at C.2.2.2.2.2.2.2.2.1 N m v0 v1) hb_ hb0_ rfl rfl q934 q936 qs5 q81 q937 hdX1_at (Nat.le_of_ble_eq_true rfl) (Nat.le_of_ble_eq_true rfl) rfl (Nat.le_of_ble_eq_true rfl) dX1_nameOf_2 5 rfl rfl (hen_x hen_r) (kk_x (kk_r (fun x1 m1 k1 n1 => ?_))) (kx_x C h0 he_r)
  refine s_astore_n C rfl (Nat.le_of_ble_eq_true rfl) [2] rfl rfl dX1_nameOf_5 6 rfl ?_
  refine s_aload_n C rfl 0 rfl dX1_nameOf_6 7 rfl ?_
  refine s_iload_n C rfl 1 rfl dX1_nameOf_7 8 rfl ?_
  refine x_callS (enc := (xe_ en_r)) C 16 2 [vr_ x1, vi_ v2] (ctX1_liveAt C.2.2.2.2.2.2.2.2.1 N m1 x1 v2) q968 q969 q81 q970 hdX1_liveAt (Nat.le_of_ble_eq_true rfl) (Nat.le_of_ble_eq_true rfl) rfl (Nat.le_of_ble_eq_true rfl) dX1_nameOf_8 11 rfl rfl (hen_x hen_r) (kk_x (kk_r (fun x2 m2 k1 n1 => ?_))) (kx_x C h0 he_r)
  refine s_pop C rfl dX1_nameOf_11 12 rfl ?_
  refine s_aload_n C rfl 0 rfl dX1_nameOf_12 13 rfl ?_
  refine s_iload_n C rfl 1 rfl dX1_nameOf_13 14 rfl ?_
  refine x_ck (fun hb_ hb0_ => ?_)
  refine x_callV (enc := en_i) C 15 1 [vi_ v2] 2 (ctX2_shownName C.2.2.2.2.2.2.2.2.1 N m2 x1 v2) hb_ hb0_ rfl rfl q2462 q1668 q1669 q85 q1670 hdX2_shownName (Nat.le_of_ble_eq_true rfl) (Nat.le_of_ble_eq_true rfl) rfl (Nat.le_of_ble_eq_true rfl) dX1_nameOf_14 17 rfl rfl hen_i (kk_i (fun x3 m3 k1 n1 => ?_)) (kx_n he_i)
  exact x_iret C hret rfl dX1_nameOf_17
theorem hdX1_nameOf : ((⟨"MasterTree", "nameOf", "(II)I"⟩ : MethodName)).cls ≠ "java/lang/invoke/MethodHandle" ∧ ((⟨"MasterTree", "nameOf", "(II)I"⟩ : MethodName)).cls ≠ "java/lang/invoke/VarHandle" ∧ (parseMethodDescriptor ((⟨"MasterTree", "nameOf", "(II)I"⟩ : MethodName)).desc).map (fun d => d.parameters.length) = some 2 := ⟨by decide +kernel, by decide +kernel, by decide +kernel⟩
theorem ctX1_nameOf {l : Launch} {g : GG} (hst : l.stackTraces = false) (N : Nat) (m : Mm) (v0 : Option Nat) (v1 : Int32) (v2 : Int32) : ∀ v m' k n, fX1_nameOf (gE_ g) N m v0 v1 v2 = some (v, m', k, n) → Ct_ l g (⟨"MasterTree", "nameOf", "(II)I"⟩ : MethodName) (ws_ (⟨"MasterTree", "nameOf", "(II)I"⟩ : MethodName) cX1_nameOf 4 (Option.some Jvm.ClassFile.FieldType.int)) 18 [vr_ v0, vi_ v1, vi_ v2] m ((xe_ en_i) v) m' k n :=
  Ct_of (by decide +kernel) rfl hst (Nat.le_of_ble_eq_true rfl) rfl (fun E C hret h0 hin => wX1_nameOf C hret h0 hin N m v0 v1 v2 0 0)
theorem wX0_nameOf {l : Launch} {g : GG} {E : Me_} (C : Cx_ l g E "MasterTreeLaw" cX0_nameOf 5 19) (hret : (eT_ E).sig.returnType = (Option.some Jvm.ClassFile.FieldType.int)) (h0 : (eC_ E).exceptionTable.toList = tableOf [(0, 10, 13, 19)]) (hin : (eT_ E).name = "nameOf") (N : Nat) : ∀ (m : Mm) (v0 : Option Nat) (v1 : Int32) (v2 : Int32) (v3 : Option Nat) (k n : Nat), Sm_ l g E 5 en_i (fX0_nameOf (gE_ g) N m v0 v1 v2 v3) k n 0 [(0, vr_ v0), (1, vi_ v1), (2, vi_ v2), (3, vr_ v3)] [] m := by
  intro m v0 v1 v2 v3 k n
  unfold fX0_nameOf
  refine s_aload_n C rfl 3 rfl dX0_nameOf_0 1 rfl ?_
  refine s_iconst C 0 rfl dX0_nameOf_1 2 rfl ?_
  refine s_aload_n C rfl 0 rfl dX0_nameOf_2 3 rfl ?_
  refine s_iload_n C rfl 1 rfl dX0_nameOf_3 4 rfl ?_
  refine s_iload_n C rfl 2 rfl dX0_nameOf_4 5 rfl ?_
  refine x_ck (fun hb_ hb0_ => ?_)
  refine x_callV (enc := (xe_ en_i)) C 18 2 [vi_ v1, vi_ v2] 1 (ctX1_nameOf C.2.2.2.2.2.2.2.2.1 N m v0 v1 v2) hb_ hb0_ rfl rfl q2942 q2943 q2944 q81 q2945 hdX1_nameOf (Nat.le_of_ble_eq_true rfl) (Nat.le_of_ble_eq_true rfl) rfl (Nat.le_of_ble_eq_true rfl) dX0_nameOf_5 8 rfl rfl (hen_x hen_i) (kk_c (kk_i (fun x1 m1 k1 n1 => ?_))) (kx_c he_i (fun i_ m0 k0 n0 => ?_))
  · refine s_i2l C dX0_nameOf_8 9 rfl ?_
    refine x_bj3 C 203 rfl dX0_nameOf_9 10 rfl (fun m2 => ?_)
    refine s_goto C (off := 7) 17 dX0_nameOf_10 rfl ?_
    refine s_iconst C 0 rfl dX0_nameOf_17 18 rfl ?_
    exact x_iret C hret rfl dX0_nameOf_18
  · refine Sx_if ?_ ?_
    · refine Sx_ctch C h0 0 [] ({ startPc := 0, endPc := 10, handlerPc := 13, catchType := 19 } : ExceptionTableEntry) [] rfl (fun z hz => by cases hz) (by decide) (by decide) q600 q638 13 rfl (fun q_ => ?_)
      refine s_astore C (Nat.le_of_ble_eq_true rfl) [] rfl rfl dX0_nameOf_13 15 rfl ?_
      refine s_iconst C 1 rfl dX0_nameOf_15 16 rfl ?_
      exact x_iret C hret rfl dX0_nameOf_16
    exact Sx_none
theorem hdX0_nameOf : ((⟨"MasterTreeLaw", "nameOf", "(LMasterTree;II[J)I"⟩ : MethodName)).cls ≠ "java/lang/invoke/MethodHandle" ∧ ((⟨"MasterTreeLaw", "nameOf", "(LMasterTree;II[J)I"⟩ : MethodName)).cls ≠ "java/lang/invoke/VarHandle" ∧ (parseMethodDescriptor ((⟨"MasterTreeLaw", "nameOf", "(LMasterTree;II[J)I"⟩ : MethodName)).desc).map (fun d => d.parameters.length) = some 4 := ⟨by decide +kernel, by decide +kernel, by decide +kernel⟩
theorem ctX0_nameOf {l : Launch} {g : GG} (hst : l.stackTraces = false) (N : Nat) (m : Mm) (v0 : Option Nat) (v1 : Int32) (v2 : Int32) (v3 : Option Nat) : ∀ v m' k n, fX0_nameOf (gE_ g) N m v0 v1 v2 v3 = some (v, m', k, n) → Ct_ l g (⟨"MasterTreeLaw", "nameOf", "(LMasterTree;II[J)I"⟩ : MethodName) (wsW_ (⟨"MasterTreeLaw", "nameOf", "(LMasterTree;II[J)I"⟩ : MethodName) cX0_nameOf 5 (Option.some Jvm.ClassFile.FieldType.int) [(0, 10, 13, 19)]) 19 [vr_ v0, vi_ v1, vi_ v2, vr_ v3] m (en_i v) m' k n :=
  Ct_ofW (by decide +kernel) rfl hst (Nat.le_of_ble_eq_true rfl) rfl (fun E C hret h0 hin => wX0_nameOf C hret h0 hin N m v0 v1 v2 v3 0 0)
theorem wX1_isIndex {l : Launch} {g : GG} {E : Me_} (C : Cx_ l g E "MasterTree" cX1_isIndex 1 16) (hret : (eT_ E).sig.returnType = (Option.none : Option Jvm.ClassFile.FieldType)) (h0 : ∀ x ∈ (eC_ E).exceptionTable.toList, False) (hin : (eT_ E).name = "isIndex") (N : Nat) : ∀ (m : Mm) (v0 : Int32) (k n : Nat), Sm_ l g E 1 (xe_ en_v) (fX1_isIndex (gE_ g) N m v0) k n 0 [(0, vi_ v0)] [] m := by
  intro m v0 k n
  unfold fX1_isIndex
  refine s_iload_n C rfl 0 rfl dX1_isIndex_0 1 rfl ?_
  refine s_if_ge C dX1_isIndex_1 36 rfl 4 rfl (fun c_ => ?_) (fun c_ => ?_)
  · refine x_nx C 0 (by decide) q636 q637 q99 dX1_isIndex_4 7 rfl (fun x1 m1 hz_x1 => ?_)
    refine s_dup C rfl dX1_isIndex_7 8 rfl ?_
    refine x_nw C 29 (RJ16, TJ16, 4) rfl q645 q646 q103 30 4 rfl rfl dX1_isIndex_8 11 rfl (fun x2 m2 => ?_)
    refine s_dup C rfl dX1_isIndex_11 12 rfl ?_
    refine x_callI (enc := en_v) C 11 0 [] (ctJ16_init C.2.2.2.2.2.2.2.2.1 N m2 (some x2)) (fun h => by cases h) rfl q647 q648 q103 q649 rfl hdJ16_init (Nat.le_of_ble_eq_true rfl) (Nat.le_of_ble_eq_true rfl) rfl (Nat.le_of_ble_eq_true rfl) dX1_isIndex_12 15 rfl rfl hen_v (kk_v (fun m3 k1 n1 => ?_)) (kx_n he_v)
    refine x_ls C 38 38 rfl dX1_isIndex_15 17 rfl ?_
    refine x_ck (fun hb_ hb0_ => ?_)
    refine x_callV (enc := en_r) C 14 1 [vr_ (some (gE_ g (100 + 38)))] 30 (ctJ16_append C.2.2.2.2.2.2.2.2.1 N m3 (some x2) (some (gE_ g (100 + 38)))) hb_ hb0_ rfl rfl q677 q678 q679 q103 q680 hdJ16_append (Nat.le_of_ble_eq_true rfl) (Nat.le_of_ble_eq_true rfl) rfl (Nat.le_of_ble_eq_true rfl) dX1_isIndex_17 20 rfl rfl hen_r (kk_r (fun x3 m4 k1 n1 => ?_)) (kx_n he_r)
    refine s_iload_n C rfl 0 rfl dX1_isIndex_20 21 rfl ?_
    refine x_ck (fun hb_ hb0_ => ?_)
    refine x_callV (enc := en_r) C 14 1 [vi_ v0] 30 (ctJ16_append_2 C.2.2.2.2.2.2.2.2.1 N m4 x3 v0) hb_ hb0_ rfl rfl q783 q784 q785 q103 q786 hdJ16_append_2 (Nat.le_of_ble_eq_true rfl) (Nat.le_of_ble_eq_true rfl) rfl (Nat.le_of_ble_eq_true rfl) dX1_isIndex_21 24 rfl rfl hen_r (kk_r (fun x4 m5 k1 n1 => ?_)) (kx_n he_r)
    refine x_ls C 39 39 rfl dX1_isIndex_24 26 rfl ?_
    refine x_ck (fun hb_ hb0_ => ?_)
    refine x_callV (enc := en_r) C 14 1 [vr_ (some (gE_ g (100 + 39)))] 30 (ctJ16_append C.2.2.2.2.2.2.2.2.1 N m5 x4 (some (gE_ g (100 + 39)))) hb_ hb0_ rfl rfl q677 q678 q679 q103 q680 hdJ16_append (Nat.le_of_ble_eq_true rfl) (Nat.le_of_ble_eq_true rfl) rfl (Nat.le_of_ble_eq_true rfl) dX1_isIndex_26 29 rfl rfl hen_r (kk_r (fun x5 m6 k1 n1 => ?_)) (kx_n he_r)
    refine x_ck (fun hb_ hb0_ => ?_)
    refine x_callV (enc := en_r) C 15 0 [] 30 (ctJ16_toString C.2.2.2.2.2.2.2.2.1 N m6 x5) hb_ hb0_ rfl rfl q808 q809 q810 q103 q811 hdJ16_toString (Nat.le_of_ble_eq_true rfl) (Nat.le_of_ble_eq_true rfl) rfl (Nat.le_of_ble_eq_true rfl) dX1_isIndex_29 32 rfl rfl hen_r (kk_r (fun x6 m7 k1 n1 => ?_)) (kx_n he_r)
    refine x_xi0 C q884 hz_x1 (Nat.le_of_ble_eq_true rfl) (Nat.le_of_ble_eq_true rfl) dX1_isIndex_32 35 rfl (fun m8 => ?_)
    exact x_at C h0 0 (by decide) rfl dX1_isIndex_35
  · exact x_vret C hret rfl dX1_isIndex_36
theorem hdX1_isIndex : ((⟨"MasterTree", "isIndex", "(I)V"⟩ : MethodName)).cls ≠ "java/lang/invoke/MethodHandle" ∧ ((⟨"MasterTree", "isIndex", "(I)V"⟩ : MethodName)).cls ≠ "java/lang/invoke/VarHandle" ∧ (parseMethodDescriptor ((⟨"MasterTree", "isIndex", "(I)V"⟩ : MethodName)).desc).map (fun d => d.parameters.length) = some 1 := ⟨by decide +kernel, by decide +kernel, by decide +kernel⟩
theorem ctX1_isIndex {l : Launch} {g : GG} (hst : l.stackTraces = false) (N : Nat) (m : Mm) (v0 : Int32) : ∀ v m' k n, fX1_isIndex (gE_ g) N m v0 = some (v, m', k, n) → Ct_ l g (⟨"MasterTree", "isIndex", "(I)V"⟩ : MethodName) (ws_ (⟨"MasterTree", "isIndex", "(I)V"⟩ : MethodName) cX1_isIndex 1 (Option.none : Option Jvm.ClassFile.FieldType)) 16 [vi_ v0] m ((xe_ en_v) v) m' k n :=
  Ct_of (by decide +kernel) rfl hst (Nat.le_of_ble_eq_true rfl) rfl (fun E C hret h0 hin => wX1_isIndex C hret h0 hin N m v0 0 0)
theorem wX1_valueAt_b47 {l : Launch} {g : GG} {E : Me_} (C : Cx_ l g E "MasterTree" cX1_valueAt 10 19) (hret : (eT_ E).sig.returnType = (Option.some Jvm.ClassFile.FieldType.int)) (h0 : ∀ x ∈ (eC_ E).exceptionTable.toList, False) (hin : (eT_ E).name = "valueAt") (N : Nat) : ∀ (F : Nat) (m : Mm) (v4 : Int32) (v7 : Int32) (v8 : Option Nat) (k n : Nat), Sm_ l g E 10 (xe_ en_i) (fX1_valueAt_b47 (gE_ g) N F m v4 v7 v8) k n 47 [(4, vi_ v4), (7, vi_ v7), (8, vr_ v8)] [] m := by
  intro F
  induction F with
  | zero => intros; exact Sm_none
  | succ F ih =>
    intro m v4 v7 v8 k n
    unfold fX1_valueAt_b47
    refine s_aload C 2 rfl dX1_valueAt_47 49 rfl ?_
    refine x_ck (fun hb_ hb0_ => ?_)
    refine x_callF (enc := en_i) C 11 0 [] 26 (ctJ42_hasNext C.2.2.2.2.2.2.2.2.1 N m v8) hb_ hb0_ rfl rfl rfl fw_12 q1716 q1450 q1452 q135 q1454 hx3 (Nat.le_of_ble_eq_true rfl) (Nat.le_of_ble_eq_true rfl) rfl (Nat.le_of_ble_eq_true rfl) dX1_valueAt_49 54 rfl rfl hen_i (kk_i (fun x1 m1 k1 n1 => ?_)) (kx_n he_i)
    refine s_if_eq C dX1_valueAt_54 88 rfl 57 rfl (fun c_ => ?_) (fun c_ => ?_)
    · refine s_iconst C (-1) rfl dX1_valueAt_88 89 rfl ?_
      exact x_iret C hret rfl dX1_valueAt_89
    · refine s_aload C 2 rfl dX1_valueAt_57 59 rfl ?_
      refine x_ck (fun hb_ hb0_ => ?_)
      refine x_callF (enc := en_r) C 14 0 [] 26 (ctJ42_next C.2.2.2.2.2.2.2.2.1 N m1 v8) hb_ hb0_ rfl rfl rfl fw_18 q1718 q1488 q1490 q135 q1492 hx5 (Nat.le_of_ble_eq_true rfl) (Nat.le_of_ble_eq_true rfl) rfl (Nat.le_of_ble_eq_true rfl) dX1_valueAt_59 64 rfl rfl hen_r (kk_r (fun x2 m2 k1 n1 => ?_)) (kx_n he_r)
      refine x_cc C "java/lang/Integer" [27] (fun k hk => by rw [List.mem_singleton.mp hk]; exact ⟨rfl, Or.inr rfl⟩) q2793 dX1_valueAt_64 67 rfl ?_
      refine x_ck (fun hb_ hb0_ => ?_)
      refine x_callV (enc := en_i) C 10 0 [] 27 (ctJ21_intValue C.2.2.2.2.2.2.2.2.1 N m2 x2) hb_ hb0_ rfl rfl q2794 q1585 q1586 q108 q1587 hdJ21_intValue (Nat.le_of_ble_eq_true rfl) (Nat.le_of_ble_eq_true rfl) rfl (Nat.le_of_ble_eq_true rfl) dX1_valueAt_67 70 rfl rfl hen_i (kk_i (fun x3 m3 k1 n1 => ?_)) (kx_n he_i)
      refine s_istore C (Nat.le_of_ble_eq_true rfl) [0, 1, 2] rfl rfl dX1_valueAt_70 72 rfl ?_
      refine s_iload C 2 rfl dX1_valueAt_72 74 rfl ?_
      refine s_iload C 1 rfl dX1_valueAt_74 76 rfl ?_
      refine s_icmp_ne C dX1_valueAt_76 82 rfl 79 rfl (fun c_ => ?_) (fun c_ => ?_)
      · refine s_iload C 0 rfl dX1_valueAt_79 81 rfl ?_
        exact x_iret C hret rfl dX1_valueAt_81
      · refine s_iinc C 1 rfl 2 rfl (Nat.le_of_ble_eq_true rfl) [0, 1, 3] rfl rfl dX1_valueAt_82 85 rfl ?_
        refine s_goto C (off := -38) 47 dX1_valueAt_85 rfl ?_
        refine Sm_sub [2, 0, 3] rfl ?_
        exact ih _ _ _ _ _ _
theorem wX1_valueAt {l : Launch} {g : GG} {E : Me_} (C : Cx_ l g E "MasterTree" cX1_valueAt 10 19) (hret : (eT_ E).sig.returnType = (Option.some Jvm.ClassFile.FieldType.int)) (h0 : ∀ x ∈ (eC_ E).exceptionTable.toList, False) (hin : (eT_ E).name = "valueAt") (N : Nat) : ∀ (m : Mm) (v0 : Option Nat) (v1 : Int32) (v2 : Int32) (v3 : Int32) (v4 : Int32) (k n : Nat), Sm_ l g E 10 (xe_ en_i) (fX1_valueAt (gE_ g) N m v0 v1 v2 v3 v4) k n 0 [(0, vr_ v0), (1, vi_ v1), (2, vi_ v2), (3, vi_ v3), (4, vi_ v4)] [] m := by
  intro m v0 v1 v2 v3 v4 k n
  unfold fX1_valueAt
  refine s_aload_n C rfl 0 rfl dX1_valueAt_0 1 rfl ?_
  refine s_iload_n C rfl 1 rfl dX1_valueAt_1 2 rfl ?_
  refine x_ck (fun hb_ hb0_ => ?_)
  refine x_callV (enc := (xe_ en_r)) C 17 1 [vi_ v1] 1 (ctX1_at C.2.2.2.2.2.2.2.2.1 N m v0 v1) hb_ hb0_ rfl rfl q934 q936 qs5 q81 q937 hdX1_at (Nat.le_of_ble_eq_true rfl) (Nat.le_of_ble_eq_true rfl) rfl (Nat.le_of_ble_eq_true rfl) dX1_valueAt_2 5 rfl rfl (hen_x hen_r) (kk_x (kk_r (fun x1 m1 k1 n1 => ?_))) (kx_x C h0 he_r)
  refine s_astore C (Nat.le_of_ble_eq_true rfl) [0, 2, 3, 4] rfl rfl dX1_valueAt_5 7 rfl ?_
  refine s_aload C 0 rfl dX1_valueAt_7 9 rfl ?_
  refine s_iload_n C rfl 2 rfl dX1_valueAt_9 10 rfl ?_
  refine x_callS (enc := (xe_ en_r)) C 16 2 [vr_ x1, vi_ v2] (ctX1_liveAt C.2.2.2.2.2.2.2.2.1 N m1 x1 v2) q968 q969 q81 q970 hdX1_liveAt (Nat.le_of_ble_eq_true rfl) (Nat.le_of_ble_eq_true rfl) rfl (Nat.le_of_ble_eq_true rfl) dX1_valueAt_10 13 rfl rfl (hen_x hen_r) (kk_x (kk_r (fun x2 m2 k1 n1 => ?_))) (kx_x C h0 he_r)
  refine s_astore C (Nat.le_of_ble_eq_true rfl) [1, 3, 4] rfl rfl dX1_valueAt_13 15 rfl ?_
  refine s_aload_n C rfl 1 rfl dX1_valueAt_15 16 rfl ?_
  refine s_iload_n C rfl 2 rfl dX1_valueAt_16 17 rfl ?_
  refine x_ck (fun hb_ hb0_ => ?_)
  refine x_callV (enc := (xe_ en_r)) C 17 1 [vi_ v3] 1 (ctX1_attributeAt C.2.2.2.2.2.2.2.2.1 N m2 v0 v3) hb_ hb0_ rfl rfl q948 q950 qs6 q81 q951 hdX1_attributeAt (Nat.le_of_ble_eq_true rfl) (Nat.le_of_ble_eq_true rfl) rfl (Nat.le_of_ble_eq_true rfl) dX1_valueAt_17 20 rfl rfl (hen_x hen_r) (kk_x (kk_r (fun x3 m3 k1 n1 => ?_))) (kx_x C h0 he_r)
  refine s_pop C rfl dX1_valueAt_20 21 rfl ?_
  refine s_iload C 3 rfl dX1_valueAt_21 23 rfl ?_
  refine x_callS (enc := (xe_ en_v)) C 16 1 [vi_ v4] (ctX1_isIndex C.2.2.2.2.2.2.2.2.1 N m3 v4) q2953 q2954 q81 q2955 hdX1_isIndex (Nat.le_of_ble_eq_true rfl) (Nat.le_of_ble_eq_true rfl) rfl (Nat.le_of_ble_eq_true rfl) dX1_valueAt_23 26 rfl rfl (hen_x hen_v) (kk_x (kk_v (fun m4 k1 n1 => ?_))) (kx_x C h0 he_v)
  refine s_iconst C 0 rfl dX1_valueAt_26 27 rfl ?_
  refine s_istore C (Nat.le_of_ble_eq_true rfl) [0, 2, 3] rfl rfl dX1_valueAt_27 29 rfl ?_
  refine s_aload C 1 rfl dX1_valueAt_29 31 rfl ?_
  refine s_iload_n C rfl 2 rfl dX1_valueAt_31 32 rfl ?_
  refine x_ck (fun hb_ hb0_ => ?_)
  refine x_callV (enc := en_r) C 18 1 [vi_ v3] 3 (ctX3_valuesOf C.2.2.2.2.2.2.2.2.1 N m4 x2 v3) hb_ hb0_ rfl rfl q2315 q1988 q1989 q88 q1990 hdX3_valuesOf (Nat.le_of_ble_eq_true rfl) (Nat.le_of_ble_eq_true rfl) rfl (Nat.le_of_ble_eq_true rfl) dX1_valueAt_32 35 rfl rfl hen_r (kk_r (fun x4 m5 k1 n1 => ?_)) (kx_n he_r)
  refine x_ck (fun hb_ hb0_ => ?_)
  refine x_callF (enc := en_r) C 12 0 [] 21 (ctJ3_values_t21 C.2.2.2.2.2.2.2.2.1 N m5 x4) hb_ hb0_ rfl rfl rfl fw_61 q2959 q2963 q2729 q86 q2731 hx24 (Nat.le_of_ble_eq_true rfl) (Nat.le_of_ble_eq_true rfl) rfl (Nat.le_of_ble_eq_true rfl) dX1_valueAt_35 40 rfl rfl hen_r (kk_r (fun x5 m6 k1 n1 => ?_)) (kx_n he_r)
  refine x_ck (fun hb_ hb0_ => ?_)
  refine x_callF (enc := en_r) C 18 0 [] 25 (ctJ46_iterator C.2.2.2.2.2.2.2.2.1 N m6 x5) hb_ hb0_ rfl rfl rfl fw_53 q2965 q2748 q2104 q144 q2105 hx22 (Nat.le_of_ble_eq_true rfl) (Nat.le_of_ble_eq_true rfl) rfl (Nat.le_of_ble_eq_true rfl) dX1_valueAt_40 45 rfl rfl hen_r (kk_r (fun x6 m7 k1 n1 => ?_)) (kx_n he_r)
  refine s_astore C (Nat.le_of_ble_eq_true rfl) [0, 3] rfl rfl dX1_valueAt_45 47 rfl ?_
  refine Sm_sub [2, 1, 0] rfl ?_
  exact wX1_valueAt_b47 C hret h0 hin N N _ _ _ _ _ _
theorem hdX1_valueAt : ((⟨"MasterTree", "valueAt", "(IIII)I"⟩ : MethodName)).cls ≠ "java/lang/invoke/MethodHandle" ∧ ((⟨"MasterTree", "valueAt", "(IIII)I"⟩ : MethodName)).cls ≠ "java/lang/invoke/VarHandle" ∧ (parseMethodDescriptor ((⟨"MasterTree", "valueAt", "(IIII)I"⟩ : MethodName)).desc).map (fun d => d.parameters.length) = some 4 := ⟨by decide +kernel, by decide +kernel, by decide +kernel⟩
theorem ctX1_valueAt {l : Launch} {g : GG} (hst : l.stackTraces = false) (N : Nat) (m : Mm) (v0 : Option Nat) (v1 : Int32) (v2 : Int32) (v3 : Int32) (v4 : Int32) : ∀ v m' k n, fX1_valueAt (gE_ g) N m v0 v1 v2 v3 v4 = some (v, m', k, n) → Ct_ l g (⟨"MasterTree", "valueAt", "(IIII)I"⟩ : MethodName) (ws_ (⟨"MasterTree", "valueAt", "(IIII)I"⟩ : MethodName) cX1_valueAt 10 (Option.some Jvm.ClassFile.FieldType.int)) 19 [vr_ v0, vi_ v1, vi_ v2, vi_ v3, vi_ v4] m ((xe_ en_i) v) m' k n :=
  Ct_of (by decide +kernel) rfl hst (Nat.le_of_ble_eq_true rfl) rfl (fun E C hret h0 hin => wX1_valueAt C hret h0 hin N m v0 v1 v2 v3 v4 0 0)
