/-! the pure laws: K3 -/
set_option maxRecDepth 100000
/-! PURE: the hashes of types of nine letters lie apart from those that may come with them -/
def kfar (x y : Nat) : Bool := (Nat.ble (x + 4) y && Nat.ble y (x + 4294967292)) || (Nat.ble (y + 4) x && Nat.ble x (y + 4294967292))
def kD0 : List Tm := [.num 105, .num 98]
def kD1 : List Tm := [.num 105, .num 98] ++ kD0.map (.mulL 0) ++ prT .add kD0 kD0
def kD2 : List Tm := [.num 105, .num 98] ++ kD1.map (.mulL 0) ++ prT .add kD1 kD1
/-- types of up to six letters, and those that are drawn -/
def kS6 : List Nat := (kL1 ++ kL2 ++ kL3 ++ kL4 ++ kL5 ++ kL6).map kgp ++ kD2.map fun t => kgp (hN t)
def kpo : List Nat → List Nat
  | a :: b :: l => (a ||| b) :: kpo l
  | l => l
def kpos : Nat → List Nat → List Nat
  | 0, l => l
  | n + 1, l => kpos n (kpo l)
/-- a bit for each number that is near to one of them -/
def kBs (p : Nat) : Nat := (kpos 14 ((kS6.flatMap fun v => [v - 3, v - 2, v - 1, v, v + 1, v + 2, v + 3]).map fun x => 2 ^ (x % p))).foldr (fun a b => a ||| b) 0
def kB1 : Nat := kBs 65521
def kB2 : Nat := kBs 65519
def kB3 : Nat := kBs 65497
def kchk (x : Nat) : Bool := bif Nat.testBit kB1 (x % 65521) then (bif Nat.testBit kB2 (x % 65519) then (bif Nat.testBit kB3 (x % 65497) then kS6.all fun v => kfar x v else true) else true) else true
def kpp (A B : List Nat) : Bool := A.all fun a => B.all fun b => kchk (kgp (mP a b))
theorem kc0 : (kS6.all fun v => Nat.ble 8 v && Nat.ble v 4294967291) = true := by decide +kernel
theorem kc1 : kL8.all (fun h => kchk (kgp (mL h))) = true := by decide +kernel
theorem kc2 : kpp kL1 kL7 = true := by decide +kernel
theorem kc3 : kpp kL7 kL1 = true := by decide +kernel
theorem kc4 : (kpp kL2 kL6 && kpp kL6 kL2) = true := by decide +kernel
theorem kc5 : (kpp kL3 kL5 && (kpp kL5 kL3 && kpp kL4 kL4)) = true := by decide +kernel
/-- a type of nine letters and what is in it -/
theorem ko1 : kL8.all (fun h => kfar (kgp (mL h)) (kgp h)) = true := by decide +kernel
theorem ko2 : kL7.all (fun h => kfar (kgp (mL (mL h))) (kgp h)) = true := by decide +kernel
theorem ko3 : (kL1.all fun a => kL7.all fun h => kfar (kgp (mP a h)) (kgp h) && kfar (kgp (mP h a)) (kgp h)) = true := by decide +kernel

