/-! the pure laws: K2 -/
set_option maxRecDepth 100000
/-! PURE: the hashes of types of up to eight letters lie apart -/
def kin (x : Nat) (k : List Nat → List Nat) (xs : List Nat) : List Nat → List Nat
  | [] => x :: xs
  | y :: ys => bif Nat.ble x y then x :: k (y :: ys) else y :: kin x k xs ys
def kmrg : List Nat → List Nat → List Nat
  | [] => fun ys => ys
  | x :: xs => fun ys => kin x (kmrg xs) xs ys
/-- pairs of rows are joined -/
def kpr : List (List Nat) → List (List Nat)
  | a :: b :: l => kmrg a b :: kpr l
  | l => l
def kall : Nat → List (List Nat) → List Nat
  | 0, l => l.flatten
  | n + 1, l => kall n (kpr l)
def ksort (n : Nat) (l : List Nat) : List Nat := kall n (l.map fun x => [x])
/-- a row goes up by four at least each time -/
def kgap : Nat → List Nat → Bool
  | _, [] => true
  | a, b :: l => bif Nat.ble (a + 4) b then kgap b l else false
def kgp (h : Nat) : Nat := (31 * h) % 4294967296 + 4
def kG8 : List Nat := (kL1 ++ kL2 ++ kL3 ++ kL4 ++ kL5 ++ kL6 ++ kL7 ++ kL8).map kgp
theorem kg8 : kgap 0 (ksort 15 kG8) = true := by decide +kernel
theorem kg8b : kG8.all (fun v => Nat.ble v 4294967290) = true := by decide +kernel

