/-! BASE 1: ints as Int, the pure world, and what it says of a heap -/
set_option maxRecDepth 100000
abbrev I32 (x : Int) : Int32 := Int32.ofInt x
abbrev I64 (x : Int) : Int64 := Int64.ofInt x
def wr (x : Int) : Int := (Int32.ofInt x).toInt
def wl (x : Int) : Int := (Int64.ofInt x).toInt
abbrev rI (x : Int) : Prop := -2147483648 ≤ x ∧ x < 2147483648
abbrev rL (x : Int) : Prop := -9223372036854775808 ≤ x ∧ x < 9223372036854775808
theorem rI_to (v : Int32) : rI v.toInt := ⟨Int32.le_toInt v, Int32.toInt_lt v⟩
theorem rL_to (v : Int64) : rL v.toInt := ⟨Int64.le_toInt v, Int64.toInt_lt v⟩
theorem wr_r (x : Int) : rI (wr x) := rI_to _
theorem wl_r (x : Int) : rL (wl x) := rL_to _
theorem rI_L {x : Int} (h : rI x) : rL x := by unfold rI at h; unfold rL; omega
theorem I_wr (x : Int) : I32 (wr x) = I32 x := Int32.ofInt_toInt _
theorem L_wl (x : Int) : I64 (wl x) = I64 x := Int64.ofInt_toInt _
theorem toI {x : Int} (h : rI x) : (I32 x).toInt = x := Int32.toInt_ofInt_of_le h.1 h.2
theorem toL {x : Int} (h : rL x) : (I64 x).toInt = x := Int64.toInt_ofInt_of_le h.1 h.2
theorem wr_id {x : Int} (h1 : -2147483648 ≤ x) (h2 : x < 2147483648) : wr x = x := toI ⟨h1, h2⟩
theorem wl_id {x : Int} (h1 : -9223372036854775808 ≤ x) (h2 : x < 9223372036854775808) : wl x = x := toL ⟨h1, h2⟩
theorem I_of (v : Int32) : I32 v.toInt = v := Int32.ofInt_toInt v
theorem L_of (v : Int64) : I64 v.toInt = v := Int64.ofInt_toInt v
def iand (x y : Int) : Int := (I32 x &&& I32 y).toInt
def ior (x y : Int) : Int := (I32 x ||| I32 y).toInt
def ixor (x y : Int) : Int := (I32 x ^^^ I32 y).toInt
def ishl (x y : Int) : Int := (I32 x <<< (I32 y &&& 31)).toInt
def ishr (x y : Int) : Int := (I32 x >>> (I32 y &&& 31)).toInt
def iush (x y : Int) : Int := (((I32 x).toUInt32 >>> ((I32 y).toUInt32 &&& Int32.toUInt32 31)).toInt32).toInt
def idv (x y : Int) : Int := (I32 x / I32 y).toInt
def irm (x y : Int) : Int := (I32 x - I32 x / I32 y * I32 y).toInt
def i2b (x : Int) : Int := ((I32 x).toInt8.toInt32).toInt
def land (x y : Int) : Int := (I64 x &&& I64 y).toInt
def ldv (x y : Int) : Int := (I64 x / I64 y).toInt
def lrm (x y : Int) : Int := (I64 x - I64 x / I64 y * I64 y).toInt
def lcm3 (x y : Int) : Int := if x < y then -1 else if x = y then 0 else 1
abbrev vI (x : Int) : Value := Value.int (I32 x)
abbrev vL (x : Int) : Value := Value.long (I64 x)
theorem I_lt {x y : Int} (hx : rI x) (hy : rI y) : I32 x < I32 y ↔ x < y := by
  rw [Int32.lt_iff_toInt_lt, toI hx, toI hy]
theorem I_le {x y : Int} (hx : rI x) (hy : rI y) : I32 x ≤ I32 y ↔ x ≤ y := by
  rw [Int32.le_iff_toInt_le, toI hx, toI hy]
theorem I_eq {x y : Int} (hx : rI x) (hy : rI y) : I32 x = I32 y ↔ x = y := by
  constructor
  · intro h
    have := congrArg Int32.toInt h
    rwa [toI hx, toI hy] at this
  · intro h; rw [h]
theorem I_0 {x : Int} (hx : rI x) : I32 x = 0 ↔ x = 0 := I_eq (y := 0) hx (by decide)
theorem L_eq {x y : Int} (hx : rL x) (hy : rL y) : I64 x = I64 y ↔ x = y := by
  constructor
  · intro h
    have := congrArg Int64.toInt h
    rwa [toL hx, toL hy] at this
  · intro h; rw [h]
theorem L_0 {x : Int} (hx : rL x) : I64 x = 0 ↔ x = 0 := L_eq (y := 0) hx (by decide)
theorem I_idx {x : Int} (hx : rI x) (h0 : 0 ≤ x) : (I32 x).toNatClampNeg = x.toNat := by
  show (I32 x).toInt.toNat = _
  rw [toI hx]
theorem I_in {x : Int} {n : Nat} (hx : rI x) (h : 0 ≤ x ∧ x < n) : vp_in (I32 x) n := by
  intro q
  rcases q with q | q
  · have : I32 x < I32 0 := q
    rw [I_lt hx (by decide)] at this
    omega
  · rw [I_idx hx h.1] at q
    omega
/-! the pure world: values, cells, heaps -/
abbrev hV : Type := Int ⊕ Option Nat ⊕ UInt32 ⊕ Int
def hv : hV → Value := fun v => match v with
  | .inl i => .int (I32 i)
  | .inr (.inl o) => va_rf o
  | .inr (.inr (.inl u)) => .float u
  | .inr (.inr (.inr l)) => .long (I64 l)
abbrev vi (i : Int) : hV := .inl i
abbrev vq (o : Option Nat) : hV := .inr (.inl o)
abbrev hE : Type := (Nat × List hV) ⊕ (Nat × Nat × ((Int → Int) ⊕ (Int → Option Nat)))
abbrev hM : Type := Nat → Option hE
/-- the cells, the next address, the slots used so far -/
abbrev hS : Type := hM × Nat × Nat
/-- scalars, int arrays, reference arrays of an object that is held whole -/
abbrev Sg : Type := (Nat → Int) × (Nat → Int → Int) × (Nat → Int → Option Nat)
/-- class number, address, addresses of its arrays -/
abbrev Sp : Type := Nat × Nat × (Nat → Nat)
def gI (σ : Sg) (k : Nat) : Int := σ.1 k
def gA (σ : Sg) (k : Nat) (i : Int) : Int := σ.2.1 k i
def gQ (σ : Sg) (k : Nat) (i : Int) : Option Nat := σ.2.2 k i
def sI (σ : Sg) (k : Nat) (v : Int) : Sg := (fun j => if j = k then v else σ.1 j, σ.2)
def sA (σ : Sg) (k : Nat) (i : Int) (v : Int) : Sg := (σ.1, fun j x => if j = k ∧ x = i then v else σ.2.1 j x, σ.2.2)
def sQ (σ : Sg) (k : Nat) (i : Int) (v : Option Nat) : Sg := (σ.1, σ.2.1, fun j x => if j = k ∧ x = i then v else σ.2.2 j x)
theorem gI_sI (σ : Sg) (k j : Nat) (v : Int) : gI (sI σ k v) j = if j = k then v else gI σ j := rfl
theorem gI_sA (σ : Sg) (k j : Nat) (i v : Int) : gI (sA σ k i v) j = gI σ j := rfl
theorem gI_sQ (σ : Sg) (k j : Nat) (i : Int) (v : Option Nat) : gI (sQ σ k i v) j = gI σ j := rfl
theorem gA_sI (σ : Sg) (k j : Nat) (v x : Int) : gA (sI σ k v) j x = gA σ j x := rfl
theorem gA_sA (σ : Sg) (k j : Nat) (i v x : Int) : gA (sA σ k i v) j x = if j = k ∧ x = i then v else gA σ j x := rfl
theorem gA_sQ (σ : Sg) (k j : Nat) (i x : Int) (v : Option Nat) : gA (sQ σ k i v) j x = gA σ j x := rfl
theorem gQ_sI (σ : Sg) (k j : Nat) (v x : Int) : gQ (sI σ k v) j x = gQ σ j x := rfl
theorem gQ_sA (σ : Sg) (k j : Nat) (i v x : Int) : gQ (sA σ k i v) j x = gQ σ j x := rfl
theorem gQ_sQ (σ : Sg) (k j : Nat) (i x : Int) (v : Option Nat) : gQ (sQ σ k i v) j x = if j = k ∧ x = i then v else gQ σ j x := rfl
/-- a check -/
def gd {α : Type} (c : Prop) [Decidable c] (x : Option α) : Option α := if c then x else none
theorem gd_o {α : Type} {c : Prop} [Decidable c] {x : Option α} {r : α} (h : gd c x = some r) : c ∧ x = some r := by
  unfold gd at h
  split at h
  · exact ⟨by assumption, h⟩
  · cases h
theorem gd_t {α : Type} {c : Prop} [Decidable c] {x : Option α} (h : c) : gd c x = x := if_pos h
/-- what is taken of a first part -/
def bd {α β : Type} (x : Option α) (f : α → Option β) : Option β := match x with
  | some a => f a
  | none => none
theorem bd_o {α β : Type} {x : Option α} {f : α → Option β} {r : β} (h : bd x f = some r) : ∃ a, x = some a ∧ f a = some r := by
  cases x with
  | none => cases h
  | some a => exact ⟨a, rfl, h⟩
theorem bd_s {α β : Type} (a : α) (f : α → Option β) : bd (some a) f = f a := rfl
/-- a reference that isn't null -/
def nn {β : Type} (x : Option Nat) (f : Nat → Option β) : Option β := match x with
  | some a => f a
  | none => none
theorem nn_o {β : Type} {x : Option Nat} {f : Nat → Option β} {r : β} (h : nn x f = some r) : ∃ a, x = some a ∧ f a = some r := by
  cases x with
  | none => cases h
  | some a => exact ⟨a, rfl, h⟩
theorem nn_s {β : Type} (a : Nat) (f : Nat → Option β) : nn (some a) f = f a := rfl
/-- null, or not -/
def ifN {β : Type} (x : Option Nat) (t : Option β) (f : Nat → Option β) : Option β := match x with
  | none => t
  | some a => f a
/-- int array's place -/
abbrev inb (i : Int) (n : Nat) : Prop := 0 ≤ i ∧ i < (n : Int)
/-! what is in a heap -/
def hup (st : hS) (a : Nat) (e : hE) : hS := (fun b => if b = a then some e else st.1 b, st.2)
/-- the field of an object: of each class that may come, its place -/
def hF (st : hS) (a : Nat) (P : List (Nat × Nat)) : Option hV := match st.1 a with
  | some (.inl (c, fs)) => match P.lookup c with
    | some k => fs[k]?
    | none => none
  | _ => none
def hI (st : hS) (o : Option Nat) (P : List (Nat × Nat)) : Option Int := nn o fun a => match hF st a P with
  | some (.inl i) => some i
  | _ => none
def hQ (st : hS) (o : Option Nat) (P : List (Nat × Nat)) : Option (Option Nat) := nn o fun a => match hF st a P with
  | some (.inr (.inl q)) => some q
  | _ => none
/-- a field is written -/
def hW (st : hS) (o : Option Nat) (P : List (Nat × Nat)) (v : hV) : Option hS := nn o fun a => match st.1 a with
  | some (.inl (c, fs)) => match P.lookup c with
    | some k => if k < fs.length then some (hup st a (.inl (c, fs.set k v))) else none
    | none => none
  | _ => none
def hC (st : hS) (o : Option Nat) : Option Nat := nn o fun a => match st.1 a with
  | some (.inl (c, _)) => some c
  | _ => none
/-- an array's length -/
def hL (st : hS) (o : Option Nat) (t : Nat) : Option Int := nn o fun a => match st.1 a with
  | some (.inr (t', n, _)) => if t' = t then some (n : Int) else none
  | _ => none
def aI (st : hS) (o : Option Nat) (t : Nat) (i : Int) : Option Int := nn o fun a => match st.1 a with
  | some (.inr (t', n, .inl f)) => if t' = t ∧ 0 ≤ i ∧ i < (n : Int) then some (f i) else none
  | _ => none
def aQ (st : hS) (o : Option Nat) (t : Nat) (i : Int) : Option (Option Nat) := nn o fun a => match st.1 a with
  | some (.inr (t', n, .inr f)) => if t' = t ∧ 0 ≤ i ∧ i < (n : Int) then some (f i) else none
  | _ => none
def upI {α : Type} (f : Int → α) (k : Int) (v : α) : Int → α := fun j => if j = k then v else f j
def aWI (st : hS) (o : Option Nat) (t : Nat) (i v : Int) : Option hS := nn o fun a => match st.1 a with
  | some (.inr (t', n, .inl f)) => if t' = t ∧ 0 ≤ i ∧ i < (n : Int) then some (hup st a (.inr (t', n, .inl (upI f i v)))) else none
  | _ => none
/-- a reference array is written; the classes that it takes -/
def aWQ (st : hS) (o : Option Nat) (t : Nat) (P : List Nat) (i : Int) (v : Option Nat) : Option hS := nn o fun a => match st.1 a with
  | some (.inr (t', n, .inr f)) => if t' = t ∧ 0 ≤ i ∧ i < (n : Int) ∧ (v = none ∨ ∃ c ∈ P, hC st v = some c) then some (hup st a (.inr (t', n, .inr (upI f i v)))) else none
  | _ => none
/-- a new object, a new array -/
def nwO (st : hS) (c : Nat) (fs : List hV) : hS := (fun b => if b = st.2.1 then some (.inl (c, fs)) else st.1 b, st.2.1 + 1, st.2.2 + fs.length)
def nwA (st : hS) (t n : Nat) : hS := (fun b => if b = st.2.1 then some (.inr (t, n, .inl fun _ => 0)) else st.1 b, st.2.1 + 1, st.2.2 + n)
def nwQ (st : hS) (t n : Nat) : hS := (fun b => if b = st.2.1 then some (.inr (t, n, .inr fun _ => none)) else st.1 b, st.2.1 + 1, st.2.2 + n)
