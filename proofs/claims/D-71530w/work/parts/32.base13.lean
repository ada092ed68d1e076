/-! BASE 13: what the walks share -/
set_option maxRecDepth 100000
def FU : Nat := 100000
theorem iand_r (x y : Int) : rI (iand x y) := rI_to _
theorem ior_r (x y : Int) : rI (ior x y) := rI_to _
theorem ixor_r (x y : Int) : rI (ixor x y) := rI_to _
theorem ishl_r (x y : Int) : rI (ishl x y) := rI_to _
theorem ishr_r (x y : Int) : rI (ishr x y) := rI_to _
theorem iush_r (x y : Int) : rI (iush x y) := rI_to _
theorem idv_r (x y : Int) : rI (idv x y) := rI_to _
theorem irm_r (x y : Int) : rI (irm x y) := rI_to _
theorem i2b_r (x : Int) : rI (i2b x) := rI_to _
theorem land_r (x y : Int) : rL (land x y) := rL_to _
theorem ldv_r (x y : Int) : rL (ldv x y) := rL_to _
theorem lrm_r (x y : Int) : rL (lrm x y) := rL_to _
theorem lcm3_r (x y : Int) : rI (lcm3 x y) := by
  unfold lcm3
  split
  · decide
  · split <;> decide
theorem rI_z {x : Int} (h : x = 0 ∨ x = 1) : rI x := by rcases h with rfl | rfl <;> decide
/-- the objects held whole, the locals, the answer, the end's world -/
def EndX (N : Nx) (sps : List Sp) (nl : Nat) (rt : Option FieldType) (r : Option Tv) (σF : List Sg) (stF : hS) : Prop := np N = sps ∧ nL N = nl ∧ nrt N = rt ∧ nr N = r ∧ nσF N = σF ∧ nF N = stF
section EX
variable {N : Nx} {sps : List Sp} {nl : Nat} {rt9 : Option FieldType} {r9 : Option Tv} {σF : List Sg} {stF : hS}
theorem EndX.p (E : EndX N sps nl rt9 r9 σF stF) : np N = sps := E.1
theorem EndX.lt (E : EndX N sps nl rt9 r9 σF stF) {i : Nat} (h : i < nl) : i < nL N := by rw [E.2.1]; exact h
theorem EndX.rt (E : EndX N sps nl rt9 r9 σF stF) : nrt N = rt9 := E.2.2.1
theorem EndX.r (E : EndX N sps nl rt9 r9 σF stF) : nr N = r9 := E.2.2.2.1
theorem EndX.σ (E : EndX N sps nl rt9 r9 σF stF) : nσF N = σF := E.2.2.2.2.1
theorem EndX.st (E : EndX N sps nl rt9 r9 σF stF) : nF N = stF := E.2.2.2.2.2
end EX
theorem r_rrs {N : Nx} {cc : ByteArray} {own : String} {fR lO : Nat} {σs : List Sg} {st : hS} {pc : Nat} {lv : List (Nat × Tv)} {stk : List Tv} {sps : List Sp} (hsp : np N = sps) (h : RR sps σs st → AtPc cc own fR lO N σs st pc lv stk) : AtPc cc own fR lO N σs st pc lv stk := by
  subst hsp
  exact r_rr h
theorem injO_0 {N : Nx} (h : np N = []) : injO N := by
  intro i k sp hi
  rw [h] at hi
  cases hi
theorem injO_1 {N : Nx} {x : Sp} (h : np N = [x]) : injO N := by
  intro i k sp hi hk
  rw [h] at hi hk
  have h1 : i < 1 := (List.getElem?_eq_some_iff.mp hi).1
  have h2 : k < 1 := (List.getElem?_eq_some_iff.mp hk).1
  omega
theorem subO_1 {N : Nx} {x : Sp} (h : np N = [x]) : subO N (some 0) [x] := ⟨x, by rw [h]; rfl, rfl⟩
theorem subO_0 {N : Nx} : subO N none [] := rfl
theorem getO_1 {s : Sg} : getO (some 0) [s] [s] := ⟨s, rfl, rfl⟩
theorem setO_1 {s s' : Sg} : setO (some 0) [s] [s'] [s'] := ⟨s', rfl, rfl⟩
theorem getO_0 {σs : List Sg} : getO none σs [] := rfl
theorem setO_0 {σs σs1 : List Sg} : setO none σs σs1 σs := rfl
theorem RR.none {sps : List Sp} {σs : List Sg} {st : hS} (rr : RR sps σs st) : RR [] [] st := ⟨fun i sp σ hi => (by cases hi), rr.2⟩
theorem i2b_b (x : Int) : -128 ≤ i2b x ∧ i2b x ≤ 127 := by
  unfold i2b
  rw [Int8.toInt_toInt32]
  exact ⟨Int8.le_toInt _, by have := Int8.toInt_lt (I32 x).toInt8; omega⟩
