/-! the pure laws: K4 K5 K6 K7 -/
set_option maxRecDepth 100000
/-! PURE: what the checks of hashes say -/
theorem kin_perm {x : Nat} {k : List Nat → List Nat} {xs : List Nat} (hk : ∀ ys, (k ys).Perm (xs ++ ys)) : ∀ ys, (kin x k xs ys).Perm (x :: xs ++ ys) := by
  intro ys
  induction ys with
  | nil => simp [kin]
  | cons y ys ih =>
    simp only [kin]
    cases Nat.ble x y with
    | true =>
      simp only [cond_true]
      exact (hk (y :: ys)).cons x
    | false =>
      simp only [cond_false]
      refine (ih.cons y).trans ?_
      exact (List.perm_middle (l₁ := x :: xs) (l₂ := ys) (a := y)).symm
theorem kmrg_perm : ∀ xs ys, (kmrg xs ys).Perm (xs ++ ys) := by
  intro xs
  induction xs with
  | nil => intro ys; exact List.Perm.refl _
  | cons x xs ih => intro ys; exact kin_perm ih ys
theorem kpr_perm : ∀ (n : Nat) (l : List (List Nat)), l.length ≤ n → (kpr l).flatten.Perm l.flatten := by
  intro n
  induction n using Nat.strongRecOn with
  | _ n ih =>
    intro l hl
    match l, hl with
    | [], _ => exact List.Perm.refl _
    | [a], _ => exact List.Perm.refl _
    | a :: b :: l, hl =>
      simp only [kpr, List.flatten_cons]
      rw [← List.append_assoc]
      simp only [List.length_cons] at hl
      exact (kmrg_perm a b).append (ih (n - 2) (by omega) l (by omega))
theorem kall_perm : ∀ (n : Nat) (l : List (List Nat)), (kall n l).Perm l.flatten := by
  intro n
  induction n with
  | zero => intro l; exact List.Perm.refl _
  | succ n ih => intro l; exact (ih (kpr l)).trans (kpr_perm _ l (Nat.le_refl _))
theorem ksort_perm (n : Nat) (l : List Nat) : (ksort n l).Perm l := by
  refine (kall_perm n _).trans ?_
  have : (l.map fun x => [x]).flatten = l := by
    induction l with
    | nil => rfl
    | cons a l ih => simp only [List.map_cons, List.flatten_cons, ih]; rfl
  rw [this]
theorem kgap_pw : ∀ (l : List Nat) (a : Nat), kgap a l = true → (∀ x ∈ l, a + 4 ≤ x) ∧ l.Pairwise fun x y => x + 4 ≤ y := by
  intro l
  induction l with
  | nil => intro a _; exact ⟨(fun x hx => by cases hx), List.Pairwise.nil⟩
  | cons b l ih =>
    intro a h
    simp only [kgap] at h
    cases q : Nat.ble (a + 4) b with
    | false => rw [q] at h; cases h
    | true =>
      rw [q] at h
      have hab := Nat.le_of_ble_eq_true q
      obtain ⟨h1, h2⟩ := ih b h
      refine ⟨fun x hx => ?_, List.pairwise_cons.mpr ⟨h1, h2⟩⟩
      rcases List.mem_cons.mp hx with rfl | hx
      · exact hab
      · have := h1 x hx; omega
/-- far apart, on the ring -/
def ndst (x y : Nat) : Prop := (x + 4 ≤ y ∧ y ≤ x + 4294967292) ∨ (y + 4 ≤ x ∧ x ≤ y + 4294967292)
theorem pw_idx {l : List Nat} (h : l.Pairwise fun x y => x + 4 ≤ y) (hi : ∀ x ∈ l, 4 ≤ x ∧ x < 4294967300) (hm : ∀ x ∈ l, ∀ y ∈ l, y ≤ x + 4294967292) : ∀ x ∈ l, ∀ y ∈ l, x ≠ y → ndst x y := by
  intro x hx y hy hne
  have h1 := hm x hx y hy
  have h2 := hm y hy x hx
  have : x + 4 ≤ y ∨ y + 4 ≤ x := by
    clear hm hi h1 h2
    induction h with
    | nil => cases hx
    | cons hb _ ih =>
      rcases List.mem_cons.mp hx with e1 | hx'
      · rcases List.mem_cons.mp hy with e2 | hy'
        · exact absurd (e1.trans e2.symm) hne
        · exact Or.inl (by rw [e1]; exact hb _ hy')
      · rcases List.mem_cons.mp hy with e2 | hy'
        · exact Or.inr (by rw [e2]; exact hb _ hx')
        · exact ih hx' hy'
  rcases this with q | q
  · exact Or.inl ⟨q, h1⟩
  · exact Or.inr ⟨q, h2⟩
theorem pw_nodup {l : List Nat} (h : l.Pairwise fun x y => x + 4 ≤ y) : l.Nodup := by
  unfold List.Nodup
  exact h.imp (fun q => by omega)
/-- a map without doubles is one to one -/
theorem inj_of_nodup {α β : Type} {f : α → β} : ∀ {l : List α}, (l.map f).Nodup → ∀ x ∈ l, ∀ y ∈ l, f x = f y → x = y := by
  intro l
  induction l with
  | nil => intro _ x hx; cases hx
  | cons a l ih =>
    intro h x hx y hy e
    rw [List.map_cons, List.nodup_cons] at h
    rcases List.mem_cons.mp hx with rfl | hx'
    · rcases List.mem_cons.mp hy with rfl | hy'
      · rfl
      · exact absurd (List.mem_map.mpr ⟨y, hy', e.symm⟩) h.1
    · rcases List.mem_cons.mp hy with rfl | hy'
      · exact absurd (List.mem_map.mpr ⟨x, hx', e⟩) h.1
      · exact ih h.2 x hx' y hy' e


set_option maxRecDepth 100000
/-! PURE: the hashes of goals, on natural numbers -/
def tn (x : Int) : Nat := (I32 x).toBitVec.toNat
theorem tn_lt (x : Int) : tn x < 4294967296 := (I32 x).toBitVec.isLt
theorem tn_wr (x : Int) : tn (wr x) = tn x := by unfold tn; rw [I_wr]
theorem tn_add (x y : Int) : tn (x + y) = (tn x + tn y) % 4294967296 := by
  unfold tn
  rw [show I32 (x + y) = I32 x + I32 y from Int32.ofInt_add ..]
  rw [Int32.toBitVec_add, BitVec.toNat_add]
theorem tn_mul (x y : Int) : tn (x * y) = (tn x * tn y) % 4294967296 := by
  unfold tn
  rw [show I32 (x * y) = I32 x * I32 y from Int32.ofInt_mul ..]
  rw [Int32.toBitVec_mul, BitVec.toNat_mul]
theorem tn_xor (x y : Int) : tn (ixor x y) = tn x ^^^ tn y := by
  unfold tn ixor
  rw [I_of, Int32.toBitVec_xor, BitVec.toNat_xor]
theorem tn_ush (x : Int) : tn (iush x 13) = tn x / 8192 := by
  unfold tn iush
  rw [I_of]
  show ((I32 x).toBitVec >>> (13 : BitVec 32)).toNat = _
  rw [BitVec.ushiftRight_eq', BitVec.toNat_ushiftRight, Nat.shiftRight_eq_div_pow]
  rfl
theorem tn_nat {n : Nat} (h : n < 2147483648) : tn (n : Int) = n := by
  unfold tn
  rw [p_I32nat h, BitVec.toNat_ofNat]
  exact Nat.mod_eq_of_lt (by omega)
theorem tn_mx (a b c : Int) : tn (mxH a b c) = mN (tn a) (tn b) (tn c) := by
  unfold mxH mN
  have e31 : tn 31 = 31 := tn_nat (n := 31) (by omega)
  have e1009 : tn 1009 = 1009 := tn_nat (n := 1009) (by omega)
  have ek : tn (-1640531535) = 2654435761 := by decide
  rw [tn_xor, tn_ush, tn_wr, tn_mul, tn_wr, tn_add, tn_wr, tn_add, tn_wr, tn_wr, tn_mul, tn_mul, ek, e31, e1009]
  have : ((tn a + 31 * tn b % 4294967296) % 4294967296 + 1009 * tn c % 4294967296) % 4294967296 = (tn a + 31 * tn b + 1009 * tn c) % 4294967296 := by omega
  rw [this]
theorem tn_hh : ∀ t : Tm, okT t → tn (hhT t) = hN t := by
  intro t
  induction t with
  | num i =>
    intro o
    have : tn ((i : Nat) : Int) = i := tn_nat (by rcases o with rfl | rfl <;> omega)
    show tn (mxH ((i : Nat) : Int) 0 0) = mN i 0 0
    rw [tn_mx, this]
    rfl
  | var i =>
    intro o
    have hv : @LT.lt Nat instLTNat i 2 := o
    have : tn (((120 + i : Nat)) : Int) = 120 + i := tn_nat (by omega)
    show tn (mxH (120 + (i : Int)) 0 0) = mN (120 + i) 0 0
    rw [tn_mx, show (120 + (i : Int)) = ((120 + i : Nat) : Int) from (Int.natCast_add 120 i).symm, this]
    rfl
  | mulL k a ih =>
    intro o
    show tn (mxH 108 (hhT a) 0) = mN 108 (hN a) 0
    rw [tn_mx, ih o.2]
    rfl
  | add a b iha ihb =>
    intro o
    show tn (mxH 112 (hhT a) (hhT b)) = mN 112 (hN a) (hN b)
    rw [tn_mx, iha o.1, ihb o.2]
    rfl
  | mulR a k ih => intro o; exact o.elim
theorem tn_hhG {c : Int} {t : Tm} (hc : 0 ≤ c ∧ c < 4) (o : okT t) : tn (hhG c t) = (31 * hN t + c.toNat) % 4294967296 := by
  unfold hhG
  have e31 : tn 31 = 31 := tn_nat (n := 31) (by omega)
  have ec : tn c = c.toNat := by
    have := tn_nat (n := c.toNat) (by omega)
    rw [show ((c.toNat : Nat) : Int) = c by omega] at this
    exact this
  rw [tn_wr, tn_add, tn_wr, tn_mul, e31, tn_hh t o, ec]
  omega
/-- far apart: never of one hash -/
theorem far_ne {c c' : Int} {t u : Tm} (hc : 0 ≤ c ∧ c < 4) (hc' : 0 ≤ c' ∧ c' < 4) (ot : okT t) (ou : okT u) (h : ndst (kgp (hN t)) (kgp (hN u))) (e : hhG c t = hhG c' u) : False := by
  have e1 := congrArg tn e
  rw [tn_hhG hc ot, tn_hhG hc' ou] at e1
  have ad : ∀ a c : Nat, (31 * a + c) % 4294967296 = (31 * a % 4294967296 + c) % 4294967296 := fun a c => by rw [Nat.mod_add_mod]
  rw [ad, ad] at e1
  unfold ndst kgp at h
  have l1 : 31 * hN t % 4294967296 < 4294967296 := Nat.mod_lt _ (by omega)
  have l2 : 31 * hN u % 4294967296 < 4294967296 := Nat.mod_lt _ (by omega)
  generalize 31 * hN t % 4294967296 = X at *
  generalize 31 * hN u % 4294967296 = Y at *
  have : c.toNat < 4 := by omega
  have : c'.toNat < 4 := by omega
  generalize c.toNat = a at *
  generalize c'.toNat = b at *
  have h1 : (X + a) % 4294967296 = X + a ∨ (X + a) % 4294967296 + 4294967296 = X + a := by omega
  have h2 : (Y + b) % 4294967296 = Y + b ∨ (Y + b) % 4294967296 + 4294967296 = Y + b := by omega
  omega
theorem same_c {c c' : Int} {t : Tm} (hc : 0 ≤ c ∧ c < 4) (hc' : 0 ≤ c' ∧ c' < 4) (ot : okT t) (e : hhG c t = hhG c' t) : c = c' := by
  have e1 := congrArg tn e
  rw [tn_hhG hc ot, tn_hhG hc' ot] at e1
  have ad : ∀ a c : Nat, (31 * a + c) % 4294967296 = (31 * a % 4294967296 + c) % 4294967296 := fun a c => by rw [Nat.mod_add_mod]
  rw [ad, ad] at e1
  have l1 : 31 * hN t % 4294967296 < 4294967296 := Nat.mod_lt _ (by omega)
  generalize 31 * hN t % 4294967296 = X at *
  have h1 : (X + c.toNat) % 4294967296 = X + c.toNat ∨ (X + c.toNat) % 4294967296 + 4294967296 = X + c.toNat := by omega
  have h2 : (X + c'.toNat) % 4294967296 = X + c'.toNat ∨ (X + c'.toNat) % 4294967296 + 4294967296 = X + c'.toNat := by omega
  omega
/-! up to eight letters -/
def kA8 : List Tm := kT1 ++ kT2 ++ kT3 ++ kT4 ++ kT5 ++ kT6 ++ kT7 ++ kT8
theorem kA8_mem {t : Tm} (o : okT t) (z : szT t ≤ 8) : t ∈ kA8 := by
  have := szT_pos t
  have h : szT t = 1 ∨ szT t = 2 ∨ szT t = 3 ∨ szT t = 4 ∨ szT t = 5 ∨ szT t = 6 ∨ szT t = 7 ∨ szT t = 8 := by omega
  unfold kA8
  simp only [List.mem_append]
  rcases h with h | h | h | h | h | h | h | h
  · have m := km1 o h; simp only [m, true_or]
  · have m := km2 o h; simp only [m, true_or, or_true]
  · have m := km3 o h; simp only [m, true_or, or_true]
  · have m := km4 o h; simp only [m, true_or, or_true]
  · have m := km5 o h; simp only [m, true_or, or_true]
  · have m := km6 o h; simp only [m, true_or, or_true]
  · have m := km7 o h; simp only [m, true_or, or_true]
  · have m := km8 o h; simp only [m, or_true]
theorem kA8_g : kA8.map (fun t => kgp (hN t)) = kG8 := by
  unfold kA8 kG8
  have : (fun t => kgp (hN t)) = kgp ∘ hN := rfl
  rw [this, ← List.map_map]
  simp only [List.map_append, kh1, kh2, kh3, kh4, kh5, kh6, kh7, kh8]
theorem inj8 {c c' : Int} {t u : Tm} (hc : 0 ≤ c ∧ c < 4) (hc' : 0 ≤ c' ∧ c' < 4) (ot : okT t) (ou : okT u) (zt : szT t ≤ 8) (zu : szT u ≤ 8) (e : hhG c t = hhG c' u) : c = c' ∧ t = u := by
  have pw := (kgap_pw _ 0 kg8).2
  have pm := ksort_perm 15 kG8
  have nd : kG8.Nodup := pm.nodup_iff.mp (pw_nodup pw)
  have mt := kA8_mem ot zt
  have mu := kA8_mem ou zu
  have gm : ∀ t, t ∈ kA8 → kgp (hN t) ∈ kG8 := fun t ht => by rw [← kA8_g]; exact List.mem_map.mpr ⟨t, ht, rfl⟩
  by_cases q : kgp (hN t) = kgp (hN u)
  · have : t = u := inj_of_nodup (f := fun t => kgp (hN t)) (l := kA8) (by rw [kA8_g]; exact nd) t mt u mu q
    subst this
    exact ⟨same_c hc hc' ot e, rfl⟩
  · exfalso
    have up : ∀ x, x ∈ kG8 → 4 ≤ x ∧ x ≤ 4294967290 := fun x hx => by
      refine ⟨?_, Nat.le_of_ble_eq_true (List.all_eq_true.mp kg8b x hx)⟩
      rw [← kA8_g] at hx
      obtain ⟨t, -, rfl⟩ := List.mem_map.mp hx
      unfold kgp; omega
    refine far_ne hc hc' ot ou ?_ e
    refine pw_idx pw (fun x hx => ?_) (fun x hx y hy => ?_) _ (pm.mem_iff.mpr (gm t mt)) _ (pm.mem_iff.mpr (gm u mu)) q
    · have := up x (pm.mem_iff.mp hx); omega
    · have := up x (pm.mem_iff.mp hx); have := up y (pm.mem_iff.mp hy); omega

set_option maxRecDepth 100000
/-! PURE: the types that a history allows: no two goals of equal hash -/
theorem kfar_o {x y : Nat} (h : kfar x y = true) : ndst x y := by
  unfold kfar at h
  simp only [Bool.or_eq_true, Bool.and_eq_true] at h
  rcases h with ⟨a, b⟩ | ⟨a, b⟩
  · exact Or.inl ⟨Nat.le_of_ble_eq_true a, Nat.le_of_ble_eq_true b⟩
  · exact Or.inr ⟨Nat.le_of_ble_eq_true a, Nat.le_of_ble_eq_true b⟩
theorem kpo_or : ∀ (n : Nat) (l : List Nat), l.length ≤ n → (kpo l).foldr (fun a b => a ||| b) 0 = l.foldr (fun a b => a ||| b) 0 := by
  intro n
  induction n using Nat.strongRecOn with
  | _ n ih =>
    intro l hl
    match l, hl with
    | [], _ => rfl
    | [a], _ => rfl
    | a :: b :: l, hl =>
      simp only [List.length_cons] at hl
      simp only [kpo, List.foldr_cons]
      rw [ih (n - 2) (by omega) l (by omega), Nat.or_assoc]
theorem kpos_or : ∀ (n : Nat) (l : List Nat), (kpos n l).foldr (fun a b => a ||| b) 0 = l.foldr (fun a b => a ||| b) 0 := by
  intro n
  induction n with
  | zero => intro l; rfl
  | succ n ih => intro l; exact (ih (kpo l)).trans (kpo_or _ l (Nat.le_refl _))
theorem or_bit {l : List Nat} {x i : Nat} (hx : x ∈ l) (h : x.testBit i = true) : (l.foldr (fun a b => a ||| b) 0).testBit i = true := by
  induction l with
  | nil => cases hx
  | cons a l ih =>
    rw [List.foldr_cons, Nat.testBit_or]
    rcases List.mem_cons.mp hx with rfl | hx
    · rw [h]; rfl
    · rw [ih hx, Bool.or_true]
theorem kBs_bit {p v x : Nat} (hv : v ∈ kS6) (hx : x = v - 3 ∨ x = v - 2 ∨ x = v - 1 ∨ x = v ∨ x = v + 1 ∨ x = v + 2 ∨ x = v + 3) : (kBs p).testBit (x % p) = true := by
  unfold kBs
  rw [kpos_or]
  refine or_bit (x := 2 ^ (x % p)) (List.mem_map.mpr ⟨x, List.mem_flatMap.mpr ⟨v, hv, ?_⟩, rfl⟩) (by rw [Nat.testBit_two_pow]; simp)
  simp only [List.mem_cons, List.not_mem_nil, or_false]
  exact hx
theorem kchk_o {x : Nat} (hx : 4 ≤ x ∧ x ≤ 4294967299) (h : kchk x = true) {v : Nat} (hv : v ∈ kS6) : ndst x v := by
  have h0 := List.all_eq_true.mp kc0 v hv
  simp only [Bool.and_eq_true] at h0
  have v0 := Nat.le_of_ble_eq_true h0.1
  have v1 := Nat.le_of_ble_eq_true h0.2
  by_cases q : v + 4 ≤ x
  · exact Or.inr ⟨q, by omega⟩
  · by_cases q2 : x + 4 ≤ v
    · exact Or.inl ⟨q2, by omega⟩
    · have near : x = v - 3 ∨ x = v - 2 ∨ x = v - 1 ∨ x = v ∨ x = v + 1 ∨ x = v + 2 ∨ x = v + 3 := by omega
      unfold kchk kB1 kB2 kB3 at h
      rw [kBs_bit hv near, kBs_bit hv near, kBs_bit hv near] at h
      exact kfar_o (List.all_eq_true.mp h v hv)
theorem kgp_r (h : Nat) : 4 ≤ kgp h ∧ kgp h ≤ 4294967299 := by unfold kgp; omega
theorem kL_mem {n : Nat} {T : List Tm} {L : List Nat} (e : T.map hN = L) {t : Tm} (h : t ∈ T) : hN t ∈ L := by rw [← e]; exact List.mem_map.mpr ⟨t, h, rfl⟩
theorem kpp_o {A B : List Nat} (h : kpp A B = true) {a b : Nat} (ha : a ∈ A) (hb : b ∈ B) : kchk (kgp (mP a b)) = true := List.all_eq_true.mp (List.all_eq_true.mp h a ha) b hb
theorem chk9 {t : Tm} (o : okT t) (z : szT t = 9) : kchk (kgp (hN t)) = true := by
  cases t with
  | num c => simp only [szT] at z; omega
  | var v => simp only [szT] at z; omega
  | mulR a k => exact o.elim
  | mulL k a =>
    simp only [szT] at z
    exact List.all_eq_true.mp kc1 _ (kL_mem (n := 0) kh8 (km8 o.2 (by omega)))
  | add a b =>
    simp only [szT] at z
    have pa := szT_pos a
    have pb := szT_pos b
    obtain ⟨oa, ob⟩ := o
    have k4 := kc4
    have k5 := kc5
    simp only [Bool.and_eq_true] at k4 k5
    have h : (szT a = 1 ∧ szT b = 7) ∨ (szT a = 2 ∧ szT b = 6) ∨ (szT a = 3 ∧ szT b = 5) ∨ (szT a = 4 ∧ szT b = 4) ∨ (szT a = 5 ∧ szT b = 3) ∨ (szT a = 6 ∧ szT b = 2) ∨ (szT a = 7 ∧ szT b = 1) := by omega
    rcases h with ⟨h1, h2⟩ | ⟨h1, h2⟩ | ⟨h1, h2⟩ | ⟨h1, h2⟩ | ⟨h1, h2⟩ | ⟨h1, h2⟩ | ⟨h1, h2⟩
    · exact kpp_o kc2 (kL_mem (n := 0) kh1 (km1 oa h1)) (kL_mem (n := 0) kh7 (km7 ob h2))
    · exact kpp_o k4.1 (kL_mem (n := 0) kh2 (km2 oa h1)) (kL_mem (n := 0) kh6 (km6 ob h2))
    · exact kpp_o k5.1 (kL_mem (n := 0) kh3 (km3 oa h1)) (kL_mem (n := 0) kh5 (km5 ob h2))
    · exact kpp_o k5.2.2 (kL_mem (n := 0) kh4 (km4 oa h1)) (kL_mem (n := 0) kh4 (km4 ob h2))
    · exact kpp_o k5.2.1 (kL_mem (n := 0) kh5 (km5 oa h1)) (kL_mem (n := 0) kh3 (km3 ob h2))
    · exact kpp_o k4.2 (kL_mem (n := 0) kh6 (km6 oa h1)) (kL_mem (n := 0) kh2 (km2 ob h2))
    · exact kpp_o kc3 (kL_mem (n := 0) kh7 (km7 oa h1)) (kL_mem (n := 0) kh1 (km1 ob h2))
theorem kS6_mem {u : Tm} (o : okT u) (h : szT u ≤ 6 ∨ u ∈ kD2) : kgp (hN u) ∈ kS6 := by
  unfold kS6
  rcases h with z | h
  · refine List.mem_append_left _ (List.mem_map.mpr ⟨hN u, ?_, rfl⟩)
    have := szT_pos u
    have h : szT u = 1 ∨ szT u = 2 ∨ szT u = 3 ∨ szT u = 4 ∨ szT u = 5 ∨ szT u = 6 := by omega
    simp only [List.mem_append]
    rcases h with h | h | h | h | h | h
    · have m := kL_mem (n := 0) kh1 (km1 o h); simp only [m, true_or]
    · have m := kL_mem (n := 0) kh2 (km2 o h); simp only [m, true_or, or_true]
    · have m := kL_mem (n := 0) kh3 (km3 o h); simp only [m, true_or, or_true]
    · have m := kL_mem (n := 0) kh4 (km4 o h); simp only [m, true_or, or_true]
    · have m := kL_mem (n := 0) kh5 (km5 o h); simp only [m, true_or, or_true]
    · have m := kL_mem (n := 0) kh6 (km6 o h); simp only [m, or_true]
  · exact List.mem_append_right _ (List.mem_map.mpr ⟨u, h, rfl⟩)
theorem sub_whole {t : Tm} {p : Nat} (o : okT t) (hp : p < szT t) (h : szT (sub t p) = szT t) : sub t p = t := by
  rcases Nat.eq_zero_or_pos p with q | q
  · rw [q, sub_0]
  · have := sub_lt o hp q; omega
theorem own9 {t : Tm} {p : Nat} (o : okT t) (z : szT t = 9) (hp : p < 9) (h7 : 7 ≤ szT (sub t p)) (h8 : szT (sub t p) ≤ 8) : ndst (kgp (hN t)) (kgp (hN (sub t p))) := by
  cases t with
  | num c => simp only [szT] at z; omega
  | var v => simp only [szT] at z; omega
  | mulR a k => exact o.elim
  | mulL k a =>
    obtain ⟨rfl, oa⟩ := o
    simp only [szT] at z
    have za : szT a = 8 := by omega
    cases p with
    | zero => simp only [sub, szT] at h8; omega
    | succ p =>
      simp only [sub] at h7 h8 ⊢
      by_cases q : szT (sub a p) = 8
      · rw [sub_whole oa (by omega) (by omega)]
        exact kfar_o (List.all_eq_true.mp ko1 _ (kL_mem (n := 0) kh8 (km8 oa za)))
      · have h7' : szT (sub a p) = 7 := by omega
        cases a with
        | num c => simp only [szT] at za; omega
        | var v => simp only [szT] at za; omega
        | mulR a k => exact oa.elim
        | mulL k b =>
          obtain ⟨rfl, ob⟩ := oa
          simp only [szT] at za
          cases p with
          | zero => simp only [sub, szT] at h7'; omega
          | succ p =>
            simp only [sub] at h7' ⊢
            rw [sub_whole ob (by omega) (by omega)]
            exact kfar_o (List.all_eq_true.mp ko2 _ (kL_mem (n := 0) kh7 (km7 ob (by omega))))
        | add b c =>
          simp only [szT] at za
          have pb := szT_pos b
          have pc := szT_pos c
          cases p with
          | zero => simp only [sub, szT] at h7'; omega
          | succ p =>
            simp only [sub] at h7'
            split at h7'
            · have := sub_end b p oa.1 (by omega); omega
            · have := sub_end c (p - szT b) oa.2 (by omega); omega
  | add a b =>
    obtain ⟨oa, ob⟩ := o
    simp only [szT] at z
    have pa := szT_pos a
    have pb := szT_pos b
    cases p with
    | zero => simp only [sub, szT] at h8; omega
    | succ p =>
      simp only [sub] at h7 h8 ⊢
      split at h7
      · rename_i hc
        rw [if_pos hc] at h8 ⊢
        have se := sub_end a p oa hc
        have za : szT a = 7 := by omega
        rw [sub_whole oa hc (by omega)]
        have := List.all_eq_true.mp (List.all_eq_true.mp ko3 _ (kL_mem (n := 0) kh1 (km1 ob (by omega)))) _ (kL_mem (n := 0) kh7 (km7 oa za))
        simp only [Bool.and_eq_true] at this
        exact kfar_o this.2
      · rename_i hc
        rw [if_neg hc] at h8 ⊢
        have se := sub_end b (p - szT a) ob (by omega)
        have zb : szT b = 7 := by omega
        rw [sub_whole ob (by omega) (by omega)]
        have := List.all_eq_true.mp (List.all_eq_true.mp ko3 _ (kL_mem (n := 0) kh1 (km1 oa (by omega)))) _ (kL_mem (n := 0) kh7 (km7 ob zb))
        simp only [Bool.and_eq_true] at this
        exact kfar_o this.1

set_option maxRecDepth 100000
/-! PURE: the types that a history allows -/
def UH (H : List Tm) (t : Tm) : Prop := okT t ∧ (szT t ≤ 5 ∨ t ∈ kD2 ∨ ∃ u, u ∈ H ∧ ∃ p, p < szT u ∧ t = sub u p)
def sumH (H : List Tm) : Nat := (H.map fun t => szT t + 1).sum
theorem kD0_m {t : Tm} (h : t ∈ kD0) : okT t ∧ szT t = 1 ∧ ∀ p, p < szT t → sub t p ∈ kD0 := by
  simp only [kD0, List.mem_cons, List.not_mem_nil, or_false] at h
  rcases h with rfl | rfl <;> refine ⟨by simp [okT], rfl, fun p hp => ?_⟩ <;> simp [sub, kD0]
theorem kD01 {t : Tm} (h : t ∈ kD0) : t ∈ kD1 := List.mem_append_left _ (List.mem_append_left _ h)
theorem kD1_m {t : Tm} (h : t ∈ kD1) : okT t ∧ szT t ≤ 3 ∧ ∀ p, p < szT t → sub t p ∈ kD1 := by
  have h0 := h
  unfold kD1 at h
  rcases List.mem_append.mp h with h | h
  · rcases List.mem_append.mp h with h | h
    · obtain ⟨a, b, c⟩ := kD0_m h
      exact ⟨a, by omega, fun p hp => kD01 (c p hp)⟩
    · obtain ⟨a, ha, rfl⟩ := List.mem_map.mp h
      obtain ⟨x, y, z⟩ := kD0_m ha
      refine ⟨⟨rfl, x⟩, by simp only [szT]; omega, fun p hp => ?_⟩
      cases p with
      | zero => exact h0
      | succ p => simp only [szT] at hp; exact kD01 (z p (by omega))
  · obtain ⟨a, ha, h⟩ := List.mem_flatMap.mp h
    obtain ⟨b, hb, rfl⟩ := List.mem_map.mp h
    obtain ⟨x, y, z⟩ := kD0_m ha
    obtain ⟨x', y', z'⟩ := kD0_m hb
    refine ⟨⟨x, x'⟩, by simp only [szT]; omega, fun p hp => ?_⟩
    cases p with
    | zero => exact h0
    | succ p =>
      simp only [szT] at hp
      simp only [sub]
      split
      · exact kD01 (z p (by omega))
      · exact kD01 (z' _ (by omega))
theorem kD12 {t : Tm} (h : t ∈ kD1) : t ∈ kD2 := by
  unfold kD1 at h
  unfold kD2
  rcases List.mem_append.mp h with h | h
  · rcases List.mem_append.mp h with h | h
    · exact List.mem_append_left _ (List.mem_append_left _ h)
    · obtain ⟨a, ha, rfl⟩ := List.mem_map.mp h
      exact List.mem_append_left _ (List.mem_append_right _ (List.mem_map.mpr ⟨a, kD01 ha, rfl⟩))
  · obtain ⟨a, ha, h⟩ := List.mem_flatMap.mp h
    obtain ⟨b, hb, rfl⟩ := List.mem_map.mp h
    exact List.mem_append_right _ (prT_mem (kD01 ha) (kD01 hb))
theorem kD2_m {t : Tm} (h : t ∈ kD2) : okT t ∧ szT t ≤ 7 ∧ ∀ p, p < szT t → sub t p ∈ kD2 := by
  have h0 := h
  unfold kD2 at h
  rcases List.mem_append.mp h with h | h
  · rcases List.mem_append.mp h with h | h
    · obtain ⟨a, b, c⟩ := kD0_m h
      exact ⟨a, by omega, fun p hp => kD12 (kD01 (c p hp))⟩
    · obtain ⟨a, ha, rfl⟩ := List.mem_map.mp h
      obtain ⟨x, y, z⟩ := kD1_m ha
      refine ⟨⟨rfl, x⟩, by simp only [szT]; omega, fun p hp => ?_⟩
      cases p with
      | zero => exact h0
      | succ p => simp only [szT] at hp; exact kD12 (z p (by omega))
  · obtain ⟨a, ha, h⟩ := List.mem_flatMap.mp h
    obtain ⟨b, hb, rfl⟩ := List.mem_map.mp h
    obtain ⟨x, y, z⟩ := kD1_m ha
    obtain ⟨x', y', z'⟩ := kD1_m hb
    refine ⟨⟨x, x'⟩, by simp only [szT]; omega, fun p hp => ?_⟩
    cases p with
    | zero => exact h0
    | succ p =>
      simp only [szT] at hp
      simp only [sub]
      split
      · exact kD12 (z p (by omega))
      · exact kD12 (z' _ (by omega))
theorem lfT_D0 (x : Int) : lfT x ∈ kD0 := by unfold lfT kD0; split <;> simp
theorem drT_D : ∀ x, (drT 0 x).1 ∈ kD0 ∧ (drT 1 x).1 ∈ kD1 ∧ (drT 2 x).1 ∈ kD2 := by
  have d0 : ∀ x, (drT 0 x).1 ∈ kD0 := fun x => lfT_D0 _
  have d1 : ∀ x, (drT 1 x).1 ∈ kD1 := by
    intro x
    unfold drT kD1
    split
    · exact List.mem_append_left _ (List.mem_append_left _ (lfT_D0 _))
    · split
      · exact List.mem_append_left _ (List.mem_append_right _ (List.mem_map.mpr ⟨_, d0 _, rfl⟩))
      · exact List.mem_append_right _ (prT_mem (d0 _) (d0 _))
  intro x
  refine ⟨d0 x, d1 x, ?_⟩
  unfold drT kD2
  split
  · exact List.mem_append_left _ (List.mem_append_left _ (lfT_D0 _))
  · split
    · exact List.mem_append_left _ (List.mem_append_right _ (List.mem_map.mpr ⟨_, d1 _, rfl⟩))
    · exact List.mem_append_right _ (prT_mem (d1 _) (d1 _))
theorem sumH_mem {H : List Tm} {u : Tm} (h : u ∈ H) : szT u + 1 ≤ sumH H := by
  unfold sumH
  induction H with
  | nil => cases h
  | cons a H ih =>
    simp only [List.map_cons, List.sum_cons]
    rcases List.mem_cons.mp h with rfl | h
    · omega
    · have := ih h; omega
theorem sumH_two {H : List Tm} {u v : Tm} (hu : u ∈ H) (hv : v ∈ H) (hne : u ≠ v) : szT u + 1 + (szT v + 1) ≤ sumH H := by
  unfold sumH
  induction H with
  | nil => cases hu
  | cons a H ih =>
    simp only [List.map_cons, List.sum_cons]
    rcases List.mem_cons.mp hu with e1 | hu'
    · rcases List.mem_cons.mp hv with e2 | hv'
      · exact absurd (e1.trans e2.symm) hne
      · have := sumH_mem hv'; unfold sumH at this; rw [e1]; omega
    · rcases List.mem_cons.mp hv with e2 | hv'
      · have := sumH_mem hu'; unfold sumH at this; rw [e2]; omega
      · have := ih hu' hv'; omega
section HIST
variable {H : List Tm}
theorem UH_5 : ∀ t, okT t → szT t ≤ 5 → UH H t := fun t o h => ⟨o, Or.inl h⟩
theorem UH_d : ∀ x, UH H (drT 2 x).1 := fun x => ⟨(kD2_m (drT_D x).2.2).1, Or.inr (Or.inl (drT_D x).2.2)⟩
theorem UH_h (hH : ∀ u, u ∈ H → okT u ∧ szT u ≤ 9) {u : Tm} (h : u ∈ H) : UH H u := ⟨(hH u h).1, Or.inr (Or.inr ⟨u, h, 0, szT_pos u, (sub_0 u).symm⟩)⟩
theorem UH_mono {v t : Tm} (h : UH H t) : UH (v :: H) t := by
  obtain ⟨o, h | h | ⟨u, hu, r⟩⟩ := h
  · exact ⟨o, Or.inl h⟩
  · exact ⟨o, Or.inr (Or.inl h)⟩
  · exact ⟨o, Or.inr (Or.inr ⟨u, List.mem_cons_of_mem _ hu, r⟩)⟩
theorem UH_ok (hH : ∀ u, u ∈ H → okT u ∧ szT u ≤ 9) (hs : sumH H ≤ 17) : UOK (UH H) := by
  refine ⟨fun t h => ?_, fun t p h hp => ?_, fun c c' t u hc hc' ht hu e => ?_⟩
  · obtain ⟨o, h | h | ⟨u, hu, p, hp, rfl⟩⟩ := h
    · exact ⟨o, by omega⟩
    · have := (kD2_m h).2.1; exact ⟨o, by omega⟩
    · obtain ⟨ou, z⟩ := hH u hu
      have := sub_end u p ou hp
      exact ⟨o, by omega⟩
  · obtain ⟨o, h | h | ⟨u, hu, q, hq, rfl⟩⟩ := h
    · have := sub_end t p o hp
      exact ⟨sub_ok t p o hp, Or.inl (by omega)⟩
    · exact ⟨sub_ok t p o hp, Or.inr (Or.inl ((kD2_m h).2.2 p hp))⟩
    · obtain ⟨ou, z⟩ := hH u hu
      have := sub_end u q ou hq
      exact ⟨sub_ok _ p o hp, Or.inr (Or.inr ⟨u, hu, q + p, by omega, sub_sub u q p ou hq hp⟩)⟩
  · have ot := ht.1
    have ou := hu.1
    -- a type of nine letters is of the history
    have nine : ∀ t, UH H t → 8 < szT t → t ∈ H ∧ szT t = 9 := by
      rintro t ⟨o, h | h | ⟨v, hv, p, hp, rfl⟩⟩ h9
      · omega
      · have := (kD2_m h).2.1; omega
      · obtain ⟨ov, z⟩ := hH v hv
        have se := sub_end v p ov hp
        have : sub v p = v := sub_whole ov hp (by omega)
        rw [this] at h9 ⊢
        exact ⟨hv, by omega⟩
    have two : ∀ (c c' : Int) (t u : Tm), (0 ≤ c ∧ c < 4) → (0 ≤ c' ∧ c' < 4) → UH H t → UH H u → 8 < szT t → szT u ≤ 8 → hhG c t = hhG c' u → False := by
      intro c c' t u hc hc' ht hu h9 h8 e
      obtain ⟨mt, zt⟩ := nine t ht h9
      have ot := ht.1
      obtain ⟨ou, hu2⟩ := hu
      have small : szT u ≤ 6 ∨ u ∈ kD2 → False := fun h => far_ne hc hc' ot ou (kchk_o (kgp_r _) (chk9 ot zt) (kS6_mem ou h)) e
      rcases hu2 with h | h | ⟨v, hv, p, hp, rfl⟩
      · exact small (Or.inl (by omega))
      · exact small (Or.inr h)
      · obtain ⟨ov, zv⟩ := hH v hv
        have se := sub_end v p ov hp
        by_cases tv : t = v
        · subst tv
          by_cases h6 : szT (sub t p) ≤ 6
          · exact small (Or.inl h6)
          · exact far_ne hc hc' ot ou (own9 ot zt (by omega) (by omega) h8) e
        · have := sumH_two mt hv tv
          exact small (Or.inl (by omega))
    by_cases h1 : szT t ≤ 8
    · by_cases h2 : szT u ≤ 8
      · exact inj8 hc hc' ot ou h1 h2 e
      · exact (two c' c u t hc' hc hu ht (by omega) h1 e.symm).elim
    · by_cases h2 : szT u ≤ 8
      · exact (two c c' t u hc hc' ht hu (by omega) h2 e).elim
      · obtain ⟨mt, zt⟩ := nine t ht (by omega)
        obtain ⟨mu, zu⟩ := nine u hu (by omega)
        have : t = u := by
          apply Classical.byContradiction
          intro q
          have := sumH_two mt mu q
          omega
        subst this
        exact ⟨same_c hc hc' ot e, rfl⟩
theorem UH_bd (hs : sumH H ≤ 17) : UBd (UH H) := by
  refine ⟨allH 5 ++ kD2 ++ H.flatMap (fun u => (List.range (szT u)).map (sub u)), fun t h => ?_, ?_⟩
  · obtain ⟨o, h | h | ⟨u, hu, p, hp, rfl⟩⟩ := h
    · exact List.mem_append_left _ (List.mem_append_left _ (allH_mem 5 t o h))
    · exact List.mem_append_left _ (List.mem_append_right _ h)
    · exact List.mem_append_right _ (List.mem_flatMap.mpr ⟨u, hu, List.mem_map.mpr ⟨p, List.mem_range.mpr hp, rfl⟩⟩)
  · have l1 : (allH 5).length = 308 := by decide +kernel
    have l2 : kD2.length = 74 := by decide +kernel
    have l3 : ∀ H : List Tm, (H.flatMap (fun u => (List.range (szT u)).map (sub u))).length ≤ sumH H := by
      intro H
      induction H with
      | nil => exact Nat.le_refl _
      | cons a H ih =>
        rw [List.flatMap_cons, List.length_append, List.length_map, List.length_range]
        unfold sumH at ih ⊢
        simp only [List.map_cons, List.sum_cons]
        omega
    have := l3 H
    rw [List.length_append, List.length_append, l1, l2]
    omega
end HIST

