/-! the pure laws: A1 A2 FS B1 -/
set_option maxRecDepth 100000
/-! PURE 1: ints as bits; small facts -/
theorem p_I32nat {a : Nat} (h : a < 2147483648) : (I32 (a : Int)).toBitVec = BitVec.ofNat 32 a := by
  show (Int32.ofInt (a : Int)).toBitVec = _
  rw [Int32.toBitVec_ofInt]
  simp
theorem p_i32bv (x : Int32) : x.toInt = x.toBitVec.toInt := rfl
theorem p_bvnat {a : Nat} (h : a < 2147483648) : (BitVec.ofNat 32 a).toInt = (a : Int) := by
  rw [BitVec.toInt_eq_toNat_cond]
  simp only [BitVec.toNat_ofNat]
  rw [Nat.mod_eq_of_lt (by omega), if_pos (by omega)]
theorem p_iand {a b : Nat} (ha : a < 2147483648) (hb : b < 2147483648) : iand (a : Int) (b : Int) = ((a &&& b : Nat) : Int) := by
  unfold iand
  rw [p_i32bv, Int32.toBitVec_and, p_I32nat ha, p_I32nat hb, ← BitVec.ofNat_and]
  exact p_bvnat (Nat.lt_of_le_of_lt Nat.and_le_left ha)
theorem p_ior {a b : Nat} (ha : a < 2147483648) (hb : b < 2147483648) : ior (a : Int) (b : Int) = ((a ||| b : Nat) : Int) := by
  unfold ior
  rw [p_i32bv, Int32.toBitVec_or, p_I32nat ha, p_I32nat hb, ← BitVec.ofNat_or]
  exact p_bvnat (Nat.or_lt_two_pow (n := 31) ha hb)
theorem p_ixor {a b : Nat} (ha : a < 2147483648) (hb : b < 2147483648) : ixor (a : Int) (b : Int) = ((a ^^^ b : Nat) : Int) := by
  unfold ixor
  rw [p_i32bv, Int32.toBitVec_xor, p_I32nat ha, p_I32nat hb, ← BitVec.ofNat_xor]
  exact p_bvnat (Nat.xor_lt_two_pow (n := 31) ha hb)
theorem p_shc {k : Nat} (hk : k < 32) : (I32 (k : Int)).toBitVec = BitVec.ofNat 32 k := p_I32nat (by omega)
theorem p_ishl {a k : Nat} (hk : k < 32) (h : a <<< k < 2147483648) : ishl (a : Int) (k : Int) = ((a <<< k : Nat) : Int) := by
  have ha : a < 2147483648 := by
    rw [Nat.shiftLeft_eq] at h
    exact Nat.lt_of_le_of_lt (Nat.le_mul_of_pos_right a (Nat.two_pow_pos k)) h
  unfold ishl
  have e : (I32 (a : Int) <<< (I32 (k : Int) &&& 31)).toBitVec = BitVec.ofNat 32 (a <<< k) := by
    have e31 : (I32 (k : Int) &&& 31) = I32 (k : Int) := by
      apply Int32.toBitVec_inj.mp
      rw [Int32.toBitVec_and, p_shc hk]
      apply BitVec.eq_of_toNat_eq
      have : (31#32).toNat = 31 := rfl
      simp only [BitVec.toNat_and, BitVec.toNat_ofNat]
      show (k % 2^32) &&& 31 = k % 2^32
      have := Nat.and_two_pow_sub_one_of_lt_two_pow (n := 5) (x := k % 2^32) (by omega)
      exact this
    rw [e31]
    rw [Int32.toBitVec_shiftLeft, p_I32nat ha, p_shc hk]
    have hk2 : (BitVec.ofNat 32 k).smod 32 = BitVec.ofNat 32 k := by
      have hc : ∀ k : Fin 32, (BitVec.ofNat 32 k.val).smod 32 = BitVec.ofNat 32 k.val := by decide
      exact hc ⟨k, hk⟩
    rw [hk2]
    apply BitVec.eq_of_toNat_eq
    simp [BitVec.toNat_shiftLeft, Nat.mod_eq_of_lt (show k < 4294967296 by omega), Nat.mod_eq_of_lt (show a < 4294967296 by omega)]
  rw [p_i32bv, e]
  exact p_bvnat h
theorem p_ishr {a k : Nat} (hk : k < 32) (ha : a < 2147483648) : ishr (a : Int) (k : Int) = ((a >>> k : Nat) : Int) := by
  unfold ishr
  have e : (I32 (a : Int) >>> (I32 (k : Int) &&& 31)).toBitVec = BitVec.ofNat 32 (a >>> k) := by
    have e31 : (I32 (k : Int) &&& 31) = I32 (k : Int) := by
      apply Int32.toBitVec_inj.mp
      rw [Int32.toBitVec_and, p_shc hk]
      apply BitVec.eq_of_toNat_eq
      simp only [BitVec.toNat_and, BitVec.toNat_ofNat]
      show (k % 2^32) &&& 31 = k % 2^32
      exact Nat.and_two_pow_sub_one_of_lt_two_pow (n := 5) (x := k % 2^32) (by omega)
    rw [e31]
    rw [Int32.toBitVec_shiftRight, p_I32nat ha, p_shc hk]
    apply BitVec.eq_of_toNat_eq
    have hm : (BitVec.ofNat 32 a).msb = false := by
      rw [BitVec.msb_eq_false_iff_two_mul_lt]
      simp; omega
    have hk2 : (BitVec.ofNat 32 k).smod 32 = BitVec.ofNat 32 k := by
      have hc : ∀ k : Fin 32, (BitVec.ofNat 32 k.val).smod 32 = BitVec.ofNat 32 k.val := by decide
      exact hc ⟨k, hk⟩
    rw [hk2]
    show ((BitVec.ofNat 32 a).sshiftRight (BitVec.ofNat 32 k).toNat).toNat = _
    rw [BitVec.sshiftRight_eq_of_msb_false hm]
    simp [Nat.mod_eq_of_lt (show k < 4294967296 by omega), Nat.mod_eq_of_lt (show a < 4294967296 by omega)]
    exact (Nat.mod_eq_of_lt (Nat.lt_of_le_of_lt (Nat.shiftRight_le a k) (by omega))).symm
  rw [p_i32bv, e]
  exact p_bvnat (Nat.lt_of_le_of_lt (Nat.shiftRight_le a k) ha)
theorem p_bit {a k : Nat} (hk : k < 32) (ha : a < 2147483648) : iand (ishr (a : Int) (k : Int)) 1 = if a.testBit k then 1 else 0 := by
  rw [p_ishr hk ha]
  have h1 : (1 : Int) = ((1 : Nat) : Int) := rfl
  rw [h1, p_iand (Nat.lt_of_le_of_lt (Nat.shiftRight_le a k) ha) (by omega)]
  unfold Nat.testBit
  rw [Nat.and_comm]
  have := Nat.one_and_eq_mod_two (a >>> k)
  rw [this]
  rcases Nat.mod_two_eq_zero_or_one (a >>> k) with e | e <;> simp [e]
theorem p_one_shl {k : Nat} (hk : k < 31) : ishl 1 (k : Int) = ((2 ^ k : Nat) : Int) := by
  have h1 : (1 : Int) = ((1 : Nat) : Int) := rfl
  rw [h1, p_ishl (by omega) (by rw [Nat.shiftLeft_eq, Nat.one_mul]; exact Nat.pow_lt_pow_right (by omega) hk), Nat.shiftLeft_eq, Nat.one_mul]
theorem p_div {a b : Int} (ha : 0 ≤ a) (ha' : a < 2147483648) (hb : 0 < b) (hb' : b < 2147483648) : I32 a / I32 b = I32 (a / b) := by
  have h1 : 0 ≤ a / b := Int.ediv_nonneg ha (by omega)
  have h2 : a / b ≤ a := Int.ediv_le_self b ha
  apply Int32.toInt_inj.mp
  have hne : I32 b ≠ -1 := by
    intro h
    have := congrArg Int32.toInt h
    rw [toI ⟨by omega, by omega⟩] at this
    rw [show (-1 : Int32).toInt = -1 by decide] at this
    omega
  rw [Int32.toInt_div_of_ne_right _ _ hne, toI ⟨by omega, by omega⟩, toI ⟨by omega, by omega⟩, toI ⟨by omega, by omega⟩, Int.tdiv_eq_ediv_of_nonneg ha]
theorem p_idv {a b : Int} (ha : 0 ≤ a) (ha' : a < 2147483648) (hb : 0 < b) (hb' : b < 2147483648) : idv a b = a / b := by
  have h1 : 0 ≤ a / b := Int.ediv_nonneg ha (by omega)
  have h2 : a / b ≤ a := Int.ediv_le_self b ha
  unfold idv
  rw [p_div ha ha' hb hb', toI ⟨by omega, by omega⟩]
theorem p_irm {a b : Int} (ha : 0 ≤ a) (ha' : a < 2147483648) (hb : 0 < b) (hb' : b < 2147483648) : irm a b = a % b := by
  have h1 : 0 ≤ a / b := Int.ediv_nonneg ha (by omega)
  have h2 : a / b ≤ a := Int.ediv_le_self b ha
  have h3 : 0 ≤ a % b := Int.emod_nonneg a (by omega)
  have h4 : a % b < b := Int.emod_lt_of_pos a hb
  unfold irm
  rw [p_div ha ha' hb hb']
  have e1 : I32 (a / b) * I32 b = I32 (a / b * b) := by
    unfold I32; rw [Int32.ofInt_mul]
  rw [e1]
  have e2 : I32 a - I32 (a / b * b) = I32 (a - a / b * b) := by
    unfold I32; rw [Int32.ofInt_sub]
  have e3 : a - a / b * b = a % b := by
    have := Int.emod_add_mul_ediv a b
    rw [Int.mul_comm b] at this
    omega
  rw [e2, e3, toI ⟨by omega, by omega⟩]

set_option maxRecDepth 100000
/-! PURE 2: types as trees; what a held object keeps -/
abbrev Tm : Type := Nat.Internal.Linear.Expr
def szT : Tm → Nat
  | .num _ => 1
  | .var _ => 1
  | .mulL _ a => szT a + 1
  | .add a b => szT a + szT b + 1
  | .mulR _ _ => 1
def okT : Tm → Prop
  | .num c => c = 105 ∨ c = 98
  | .var v => v < 2
  | .mulL k a => k = 0 ∧ okT a
  | .add a b => okT a ∧ okT b
  | .mulR _ _ => False
def sgT : Tm → Int
  | .num c => (c : Int)
  | .var v => 120 + (v : Int)
  | .mulL _ _ => 108
  | .add _ _ => 112
  | .mulR _ _ => 0
def flat : Tm → List Int
  | .num c => [(c : Int)]
  | .var v => [120 + (v : Int)]
  | .mulL _ a => 108 :: flat a
  | .add a b => 112 :: (flat a ++ flat b)
  | .mulR _ _ => []
def isV : Tm → Bool
  | .var _ => true
  | _ => false
theorem szT_pos (t : Tm) : 0 < szT t := by cases t <;> simp [szT]
theorem flat_len : ∀ t : Tm, okT t → (flat t).length = szT t := by
  intro t
  induction t <;> simp_all [flat, szT, okT]
theorem flat_inj : ∀ t u : Tm, okT t → okT u → ∀ l m : List Int, flat t ++ l = flat u ++ m → t = u ∧ l = m := by
  intro t
  induction t with
  | num c => intro u h1 h2 l m e; cases u <;> simp_all [flat, okT] <;> grind
  | var c => intro u h1 h2 l m e; cases u <;> simp_all [flat, okT] <;> grind
  | mulL k a ih => intro u h1 h2 l m e; cases u <;> simp_all [flat, okT] <;> grind
  | mulR a k ih => intro u h1 h2 l m e; cases h1
  | add a b iha ihb => intro u h1 h2 l m e; cases u <;> simp_all [flat, okT] <;> grind
theorem flat_eq {t u : Tm} (h1 : okT t) (h2 : okT u) : flat t = flat u ↔ t = u := by
  constructor
  · intro e; exact (flat_inj t u h1 h2 [] [] (by simp [e])).1
  · rintro rfl; rfl
/-- the type at a place -/
def sub : Tm → Nat → Tm
  | .mulL k a, p => match p with
    | 0 => .mulL k a
    | q + 1 => sub a q
  | .add a b, p => match p with
    | 0 => .add a b
    | q + 1 => if q < szT a then sub a q else sub b (q - szT a)
  | t, _ => t
theorem sub_0 (t : Tm) : sub t 0 = t := by cases t <;> simp [sub]
theorem sub_ok : ∀ (t : Tm) (p : Nat), okT t → p < szT t → okT (sub t p) := by
  intro t
  induction t with
  | num c => intro p h hp; simpa [sub] using h
  | var c => intro p h hp; simpa [sub] using h
  | mulL k a ih => intro p h hp; cases p with
    | zero => simpa [sub] using h
    | succ q => simp only [sub]; exact ih q h.2 (by simp [szT] at hp; omega)
  | mulR a k ih => intro p h hp; cases h
  | add a b iha ihb => intro p h hp; cases p with
    | zero => simpa [sub] using h
    | succ q =>
      simp only [sub]; simp only [szT] at hp
      split
      · exact iha q h.1 (by assumption)
      · exact ihb _ h.2 (by omega)
theorem sub_end : ∀ (t : Tm) (p : Nat), okT t → p < szT t → p + szT (sub t p) ≤ szT t := by
  intro t
  induction t with
  | num c => intro p h hp; simp [sub, szT] at *; omega
  | var c => intro p h hp; simp [sub, szT] at *; omega
  | mulL k a ih => intro p h hp; cases p with
    | zero => simp [sub]
    | succ q => simp only [sub, szT] at *; have := ih q h.2 (by omega); omega
  | mulR a k ih => intro p h hp; cases h
  | add a b iha ihb => intro p h hp; cases p with
    | zero => simp [sub]
    | succ q =>
      simp only [sub, szT] at *
      split
      · have := iha q h.1 (by assumption); omega
      · have := ihb (q - szT a) h.2 (by omega); omega
theorem sub_flat : ∀ (t : Tm) (p : Nat), okT t → p < szT t → (flat t).drop p = flat (sub t p) ++ (flat t).drop (p + szT (sub t p)) := by
  intro t
  induction t with
  | num c => intro p h hp; simp [sub, szT, flat] at *; subst hp; simp
  | var c => intro p h hp; simp [sub, szT, flat] at *; subst hp; simp
  | mulL k a ih => intro p h hp; cases p with
    | zero =>
      simp only [sub, Nat.zero_add, List.drop_zero]
      rw [List.drop_eq_nil_of_le (by rw [flat_len _ h]; exact Nat.le_refl _), List.append_nil]
    | succ q =>
      simp only [sub, szT] at *; have := ih q h.2 (by omega)
      simp only [flat, List.drop_succ_cons]
      rw [this, show q + 1 + szT (sub a q) = (q + szT (sub a q)) + 1 by omega, List.drop_succ_cons]
  | mulR a k ih => intro p h hp; cases h
  | add a b iha ihb => intro p h hp; cases p with
    | zero =>
      simp only [sub, Nat.zero_add, List.drop_zero]
      rw [List.drop_eq_nil_of_le (by rw [flat_len _ h]; exact Nat.le_refl _), List.append_nil]
    | succ q =>
      simp only [sub, szT] at *
      have la := flat_len a h.1
      split
      · rename_i hq
        have := iha q h.1 hq
        have h2 := sub_end a q h.1 hq
        simp only [flat, List.drop_succ_cons]
        rw [show q + 1 + szT (sub a q) = (q + szT (sub a q)) + 1 by omega, List.drop_succ_cons]
        rw [List.drop_append_of_le_length (by omega), this, List.append_assoc, List.drop_append_of_le_length (by omega)]
      · rename_i hq
        have := ihb (q - szT a) h.2 (by omega)
        simp only [flat, List.drop_succ_cons]
        rw [show q + 1 + szT (sub b (q - szT a)) = (q + szT (sub b (q - szT a))) + 1 by omega, List.drop_succ_cons]
        have e1 : ∀ m, szT a ≤ m → List.drop m (flat a ++ flat b) = List.drop (m - szT a) (flat b) := by
          intro m hm
          rw [List.drop_append, List.drop_eq_nil_of_le (by omega), List.nil_append, la]
        rw [e1 q (by omega), e1 _ (by omega), this]
        congr 2; omega
theorem sub_get {t : Tm} {p k : Nat} (h : okT t) (hp : p < szT t) (hk : k < szT (sub t p)) : (flat t)[p + k]? = (flat (sub t p))[k]? := by
  have e := congrArg (fun l => l[k]?) (sub_flat t p h hp)
  simp only [List.getElem?_drop] at e
  rw [e, List.getElem?_append_left (by rw [flat_len _ (sub_ok t p h hp)]; exact hk)]
theorem flat_0 {t : Tm} (h : okT t) : (flat t)[0]? = some (sgT t) := by
  cases t <;> simp_all [flat, sgT, okT]
theorem sub_sg {t : Tm} {p : Nat} (h : okT t) (hp : p < szT t) : (flat t)[p]? = some (sgT (sub t p)) := by
  have := sub_get (k := 0) h hp (szT_pos _)
  rw [Nat.add_zero] at this
  rw [this, flat_0 (sub_ok t p h hp)]
/-- in the type at a place -/
theorem sub_sub : ∀ (t : Tm) (p k : Nat), okT t → p < szT t → k < szT (sub t p) → sub (sub t p) k = sub t (p + k) := by
  intro t
  induction t with
  | num c => intro p k h hp hk; rfl
  | var c => intro p k h hp hk; rfl
  | mulL k0 a ih => intro p k h hp hk; cases p with
    | zero => simp only [sub_0, Nat.zero_add]
    | succ q => simp only [sub, szT] at *; rw [ih q k h.2 (by omega) hk, show q + 1 + k = (q + k) + 1 by omega]
  | mulR a k ih => intro p k h hp hk; cases h
  | add a b iha ihb => intro p k h hp hk; cases p with
    | zero => simp only [sub_0, Nat.zero_add]
    | succ q =>
      simp only [sub, szT] at *
      rw [show q + 1 + k = (q + k) + 1 by omega]
      simp only [sub]
      split at hk
      · rename_i hq
        have h2 := sub_end a q h.1 hq
        rw [if_pos hq, if_pos (show q + k < szT a by omega)]
        exact iha q k h.1 hq hk
      · rename_i hq
        rw [if_neg hq, if_neg (show ¬ q + k < szT a by omega)]
        rw [ihb (q - szT a) k h.2 (by omega) hk]
        congr 1; omega
theorem sub_l {t : Tm} {p k : Nat} {a : Tm} (h : okT t) (hp : p < szT t) (e : sub t p = .mulL k a) : sub t (p + 1) = a ∧ p + 1 < szT t ∧ szT (sub t p) = szT a + 1 := by
  have h1 : 1 < szT (sub t p) := by rw [e]; simp only [szT]; have := szT_pos a; omega
  have h2 := sub_end t p h hp
  refine ⟨?_, by omega, by rw [e]; rfl⟩
  rw [← sub_sub t p 1 h hp h1, e]
  simp only [sub, sub_0]
theorem sub_p {t : Tm} {p : Nat} {a b : Tm} (h : okT t) (hp : p < szT t) (e : sub t p = .add a b) : sub t (p + 1) = a ∧ sub t (p + 1 + szT a) = b ∧ p + 1 + szT a < szT t ∧ szT (sub t p) = szT a + szT b + 1 := by
  have ha := szT_pos a
  have hb := szT_pos b
  have h1 : 1 + szT a < szT (sub t p) := by rw [e]; simp only [szT]; omega
  have h2 := sub_end t p h hp
  refine ⟨?_, ?_, by omega, by rw [e]; rfl⟩
  · rw [← sub_sub t p 1 h hp (by omega), e]
    simp only [sub, ha, if_true, sub_0]
  · rw [show p + 1 + szT a = p + (1 + szT a) by omega, ← sub_sub t p (1 + szT a) h hp h1, e, show 1 + szT a = szT a + 1 by omega]
    simp only [sub, Nat.lt_irrefl, if_false, Nat.sub_self, sub_0]
/-! what is kept -/
def keepS (L : List Nat) (s s' : Sg) : Prop := ∀ k, k ∉ L → s'.1 k = s.1 k ∧ (∀ i, s'.2.1 k i = s.2.1 k i) ∧ ∀ i, s'.2.2 k i = s.2.2 k i
theorem keepS.refl (L : List Nat) (s : Sg) : keepS L s s := fun _ _ => ⟨rfl, fun _ => rfl, fun _ => rfl⟩
theorem keepS.trans {L : List Nat} {s s' s'' : Sg} (h : keepS L s s') (h' : keepS L s' s'') : keepS L s s'' := fun k hk => ⟨(h' k hk).1.trans (h k hk).1, fun i => ((h' k hk).2.1 i).trans ((h k hk).2.1 i), fun i => ((h' k hk).2.2 i).trans ((h k hk).2.2 i)⟩
theorem keepS.mono {L L' : List Nat} {s s' : Sg} (h : keepS L s s') (hl : ∀ k ∈ L, k ∈ L') : keepS L' s s' := fun k hk => h k (fun q => hk (hl k q))
theorem keepS.I {L : List Nat} {s s' : Sg} (h : keepS L s s') {k : Nat} (hk : k ∉ L) : gI s' k = gI s k := (h k hk).1
theorem keepS.A {L : List Nat} {s s' : Sg} (h : keepS L s s') {k : Nat} (hk : k ∉ L) (i : Int) : gA s' k i = gA s k i := (h k hk).2.1 i
theorem keepS.Q {L : List Nat} {s s' : Sg} (h : keepS L s s') {k : Nat} (hk : k ∉ L) (i : Int) : gQ s' k i = gQ s k i := (h k hk).2.2 i
theorem keepS.sI {L : List Nat} {s s' : Sg} (h : keepS L s s') {k : Nat} (hk : k ∈ L) (v : Int) : keepS L s (sI s' k v) := by
  intro j hj
  refine ⟨?_, (h j hj).2⟩
  have : j ≠ k := fun q => hj (q ▸ hk)
  show (if j = k then v else s'.1 j) = _
  rw [if_neg this]; exact (h j hj).1
theorem keepS.sA {L : List Nat} {s s' : Sg} (h : keepS L s s') {k : Nat} (hk : k ∈ L) (i v : Int) : keepS L s (sA s' k i v) := by
  intro j hj
  refine ⟨(h j hj).1, fun x => ?_, (h j hj).2.2⟩
  have : j ≠ k := fun q => hj (q ▸ hk)
  show (if j = k ∧ x = i then v else s'.2.1 j x) = _
  rw [if_neg (fun q => this q.1)]; exact (h j hj).2.1 x
theorem keepS.sQ {L : List Nat} {s s' : Sg} (h : keepS L s s') {k : Nat} (hk : k ∈ L) (i : Int) (v : Option Nat) : keepS L s (sQ s' k i v) := by
  intro j hj
  refine ⟨(h j hj).1, (h j hj).2.1, fun x => ?_⟩
  have : j ≠ k := fun q => hj (q ▸ hk)
  show (if j = k ∧ x = i then v else s'.2.2 j x) = _
  rw [if_neg (fun q => this q.1)]; exact (h j hj).2.2 x
/-- a truth as an int -/
def b01 (p : Prop) [Decidable p] : Int := if p then 1 else 0
theorem b01_0 {p : Prop} [Decidable p] : b01 p = 0 ↔ ¬ p := by unfold b01; split <;> simp [*]
theorem b01_1 {p : Prop} [Decidable p] : b01 p = 1 ↔ p := by unfold b01; split <;> simp [*]
theorem b01_or {p : Prop} [Decidable p] : b01 p = 0 ∨ b01 p = 1 := by unfold b01; split <;> simp

set_option maxRecDepth 100000
/-! PURE: the steps of the functions that recurse on fuel, printed by pure/steps.py -/
theorem fX6_readClass_L38_s  : ∀ n9 s a1 a2 a3, fX6_readClass_L38  (n9 + 1) s a1 a2 a3 = fX6_readClass_b38 (fX6_readClass_L38 n9) s a1 a2 a3 := by intros; rfl
theorem fX6_readClasses_L6_s  : ∀ n9 s a1, fX6_readClasses_L6  (n9 + 1) s a1 = fX6_readClasses_b6 (fX6_readClasses_L6 n9) s a1 := by intros; rfl
theorem fX6_readHead_L5_s  : ∀ n9 s a1 a2 a3 a4, fX6_readHead_L5  (n9 + 1) s a1 a2 a3 a4 = fX6_readHead_b5 (fX6_readHead_L5 n9) s a1 a2 a3 a4 := by intros; rfl
theorem fX6_isInHead_L5_s  : ∀ n9 s a1 a2 a3 a4, fX6_isInHead_L5  (n9 + 1) s a1 a2 a3 a4 = fX6_isInHead_b5 (fX6_isInHead_L5 n9) s a1 a2 a3 a4 := by intros; rfl
theorem fX6_readConditions_L36_s  : ∀ n9 s a2 a3 a4, fX6_readConditions_L36  (n9 + 1) s a2 a3 a4 = fX6_readConditions_b36 (fX6_readConditions_L36 n9) s a2 a3 a4 := by intros; rfl
theorem fX6_read_L52_s  : ∀ n9 s a1, fX6_read_L52  (n9 + 1) s a1 = fX6_read_b52 (fX6_read_L52 n9) s a1 := by intros; rfl
theorem fX6_takeInstance_L90_s  : ∀ n9 s a1 a2, fX6_takeInstance_L90  (n9 + 1) s a1 a2 = fX6_takeInstance_b90 (fX6_takeInstance_L90 n9) s a1 a2 := by intros; rfl
theorem fX6_takeInstance_L38_s  : ∀ n9 s a1 a2, fX6_takeInstance_L38  (n9 + 1) s a1 a2 = fX6_takeInstance_b38 (fX6_takeInstance_L38 n9) s a1 a2 := by intros; rfl
theorem fX6_laySizes_L17_s (K7 : Sg → Int → Option (Sg)) : ∀ n9 s a1 a2 a3, fX6_laySizes_L17 K7 (n9 + 1) s a1 a2 a3 = fX6_laySizes_b17 K7 (fX6_laySizes_L17 K7 n9) s a1 a2 a3 := by intros; rfl
theorem fX6_laySizes_L7_s  : ∀ n9 s a1, fX6_laySizes_L7  (n9 + 1) s a1 = fX6_laySizes_b7 (fX6_laySizes_L7 n9) s a1 := by intros; rfl
theorem fX6_layHead_L12_s  : ∀ n9 s a1 a2, fX6_layHead_L12  (n9 + 1) s a1 a2 = fX6_layHead_b12 (fX6_layHead_L12 n9) s a1 a2 := by intros; rfl
theorem fX6_isSameAt_L24_s  : ∀ n9 s a1 a2 a3 a4, fX6_isSameAt_L24  (n9 + 1) s a1 a2 a3 a4 = fX6_isSameAt_b24 (fX6_isSameAt_L24 n9) s a1 a2 a3 a4 := by intros; rfl
theorem fX6_fitsAt_L19_s  : ∀ n9 s a1 a3 a4, fX6_fitsAt_L19  (n9 + 1) s a1 a3 a4 = fX6_fitsAt_b19 (fX6_fitsAt_L19 n9) s a1 a3 a4 := by intros; rfl
theorem fX6_laySpecial_L12_s (K2 : Sg → Int → Option (Sg)) : ∀ n9 s a1 a2, fX6_laySpecial_L12 K2 (n9 + 1) s a1 a2 = fX6_laySpecial_b12 K2 (fX6_laySpecial_L12 K2 n9) s a1 a2 := by intros; rfl
theorem fX6_laySpecial_L2_s  : ∀ n9 s a1, fX6_laySpecial_L2  (n9 + 1) s a1 = fX6_laySpecial_b2 (fX6_laySpecial_L2 n9) s a1 := by intros; rfl
theorem fX6_book_L59_s (K25 : Sg → Int → Option (Int × Sg)) : ∀ n9 s a1 a2, fX6_book_L59 K25 (n9 + 1) s a1 a2 = fX6_book_b59 K25 (fX6_book_L59 K25 n9) s a1 a2 := by intros; rfl
theorem fX6_book_L143_s  : ∀ n9 s a1, fX6_book_L143  (n9 + 1) s a1 = fX6_book_b143 (fX6_book_L143 n9) s a1 := by intros; rfl
theorem fX6_book_L118_s  : ∀ n9 s a1, fX6_book_L118  (n9 + 1) s a1 = fX6_book_b118 (fX6_book_L118 n9) s a1 := by intros; rfl
theorem fX6_book_L25_s  : ∀ n9 s a1, fX6_book_L25  (n9 + 1) s a1 = fX6_book_b25 (fX6_book_L25 n9) s a1 := by intros; rfl
theorem fX6_type_L85_s  : ∀ n9 s a1 a3 a4, fX6_type_L85  (n9 + 1) s a1 a3 a4 = fX6_type_b85 (fX6_type_L85 n9) s a1 a3 a4 := by intros; rfl
theorem fX6_type_L16_s  : ∀ n9 s a1 a2 a3, fX6_type_L16  (n9 + 1) s a1 a2 a3 = fX6_type_b16 (fX6_type_L16 n9) s a1 a2 a3 := by intros; rfl
theorem fX6_instancesOf_L4_s  : ∀ n9 s a1 a2 a3, fX6_instancesOf_L4  (n9 + 1) s a1 a2 a3 = fX6_instancesOf_b4 (fX6_instancesOf_L4 n9) s a1 a2 a3 := by intros; rfl
theorem fX6_sortsOf_L15_s (K4 : Sg → Int → Int → Int → Option (Int)) : ∀ n9 s a1 a2 a3 a4 a5, fX6_sortsOf_L15 K4 (n9 + 1) s a1 a2 a3 a4 a5 = fX6_sortsOf_b15 K4 (fX6_sortsOf_L15 K4 n9) s a1 a2 a3 a4 a5 := by intros; rfl
theorem fX6_sortsOf_L4_s  : ∀ n9 s a1 a2 a3, fX6_sortsOf_L4  (n9 + 1) s a1 a2 a3 = fX6_sortsOf_b4 (fX6_sortsOf_L4 n9) s a1 a2 a3 := by intros; rfl
theorem fX6_size_L4_s  : ∀ n9 a0 a1 a2, fX6_size_L4  (n9 + 1) a0 a1 a2 = fX6_size_b4 (fX6_size_L4 n9) a0 a1 a2 := by intros; rfl
theorem fX6_askOf_L32_s (K16 : Sg → Int → Int → Int → Int → Option (Int)) : ∀ n9 s a2 a3 a4 a5 a6 a7, fX6_askOf_L32 K16 (n9 + 1) s a2 a3 a4 a5 a6 a7 = fX6_askOf_b32 K16 (fX6_askOf_L32 K16 n9) s a2 a3 a4 a5 a6 a7 := by intros; rfl
theorem fX6_askOf_L16_s  : ∀ n9 s a2 a3 a4 a5, fX6_askOf_L16  (n9 + 1) s a2 a3 a4 a5 = fX6_askOf_b16 (fX6_askOf_L16 n9) s a2 a3 a4 a5 := by intros; rfl
theorem fX6_meantFor_L5_s  : ∀ n9 s a1 a2 a3 a4, fX6_meantFor_L5  (n9 + 1) s a1 a2 a3 a4 = fX6_meantFor_b5 (fX6_meantFor_L5 n9) s a1 a2 a3 a4 := by intros; rfl
theorem fX6_isOneSole_L4_s  : ∀ n9 s a1 a2 a3, fX6_isOneSole_L4  (n9 + 1) s a1 a2 a3 = fX6_isOneSole_b4 (fX6_isOneSole_L4 n9) s a1 a2 a3 := by intros; rfl
theorem fX6_ofRank_L5_s  : ∀ n9 s a1 a2 a3 a4, fX6_ofRank_L5  (n9 + 1) s a1 a2 a3 a4 = fX6_ofRank_b5 (fX6_ofRank_L5 n9) s a1 a2 a3 a4 := by intros; rfl
theorem fX6_mostSpecial_L22_s (K4 : Sg → Int → Int → Int → Option (Int)) : ∀ n9 s a1 a2 a3 a4 a5, fX6_mostSpecial_L22 K4 (n9 + 1) s a1 a2 a3 a4 a5 = fX6_mostSpecial_b22 K4 (fX6_mostSpecial_L22 K4 n9) s a1 a2 a3 a4 a5 := by intros; rfl
theorem fX6_mostSpecial_L4_s  : ∀ n9 s a1 a2 a3, fX6_mostSpecial_L4  (n9 + 1) s a1 a2 a3 = fX6_mostSpecial_b4 (fX6_mostSpecial_L4 n9) s a1 a2 a3 := by intros; rfl
theorem fX6_takes_L38_s  : ∀ n9 s a3 a4 a5, fX6_takes_L38  (n9 + 1) s a3 a4 a5 = fX6_takes_b38 (fX6_takes_L38 n9) s a3 a4 a5 := by intros; rfl
theorem fX6_layGoals_L13_s (K7 : Sg → Int → Option (Sg)) : ∀ n9 s a1 a2, fX6_layGoals_L13 K7 (n9 + 1) s a1 a2 = fX6_layGoals_b13 K7 (fX6_layGoals_L13 K7 n9) s a1 a2 := by intros; rfl
theorem fX6_layGoals_L7_s  : ∀ n9 s a1, fX6_layGoals_L7  (n9 + 1) s a1 = fX6_layGoals_b7 (fX6_layGoals_L7 n9) s a1 := by intros; rfl
theorem fX6_isGiven_L5_s  : ∀ n9 s a1 a2 a3 a4, fX6_isGiven_L5  (n9 + 1) s a1 a2 a3 a4 = fX6_isGiven_b5 (fX6_isGiven_L5 n9) s a1 a2 a3 a4 := by intros; rfl
theorem fX6_lacksOf_L48_s (K13 : Sg → Int → Int → Int → Option (Int × Sg)) : ∀ n9 s a1 a2 a3 a4 a5 a6, fX6_lacksOf_L48 K13 (n9 + 1) s a1 a2 a3 a4 a5 a6 = fX6_lacksOf_b48 K13 (fX6_lacksOf_L48 K13 n9) s a1 a2 a3 a4 a5 a6 := by intros; rfl
theorem fX6_lacksOf_L13_s  : ∀ n9 s a1 a2 a3, fX6_lacksOf_L13  (n9 + 1) s a1 a2 a3 = fX6_lacksOf_b13 (fX6_lacksOf_L13 n9) s a1 a2 a3 := by intros; rfl
theorem fX6_standsFor_L2_s  : ∀ n9 s a2, fX6_standsFor_L2  (n9 + 1) s a2 = fX6_standsFor_b2 (fX6_standsFor_L2 n9) s a2 := by intros; rfl
theorem fX6_behind_L4_s  : ∀ n9 s a2 a3, fX6_behind_L4  (n9 + 1) s a2 a3 = fX6_behind_b4 (fX6_behind_L4 n9) s a2 a3 := by intros; rfl
theorem fX6_occurs_L9_s  : ∀ n9 s a1 a3, fX6_occurs_L9  (n9 + 1) s a1 a3 = fX6_occurs_b9 (fX6_occurs_L9 n9) s a1 a3 := by intros; rfl
theorem fX6_areOne_L41_s  : ∀ n9 s, fX6_areOne_L41  (n9 + 1) s = fX6_areOne_b41 (fX6_areOne_L41 n9) s := by intros; rfl
theorem fX6_areOne_L12_s  : ∀ n9 s a3, fX6_areOne_L12  (n9 + 1) s a3 = fX6_areOne_b12 (fX6_areOne_L12 n9) s a3 := by intros; rfl
theorem fX6_laySlot_L12_s  : ∀ n9 s a1 a2, fX6_laySlot_L12  (n9 + 1) s a1 a2 = fX6_laySlot_b12 (fX6_laySlot_L12 n9) s a1 a2 := by intros; rfl
theorem fX6_isNew_L5_s  : ∀ n9 s a1 a2 a3 a4, fX6_isNew_L5  (n9 + 1) s a1 a2 a3 a4 = fX6_isNew_b5 (fX6_isNew_L5 n9) s a1 a2 a3 a4 := by intros; rfl
theorem fX6_differentGoals_L45_s (K34 : Sg → Int → Int → Option (Int × Sg)) : ∀ n9 s a2 a3 a4, fX6_differentGoals_L45 K34 (n9 + 1) s a2 a3 a4 = fX6_differentGoals_b45 K34 (fX6_differentGoals_L45 K34 n9) s a2 a3 a4 := by intros; rfl
theorem fX6_differentGoals_L34_s  : ∀ n9 s a2 a3, fX6_differentGoals_L34  (n9 + 1) s a2 a3 = fX6_differentGoals_b34 (fX6_differentGoals_L34 n9) s a2 a3 := by intros; rfl
theorem fX6_differentGoals_L2_s  : ∀ n9 s a1 a2, fX6_differentGoals_L2  (n9 + 1) s a1 a2 = fX6_differentGoals_b2 (fX6_differentGoals_L2 n9) s a1 a2 := by intros; rfl
theorem fX6_plainOf_L20_s (K4 : Sg → Int → Int → Int → Option (Int)) : ∀ n9 s a1 a2 a3 a4 a5, fX6_plainOf_L20 K4 (n9 + 1) s a1 a2 a3 a4 a5 = fX6_plainOf_b20 K4 (fX6_plainOf_L20 K4 n9) s a1 a2 a3 a4 a5 := by intros; rfl
theorem fX6_plainOf_L4_s  : ∀ n9 s a1 a2 a3, fX6_plainOf_L4  (n9 + 1) s a1 a2 a3 = fX6_plainOf_b4 (fX6_plainOf_L4 n9) s a1 a2 a3 := by intros; rfl
theorem fX6_entryAt_L5_s  : ∀ n9 s a3 a4, fX6_entryAt_L5  (n9 + 1) s a3 a4 = fX6_entryAt_b5 (fX6_entryAt_L5 n9) s a3 a4 := by intros; rfl
theorem fX6_drawType_L51_s (K29 : Sg → Int → Int → Option (Sg)) : ∀ n9 s a1 a2 a3 a4, fX6_drawType_L51 K29 (n9 + 1) s a1 a2 a3 a4 = fX6_drawType_b51 K29 (fX6_drawType_L51 K29 n9) s a1 a2 a3 a4 := by intros; rfl
theorem fX6_drawType_L29_s  : ∀ n9 s a1 a2, fX6_drawType_L29  (n9 + 1) s a1 a2 = fX6_drawType_b29 (fX6_drawType_L29 n9) s a1 a2 := by intros; rfl
theorem fX6_drawnNow_L15_s  : ∀ n9 s a1 a3 a4 a5 a6, fX6_drawnNow_L15  (n9 + 1) s a1 a3 a4 a5 a6 = fX6_drawnNow_b15 (fX6_drawnNow_L15 n9) s a1 a3 a4 a5 a6 := by intros; rfl
theorem fX6_filled_L4_s  : ∀ n9 s a1 a2, fX6_filled_L4  (n9 + 1) s a1 a2 = fX6_filled_b4 (fX6_filled_L4 n9) s a1 a2 := by intros; rfl
theorem fX6_image_L121_s  : ∀ n9 s a1, fX6_image_L121  (n9 + 1) s a1 = fX6_image_b121 (fX6_image_L121 n9) s a1 := by intros; rfl
theorem fX6_image_L95_s  : ∀ n9 s a1, fX6_image_L95  (n9 + 1) s a1 = fX6_image_b95 (fX6_image_L95 n9) s a1 := by intros; rfl
theorem fX6_image_L33_s  : ∀ n9 s a1, fX6_image_L33  (n9 + 1) s a1 = fX6_image_b33 (fX6_image_L33 n9) s a1 := by intros; rfl
theorem fX6_restore_L119_s  : ∀ n9 s a1, fX6_restore_L119  (n9 + 1) s a1 = fX6_restore_b119 (fX6_restore_L119 n9) s a1 := by intros; rfl
theorem fX6_restore_L93_s  : ∀ n9 s a1, fX6_restore_L93  (n9 + 1) s a1 = fX6_restore_b93 (fX6_restore_L93 n9) s a1 := by intros; rfl
theorem fX6_restore_L31_s  : ∀ n9 s a1, fX6_restore_L31  (n9 + 1) s a1 = fX6_restore_b31 (fX6_restore_L31 n9) s a1 := by intros; rfl
theorem fX6_unsound_L4_s  : ∀ n9 s a1 a2, fX6_unsound_L4  (n9 + 1) s a1 a2 = fX6_unsound_b4 (fX6_unsound_L4 n9) s a1 a2 := by intros; rfl
theorem fX6_pairsOf_L15_s (K4 : Sg → Int → Int → Int → Option (Int × Sg)) : ∀ n9 s a1 a2 a3 a4, fX6_pairsOf_L15 K4 (n9 + 1) s a1 a2 a3 a4 = fX6_pairsOf_b15 K4 (fX6_pairsOf_L15 K4 n9) s a1 a2 a3 a4 := by intros; rfl
theorem fX6_pairsOf_L4_s  : ∀ n9 s a1 a2 a3, fX6_pairsOf_L4  (n9 + 1) s a1 a2 a3 = fX6_pairsOf_b4 (fX6_pairsOf_L4 n9) s a1 a2 a3 := by intros; rfl
theorem fX6_lacksOfAll_L4_s  : ∀ n9 s a1 a2, fX6_lacksOfAll_L4  (n9 + 1) s a1 a2 = fX6_lacksOfAll_b4 (fX6_lacksOfAll_L4 n9) s a1 a2 := by intros; rfl
theorem fX6_isSlotLike_L24_s  : ∀ n9 s a1 a2 a3 a4, fX6_isSlotLike_L24  (n9 + 1) s a1 a2 a3 a4 = fX6_isSlotLike_b24 (fX6_isSlotLike_L24 n9) s a1 a2 a3 a4 := by intros; rfl
theorem fX6_differentTypes_L27_s (K4 : Sg → Int → Int → Option (Int)) : ∀ n9 s a1 a2 a3 a4, fX6_differentTypes_L27 K4 (n9 + 1) s a1 a2 a3 a4 = fX6_differentTypes_b27 K4 (fX6_differentTypes_L27 K4 n9) s a1 a2 a3 a4 := by intros; rfl
theorem fX6_differentTypes_L4_s  : ∀ n9 s a1 a2, fX6_differentTypes_L4  (n9 + 1) s a1 a2 = fX6_differentTypes_b4 (fX6_differentTypes_L4 n9) s a1 a2 := by intros; rfl
theorem fX6_mixSlot_L21_s (K11 : Sg → Int → Option (Sg)) : ∀ n9 s a2 a3, fX6_mixSlot_L21 K11 (n9 + 1) s a2 a3 = fX6_mixSlot_b21 K11 (fX6_mixSlot_L21 K11 n9) s a2 a3 := by intros; rfl
theorem fX6_mixSlot_L11_s  : ∀ n9 s a2, fX6_mixSlot_L11  (n9 + 1) s a2 = fX6_mixSlot_b11 (fX6_mixSlot_L11 n9) s a2 := by intros; rfl
theorem fX6_digest_L19_s (K9 : Sg → Int → Option (Int × Sg)) : ∀ n9 s a1 a2, fX6_digest_L19 K9 (n9 + 1) s a1 a2 = fX6_digest_b19 K9 (fX6_digest_L19 K9 n9) s a1 a2 := by intros; rfl
theorem fX6_digest_L59_s (K49 : Sg → Int → Option (Int × Sg)) : ∀ n9 s a1 a2, fX6_digest_L59 K49 (n9 + 1) s a1 a2 = fX6_digest_b59 K49 (fX6_digest_L59 K49 n9) s a1 a2 := by intros; rfl
theorem fX6_digest_L144_s  : ∀ n9 s a1, fX6_digest_L144  (n9 + 1) s a1 = fX6_digest_b144 (fX6_digest_L144 n9) s a1 := by intros; rfl
theorem fX6_digest_L117_s  : ∀ n9 s a1, fX6_digest_L117  (n9 + 1) s a1 = fX6_digest_b117 (fX6_digest_L117 n9) s a1 := by intros; rfl
theorem fX6_digest_L90_s  : ∀ n9 s a1, fX6_digest_L90  (n9 + 1) s a1 = fX6_digest_b90 (fX6_digest_L90 n9) s a1 := by intros; rfl
theorem fX6_digest_L49_s  : ∀ n9 s a1, fX6_digest_L49  (n9 + 1) s a1 = fX6_digest_b49 (fX6_digest_L49 n9) s a1 := by intros; rfl
theorem fX6_digest_L9_s  : ∀ n9 s a1, fX6_digest_L9  (n9 + 1) s a1 = fX6_digest_b9 (fX6_digest_L9 n9) s a1 := by intros; rfl
theorem fX7_hashCode_s : ∀ d9 h o0, fX7_hashCode  (d9 + 1) h o0 = fX7_hashCode_B (fX7_hashCode d9) h o0 := by intros; rfl
theorem fX7_equals_s : ∀ d9 h o0 o1, fX7_equals  (d9 + 1) h o0 o1 = fX7_equals_B (fX7_equals d9) h o0 o1 := by intros; rfl
theorem fJ6_root_L2_s  : ∀ n9 h o1, fJ6_root_L2  (n9 + 1) h o1 = fJ6_root_b2 (fJ6_root_L2 n9) h o1 := by intros; rfl
theorem fJ6_find_L3_s  : ∀ n9 h a1 o2 o3 o4, fJ6_find_L3  (n9 + 1) h a1 o2 o3 o4 = fJ6_find_b3 (fJ6_find_L3 n9) h a1 o2 o3 o4 := by intros; rfl
theorem fJ1_getNode_L99_s  : ∀ n9 h o1 o4 a6, fJ1_getNode_L99  (n9 + 1) h o1 o4 a6 = fJ1_getNode_b99 (fJ1_getNode_L99 n9) h o1 o4 a6 := by intros; rfl
theorem fJ6_untreeify_L7_s  : ∀ n9 h o1 o2 o3 o4, fJ6_untreeify_L7  (n9 + 1) h o1 o2 o3 o4 = fJ6_untreeify_b7 (fJ6_untreeify_L7 n9) h o1 o2 o3 o4 := by intros; rfl
theorem fJ6_balanceInsertion_L5_s  : ∀ n9 h o0 o1, fJ6_balanceInsertion_L5  (n9 + 1) h o0 o1 = fJ6_balanceInsertion_b5 (fJ6_balanceInsertion_L5 n9) h o0 o1 := by intros; rfl
theorem fJ6_treeify_L64_s (K4 : hS → Option Nat → Option Nat → Option Nat → Option (hS)) : ∀ n9 h o1 o2 o3 o4 a6 o7 o8, fJ6_treeify_L64 K4 (n9 + 1) h o1 o2 o3 o4 a6 o7 o8 = fJ6_treeify_b64 K4 (fJ6_treeify_L64 K4 n9) h o1 o2 o3 o4 a6 o7 o8 := by intros; rfl
theorem fJ6_treeify_L4_s  : ∀ n9 h o1 o2 o3, fJ6_treeify_L4  (n9 + 1) h o1 o2 o3 = fJ6_treeify_b4 (fJ6_treeify_L4 n9) h o1 o2 o3 := by intros; rfl
theorem fJ6_split_L25_s  : ∀ n9 h o1 o2 a3 a4 o6 o7 o8 o9 a10 a11 o12, fJ6_split_L25  (n9 + 1) h o1 o2 a3 a4 o6 o7 o8 o9 a10 a11 o12 = fJ6_split_b25 (fJ6_split_L25 n9) h o1 o2 a3 a4 o6 o7 o8 o9 a10 a11 o12 := by intros; rfl
theorem fJ1_resize_L235_s (K151 : hS → Option Nat → Option Nat → Int → Int → Option Nat → Int → Option (Option Nat × hS)) : ∀ n9 h o0 o1 a2 a4 o6 a7 o8 o9 o10 o11 o12, fJ1_resize_L235 K151 (n9 + 1) h o0 o1 a2 a4 o6 a7 o8 o9 o10 o11 o12 = fJ1_resize_b235 K151 (fJ1_resize_L235 K151 n9) h o0 o1 a2 a4 o6 a7 o8 o9 o10 o11 o12 := by intros; rfl
theorem fJ1_resize_L151_s  : ∀ n9 h o0 o1 a2 a4 o6 a7, fJ1_resize_L151  (n9 + 1) h o0 o1 a2 a4 o6 a7 = fJ1_resize_b151 (fJ1_resize_L151 n9) h o0 o1 a2 a4 o6 a7 := by intros; rfl
theorem fJ6_putTreeVal_L27_s  : ∀ n9 h o1 o2 a3 o4 o5 o6 o8 o9, fJ6_putTreeVal_L27  (n9 + 1) h o1 o2 a3 o4 o5 o6 o8 o9 = fJ6_putTreeVal_b27 (fJ6_putTreeVal_L27 n9) h o1 o2 a3 o4 o5 o6 o8 o9 := by intros; rfl
theorem fJ1_treeifyBin_L43_s  : ∀ n9 h o0 o1 a4 o5 o6 o7, fJ1_treeifyBin_L43  (n9 + 1) h o0 o1 a4 o5 o6 o7 = fJ1_treeifyBin_b43 (fJ1_treeifyBin_L43 n9) h o0 o1 a4 o5 o6 o7 := by intros; rfl
theorem fJ1_putVal_L134_s  : ∀ n9 h o0 a1 o2 o3 a4 a5 o6 o7 a12, fJ1_putVal_L134  (n9 + 1) h o0 a1 o2 o3 a4 a5 o6 o7 a12 = fJ1_putVal_b134 (fJ1_putVal_L134 n9) h o0 a1 o2 o3 a4 a5 o6 o7 a12 := by intros; rfl
theorem fJ1_clear_L33_s  : ∀ n9 h o1 a2, fJ1_clear_L33  (n9 + 1) h o1 a2 = fJ1_clear_b33 (fJ1_clear_L33 n9) h o1 a2 := by intros; rfl
theorem fX0_fault_L22_s  : ∀ n9 s a1, fX0_fault_L22  (n9 + 1) s a1 = fX0_fault_b22 (fX0_fault_L22 n9) s a1 := by intros; rfl
theorem fX0_layClasses_L112_s (K90 : Sg → Int → Option (Sg)) : ∀ n9 s a2 a3, fX0_layClasses_L112 K90 (n9 + 1) s a2 a3 = fX0_layClasses_b112 K90 (fX0_layClasses_L112 K90 n9) s a2 a3 := by intros; rfl
theorem fX0_layClasses_L90_s  : ∀ n9 s a2, fX0_layClasses_L90  (n9 + 1) s a2 = fX0_layClasses_b90 (fX0_layClasses_L90 n9) s a2 := by intros; rfl
theorem fX0_layClasses_L19_s  : ∀ n9 s a1 a2, fX0_layClasses_L19  (n9 + 1) s a1 a2 = fX0_layClasses_b19 (fX0_layClasses_L19 n9) s a1 a2 := by intros; rfl
theorem fX0_read_s : ∀ d9 s h, fX0_read  (d9 + 1) s h = fX0_read_B (fX0_read d9) s h := by intros; rfl
theorem fX0_layInstance_L78_s  : ∀ n9 s h a1 o3 a4, fX0_layInstance_L78  (n9 + 1) s h a1 o3 a4 = fX0_layInstance_b78 (fX0_layInstance_L78 n9) s h a1 o3 a4 := by intros; rfl
theorem fX0_rooted_L2_s  : ∀ n9 gs h o1 o2, fX0_rooted_L2  (n9 + 1) gs h o1 o2 = fX0_rooted_b2 (fX0_rooted_L2 n9) gs h o1 o2 := by intros; rfl
theorem fX0_isInside_s : ∀ d9 gs h a0 o1 a2 o3, fX0_isInside  (d9 + 1) gs h a0 o1 a2 o3 = fX0_isInside_B (fX0_isInside d9) gs h a0 o1 a2 o3 := by intros; rfl
theorem fX0_isMade_s : ∀ d9 gs h o0 a1 o2 a3 o4, fX0_isMade  (d9 + 1) gs h o0 a1 o2 a3 o4 = fX0_isMade_B (fX0_isMade d9) gs h o0 a1 o2 a3 o4 := by intros; rfl
theorem fX0_isFitting_s : ∀ d9 h o0 o1 o2, fX0_isFitting  (d9 + 1) h o0 o1 o2 = fX0_isFitting_B (fX0_isFitting d9) h o0 o1 o2 := by intros; rfl
theorem fX0_layPairs_L2_s  : ∀ n9 gs s h a1, fX0_layPairs_L2  (n9 + 1) gs s h a1 = fX0_layPairs_b2 (fX0_layPairs_L2 n9) gs s h a1 := by intros; rfl
theorem fX0_book_L120_s  : ∀ n9 gs pm s h a1, fX0_book_L120  (n9 + 1) gs pm s h a1 = fX0_book_b120 (fX0_book_L120 n9) gs pm s h a1 := by intros; rfl
theorem fX0_book_L68_s  : ∀ n9 gs pm s h a1, fX0_book_L68  (n9 + 1) gs pm s h a1 = fX0_book_b68 (fX0_book_L68 n9) gs pm s h a1 := by intros; rfl
theorem fX0_typed_L4_s  : ∀ n9 s a1 a2, fX0_typed_L4  (n9 + 1) s a1 a2 = fX0_typed_b4 (fX0_typed_L4 n9) s a1 a2 := by intros; rfl
theorem fX7_size_s : ∀ d9 h o0, fX7_size  (d9 + 1) h o0 = fX7_size_B (fX7_size d9) h o0 := by intros; rfl
theorem fX0_isAnyAlone_L4_s  : ∀ n9 s h a1 a2 a3, fX0_isAnyAlone_L4  (n9 + 1) s h a1 a2 a3 = fX0_isAnyAlone_b4 (fX0_isAnyAlone_L4 n9) s h a1 a2 a3 := by intros; rfl
theorem fX0_taken_L19_s (K2 : Sg → hS → Int → Int → Option (Option Nat)) : ∀ n9 s h a1 a2 a3 a4, fX0_taken_L19 K2 (n9 + 1) s h a1 a2 a3 a4 = fX0_taken_b19 K2 (fX0_taken_L19 K2 n9) s h a1 a2 a3 a4 := by intros; rfl
theorem fX0_taken_L2_s  : ∀ n9 s h a1 a2, fX0_taken_L2  (n9 + 1) s h a1 a2 = fX0_taken_b2 (fX0_taken_L2 n9) s h a1 a2 := by intros; rfl
theorem fX10_size_L4_s (R9 : hS → Option Nat → Option (Int)) : ∀ n9 h o0 a1 a2, fX10_size_L4 R9 (n9 + 1) h o0 a1 a2 = fX10_size_b4 R9 (fX10_size_L4 R9 n9) h o0 a1 a2 := by intros; rfl
theorem fX10_size_s : ∀ d9 h o0, fX10_size  (d9 + 1) h o0 = fX10_size_B (fX10_size d9) h o0 := by intros; rfl
theorem fX10_worth_L30_s (R9 : hS → Option Nat → Option (Int)) : ∀ n9 h o0 a1 a2, fX10_worth_L30 R9 (n9 + 1) h o0 a1 a2 = fX10_worth_b30 R9 (fX10_worth_L30 R9 n9) h o0 a1 a2 := by intros; rfl
theorem fX10_worth_s : ∀ d9 h o0, fX10_worth  (d9 + 1) h o0 = fX10_worth_B (fX10_worth d9) h o0 := by intros; rfl
theorem fX10_gather_L11_s (R9 : Option Nat × Option Nat → hS → Option Nat → Option Nat → Option (hS)) : ∀ n9 gs h o0 o1 a2, fX10_gather_L11 R9 (n9 + 1) gs h o0 o1 a2 = fX10_gather_b11 R9 (fX10_gather_L11 R9 n9) gs h o0 o1 a2 := by intros; rfl
theorem fX10_gather_s : ∀ d9 gs h o0 o1, fX10_gather  (d9 + 1) gs h o0 o1 = fX10_gather_B (fX10_gather d9) gs h o0 o1 := by intros; rfl
theorem fX10_depth_L4_s (R9 : hS → Option Nat → Option (Int)) : ∀ n9 h o0 a1 a2, fX10_depth_L4 R9 (n9 + 1) h o0 a1 a2 = fX10_depth_b4 R9 (fX10_depth_L4 R9 n9) h o0 a1 a2 := by intros; rfl
theorem fX10_depth_s : ∀ d9 h o0, fX10_depth  (d9 + 1) h o0 = fX10_depth_B (fX10_depth d9) h o0 := by intros; rfl
theorem fX10_needs_L26_s (R9 : hS → Option Nat → Option (Int)) : ∀ n9 h o0 a1 a2, fX10_needs_L26 R9 (n9 + 1) h o0 a1 a2 = fX10_needs_b26 R9 (fX10_needs_L26 R9 n9) h o0 a1 a2 := by intros; rfl
theorem fX10_needs_s : ∀ d9 h o0, fX10_needs  (d9 + 1) h o0 = fX10_needs_B (fX10_needs d9) h o0 := by intros; rfl
theorem fX0_plainOf_L24_s (K4 : Sg → Int → Int → Int → Option (Int)) : ∀ n9 s a1 a2 a3 a4 a5, fX0_plainOf_L24 K4 (n9 + 1) s a1 a2 a3 a4 a5 = fX0_plainOf_b24 K4 (fX0_plainOf_L24 K4 n9) s a1 a2 a3 a4 a5 := by intros; rfl
theorem fX0_plainOf_L4_s  : ∀ n9 s a1 a2 a3, fX0_plainOf_L4  (n9 + 1) s a1 a2 a3 = fX0_plainOf_b4 (fX0_plainOf_L4 n9) s a1 a2 a3 := by intros; rfl
theorem fX0_proved_L173_s (R9 : Option Nat → Sg → hS → Option Nat → Option (Option Nat × hS)) : ∀ n9 pm s h o1 o4 o5 o6 a7 a8, fX0_proved_L173 R9 (n9 + 1) pm s h o1 o4 o5 o6 a7 a8 = fX0_proved_b173 R9 (fX0_proved_L173 R9 n9) pm s h o1 o4 o5 o6 a7 a8 := by intros; rfl
theorem fX0_proved_L27_s (R9 : Option Nat → Sg → hS → Option Nat → Option (Option Nat × hS)) : ∀ n9 pm s h o1 a2 a3, fX0_proved_L27 R9 (n9 + 1) pm s h o1 a2 a3 = fX0_proved_b27 R9 (fX0_proved_L27 R9 n9) pm s h o1 a2 a3 := by intros; rfl
theorem fX0_prove_s : ∀ d9 pm s h o1, fX0_prove  (d9 + 1) pm s h o1 = fX0_prove_B (fX0_prove d9) pm s h o1 := by intros; rfl
theorem fX10_entry_L35_s (R9 : hS → Option Nat → Int → Option (Int)) : ∀ n9 h o0 a2 a3, fX10_entry_L35 R9 (n9 + 1) h o0 a2 a3 = fX10_entry_b35 R9 (fX10_entry_L35 R9 n9) h o0 a2 a3 := by intros; rfl
theorem fX10_entry_s : ∀ d9 h o0 a1, fX10_entry  (d9 + 1) h o0 a1 = fX10_entry_B (fX10_entry d9) h o0 a1 := by intros; rfl
theorem fX0_instancesOf_L4_s  : ∀ n9 s h a1 a2 a3, fX0_instancesOf_L4  (n9 + 1) s h a1 a2 a3 = fX0_instancesOf_b4 (fX0_instancesOf_L4 n9) s h a1 a2 a3 := by intros; rfl
theorem fX0_sortsBy_L4_s  : ∀ n9 s h a1 a2 a3, fX0_sortsBy_L4  (n9 + 1) s h a1 a2 a3 = fX0_sortsBy_b4 (fX0_sortsBy_L4 n9) s h a1 a2 a3 := by intros; rfl
theorem fX0_sortsOf_L5_s  : ∀ n9 s h a1 a2 a3, fX0_sortsOf_L5  (n9 + 1) s h a1 a2 a3 = fX0_sortsOf_b5 (fX0_sortsOf_L5 n9) s h a1 a2 a3 := by intros; rfl
theorem fX0_toAsk_L22_s  : ∀ n9 s h a2 a3 a4 a5 a6, fX0_toAsk_L22  (n9 + 1) s h a2 a3 a4 a5 a6 = fX0_toAsk_b22 (fX0_toAsk_L22 n9) s h a2 a3 a4 a5 a6 := by intros; rfl
theorem fX0_givenBy_L15_s (K4 : Sg → hS → Option Nat → Int → Int → Option (Int)) : ∀ n9 s h o1 a2 a3 a4, fX0_givenBy_L15 K4 (n9 + 1) s h o1 a2 a3 a4 = fX0_givenBy_b15 K4 (fX0_givenBy_L15 K4 n9) s h o1 a2 a3 a4 := by intros; rfl
theorem fX0_givenBy_L4_s  : ∀ n9 s h o1 a2 a3, fX0_givenBy_L4  (n9 + 1) s h o1 a2 a3 = fX0_givenBy_b4 (fX0_givenBy_L4 n9) s h o1 a2 a3 := by intros; rfl
theorem fX0_lackedBy_L11_s  : ∀ n9 pm s h o1 a2 a3 a4, fX0_lackedBy_L11  (n9 + 1) pm s h o1 a2 a3 a4 = fX0_lackedBy_b11 (fX0_lackedBy_L11 n9) pm s h o1 a2 a3 a4 := by intros; rfl
theorem fX0_drawType_s : ∀ d9 s h a1, fX0_drawType  (d9 + 1) s h a1 = fX0_drawType_B (fX0_drawType d9) s h a1 := by intros; rfl
theorem fX0_drawnBy_L14_s  : ∀ n9 pm s h a1 a3 a4 a5 a6, fX0_drawnBy_L14  (n9 + 1) pm s h a1 a3 a4 a5 a6 = fX0_drawnBy_b14 (fX0_drawnBy_L14 n9) pm s h a1 a3 a4 a5 a6 := by intros; rfl
theorem fX0_slotsUsed_L4_s  : ∀ n9 s a1 a2, fX0_slotsUsed_L4  (n9 + 1) s a1 a2 = fX0_slotsUsed_b4 (fX0_slotsUsed_L4 n9) s a1 a2 := by intros; rfl
theorem fX0_image_L12_s  : ∀ n9 s h a1, fX0_image_L12  (n9 + 1) s h a1 = fX0_image_b12 (fX0_image_L12 n9) s h a1 := by intros; rfl
theorem fX0_restore_L16_s  : ∀ n9 pm s h a1, fX0_restore_L16  (n9 + 1) pm s h a1 = fX0_restore_b16 (fX0_restore_L16 n9) pm s h a1 := by intros; rfl
theorem fX0_unsound_L4_s  : ∀ n9 s h a1 a2, fX0_unsound_L4  (n9 + 1) s h a1 a2 = fX0_unsound_b4 (fX0_unsound_L4 n9) s h a1 a2 := by intros; rfl
theorem fX0_pairsBy_L15_s (K4 : Sg → hS → Int → Int → Int → Option (Int)) : ∀ n9 s h a1 a2 a3 a4, fX0_pairsBy_L15 K4 (n9 + 1) s h a1 a2 a3 a4 = fX0_pairsBy_b15 K4 (fX0_pairsBy_L15 K4 n9) s h a1 a2 a3 a4 := by intros; rfl
theorem fX0_pairsBy_L4_s  : ∀ n9 s h a1 a2 a3, fX0_pairsBy_L4  (n9 + 1) s h a1 a2 a3 = fX0_pairsBy_b4 (fX0_pairsBy_L4 n9) s h a1 a2 a3 := by intros; rfl
theorem fX0_lackedAll_L4_s  : ∀ n9 pm s h a1 a2, fX0_lackedAll_L4  (n9 + 1) pm s h a1 a2 = fX0_lackedAll_b4 (fX0_lackedAll_L4 n9) pm s h a1 a2 := by intros; rfl
theorem fX0_differentTypes_L10_s  : ∀ n9 gs s h o1 a2, fX0_differentTypes_L10  (n9 + 1) gs s h o1 a2 = fX0_differentTypes_b10 (fX0_differentTypes_L10 n9) gs s h o1 a2 := by intros; rfl
theorem fX0_digest_L19_s (K9 : Option Nat × Option Nat → Option Nat → Sg → hS → Int → Option (Int × Sg × hS)) : ∀ n9 gs pm s h a1 a2, fX0_digest_L19 K9 (n9 + 1) gs pm s h a1 a2 = fX0_digest_b19 K9 (fX0_digest_L19 K9 n9) gs pm s h a1 a2 := by intros; rfl
theorem fX0_digest_L59_s (K49 : Option Nat × Option Nat → Option Nat → Sg → hS → Int → Option (Int × Sg × hS)) : ∀ n9 gs pm s h a1 a2, fX0_digest_L59 K49 (n9 + 1) gs pm s h a1 a2 = fX0_digest_b59 K49 (fX0_digest_L59 K49 n9) gs pm s h a1 a2 := by intros; rfl
theorem fX0_digest_L107_s (K95 : Option Nat × Option Nat → Option Nat → Sg → hS → Int → Option (Int × Sg × hS)) : ∀ n9 gs pm s h a1 a2, fX0_digest_L107 K95 (n9 + 1) gs pm s h a1 a2 = fX0_digest_b107 K95 (fX0_digest_L107 K95 n9) gs pm s h a1 a2 := by intros; rfl
theorem fX0_digest_L190_s  : ∀ n9 gs pm s h a1, fX0_digest_L190  (n9 + 1) gs pm s h a1 = fX0_digest_b190 (fX0_digest_L190 n9) gs pm s h a1 := by intros; rfl
theorem fX0_digest_L163_s  : ∀ n9 gs pm s h a1, fX0_digest_L163  (n9 + 1) gs pm s h a1 = fX0_digest_b163 (fX0_digest_L163 n9) gs pm s h a1 := by intros; rfl
theorem fX0_digest_L95_s  : ∀ n9 gs pm s h a1, fX0_digest_L95  (n9 + 1) gs pm s h a1 = fX0_digest_b95 (fX0_digest_L95 n9) gs pm s h a1 := by intros; rfl
theorem fX0_digest_L49_s  : ∀ n9 gs pm s h a1, fX0_digest_L49  (n9 + 1) gs pm s h a1 = fX0_digest_b49 (fX0_digest_L49 n9) gs pm s h a1 := by intros; rfl
theorem fX0_digest_L9_s  : ∀ n9 gs pm s h a1, fX0_digest_L9  (n9 + 1) gs pm s h a1 = fX0_digest_b9 (fX0_digest_L9 n9) gs pm s h a1 := by intros; rfl

set_option maxRecDepth 100000
/-! PURE: the model class, letters and types -/
theorem p6_within (a b c : Int) : fX6_within a b c = some (b01 (b ≤ a ∧ a ≤ c)) := by
  unfold fX6_within fX6_within_b14 fX6_within_b15 b01
  split
  · rw [gd_t (Or.inl rfl), if_neg (by omega)]
  · split
    · rw [gd_t (Or.inl rfl), if_neg (by omega)]
    · rw [gd_t (Or.inr rfl), if_pos (by omega)]
theorem p6_isIn {a k : Nat} (hk : k < 32) (ha : a < 2147483648) : fX6_isIn (a : Int) (k : Int) = some (b01 (a.testBit k = true)) := by
  unfold fX6_isIn fX6_isIn_b14 b01
  rw [p_bit hk ha]
  cases a.testBit k <;> simp [gd]
theorem okV {v : Nat} (h : v < 2) : v = 0 ∨ v = 1 := by omega
theorem FU_3 : ∃ n, FU = n + 1 + 1 + 1 := ⟨99997, rfl⟩
def arT : Tm → Int
  | .mulL _ _ => 1
  | .add _ _ => 2
  | _ => 0
theorem p6_wants (t : Tm) (h : okT t) : fX6_wants (sgT t) = some (arT t) := by
  unfold fX6_wants fX6_wants_b60
  cases t with
  | num c => rcases h with rfl | rfl <;> rfl
  | var v => simp only [okT] at h; rcases okV h with rfl | rfl <;> rfl
  | mulL k a => rfl
  | add a b => rfl
  | mulR a k => cases h
theorem p6_isVar (c : Int) : fX6_isVariable c = some (b01 (c = 120 ∨ c = 121)) := by
  unfold fX6_isVariable fX6_isVariable_b12 fX6_isVariable_b17 b01 gd
  split
  · simp_all
  · split <;> simp_all
theorem sg_var {t : Tm} (h : okT t) : (sgT t = 120 ∨ sgT t = 121) ↔ isV t = true := by
  cases t with
  | num c => rcases h with rfl | rfl <;> simp [sgT, isV]
  | var v => simp only [okT] at h; rcases okV h with rfl | rfl <;> simp [sgT, isV]
  | mulL k a => simp [sgT, isV]
  | add a b => simp [sgT, isV]
  | mulR a k => cases h
def ltr (t : Tm) (k : Nat) : Int := (flat t).getD k 0
theorem ltr_sub {t : Tm} {p k : Nat} (h : okT t) (hp : p < szT t) (hk : k < szT (sub t p)) : ltr t (p + k) = ltr (sub t p) k := by
  unfold ltr
  rw [List.getD_eq_getElem?_getD, List.getD_eq_getElem?_getD, sub_get h hp hk]
theorem ltr_sg {t : Tm} {p : Nat} (h : okT t) (hp : p < szT t) : ltr t p = sgT (sub t p) := by
  unfold ltr
  rw [List.getD_eq_getElem?_getD, sub_sg h hp]; rfl
theorem ltr_ext {t u : Tm} (h : okT t) (h' : okT u) (hs : szT t = szT u) (e : ∀ k, k < szT t → ltr t k = ltr u k) : t = u := by
  rw [← flat_eq h h']
  apply List.ext_getElem
  · rw [flat_len t h, flat_len u h', hs]
  · intro i h1 h2
    have := e i (by rw [← flat_len t h]; exact h1)
    unfold ltr at this
    rw [List.getD_eq_getElem?_getD, List.getD_eq_getElem?_getD, List.getElem?_eq_getElem h1, List.getElem?_eq_getElem h2] at this
    exact this
def NowT (s : Sg) (t : Tm) : Prop := gI s 34 = (szT t : Int) ∧ szT t ≤ 9 ∧ okT t ∧ ∀ p : Nat, p < szT t → gA s 32 (p : Int) = ltr t p
def Szs (s : Sg) (t : Tm) : Prop := ∀ p : Nat, p < szT t → gA s 33 (p : Int) = (szT (sub t p) : Int)
theorem NowT.keep {s s' : Sg} {t : Tm} {L : List Nat} (h : NowT s t) (hk : keepS L s s') (h1 : 32 ∉ L) (h2 : 34 ∉ L) : NowT s' t :=
  ⟨(hk.I h2).trans h.1, h.2.1, h.2.2.1, fun p hp => (hk.A h1 _).trans (h.2.2.2 p hp)⟩
theorem Szs.keep {s s' : Sg} {t : Tm} {L : List Nat} (h : Szs s t) (hk : keepS L s s') (h1 : 33 ∉ L) : Szs s' t := fun p hp => (hk.A h1 _).trans (h p hp)
theorem p6_laySizes_L {t : Tm} : ∀ (m n : Nat) (s : Sg), m < n → m ≤ szT t → NowT s t → (∀ p : Nat, m ≤ p → p < szT t → gA s 33 (p : Int) = (szT (sub t p) : Int)) →
    ∃ s', fX6_laySizes_L7 n s ((m : Int) - 1) = some s' ∧ keepS [33] s s' ∧ Szs s' t := by
  intro m
  induction m with
  | zero =>
    intro n s hn hm hN hS
    obtain ⟨n, rfl⟩ : ∃ k, n = k + 1 := ⟨n - 1, by omega⟩
    exact ⟨s, by simp [fX6_laySizes_L7, fX6_laySizes_b7], keepS.refl _ _, fun p hp => hS p (by omega) hp⟩
  | succ m ih =>
    intro n s hn hm hN hS
    obtain ⟨n, rfl⟩ : ∃ k, n = k + 1 := ⟨n - 1, by omega⟩
    have hok := hN.2.2.1
    have h9 := hN.2.1
    have hmt : m < szT t := by omega
    have hso := sub_ok t m hok hmt
    have hse := sub_end t m hok hmt
    have hlet : gA s 32 ((m : Int)) = sgT (sub t m) := by rw [hN.2.2.2 m hmt, ltr_sg hok hmt]
    have key : fX6_laySizes_L7 (n + 1) s (((m + 1 : Nat) : Int) - 1) = fX6_laySizes_L7 n (sA s 33 (m : Int) (szT (sub t m) : Int)) ((m : Int) - 1) := by
      have e1 : ((m + 1 : Nat) : Int) - 1 = (m : Int) := by omega
      obtain ⟨n0, hn0⟩ := FU_3
      rw [e1, fX6_laySizes_L7_s]
      unfold fX6_laySizes_b7
      rw [if_neg (by omega), hn0]
      simp only [fX6_laySizes_L17_s, fX6_laySizes_b17]
      rw [hlet, p6_wants _ hso, bd_s, wr_id (x := (m : Int) + 1) (by omega) (by omega), wr_id (x := (m : Int) + -1) (by omega) (by omega)]
      have e2 : (m : Int) + -1 = (m : Int) - 1 := by omega
      rw [e2]
      cases hc : sub t m with
      | num c =>
        simp (disch := omega) only [gd_t, if_pos, wr_id, szT, bd_s, arT]
        congr 2; omega
      | var c =>
        simp (disch := omega) only [gd_t, if_pos, wr_id, szT, bd_s, arT]
        congr 2; omega
      | mulL k a =>
        obtain ⟨q1, q2, q3⟩ := sub_l hok hmt hc
        have h1 := hS (m + 1) (by omega) q2
        rw [q1] at h1
        have e3 : ((m + 1 : Nat) : Int) = (m : Int) + 1 := by omega
        rw [e3] at h1
        rw [hc] at hse
        simp only [szT] at hse
        simp (disch := omega) only [gd_t, if_pos, if_neg, wr_id, szT, bd_s, arT, h1]
        congr 2; omega
      | add a b =>
        obtain ⟨q1, q2, q3, q4⟩ := sub_p hok hmt hc
        have h1 := hS (m + 1) (by omega) (by omega)
        have h2 := hS (m + 1 + szT a) (by omega) q3
        rw [q1] at h1
        rw [q2] at h2
        have e3 : ((m + 1 : Nat) : Int) = (m : Int) + 1 := by omega
        have e4 : ((m + 1 + szT a : Nat) : Int) = (m : Int) + 1 + (szT a : Int) := by omega
        rw [e3] at h1
        rw [e4] at h2
        rw [hc] at hse
        simp only [szT] at hse
        simp (disch := omega) only [gd_t, if_pos, if_neg, wr_id, szT, bd_s, arT, h1, h2]
        congr 2; omega
      | mulR a k => rw [hc] at hso; cases hso
    rw [key]
    obtain ⟨s', e, k1, k2⟩ := ih n (sA s 33 (m : Int) (szT (sub t m) : Int)) (by omega) (by omega) (hN.keep (keepS.sA (keepS.refl [33] s) (by decide) _ _) (by decide) (by decide)) (by
      intro p hp hpt
      rw [gA_sA]
      by_cases h : p = m
      · subst h; simp
      · rw [if_neg (by omega)]; exact hS p (by omega) hpt)
    exact ⟨s', e, (keepS.sA (keepS.refl [33] s) (by decide) _ _).trans k1, k2⟩
theorem p6_laySizes {s : Sg} {t : Tm} (h : NowT s t) : ∃ s', fX6_laySizes s = some s' ∧ keepS [33] s s' ∧ Szs s' t := by
  have h9 := h.2.1
  unfold fX6_laySizes
  rw [h.1, wr_id (by omega) (by omega)]
  exact p6_laySizes_L (szT t) FU s (by unfold FU; omega) (Nat.le_refl _) h (fun p h1 h2 => by omega)

