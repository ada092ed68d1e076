/-! the pure laws: K1 -/
set_option maxRecDepth 100000
/-! PURE: all types of so many letters, and their hashes (printed by pure/genk.py) -/
/-- mixing of a hash, on natural numbers -/
def mN (a b c : Nat) : Nat := (((a + 31 * b + 1009 * c) % 4294967296 * 2654435761) % 4294967296) ^^^ (((a + 31 * b + 1009 * c) % 4294967296) / 8192)
def mL (b : Nat) : Nat := mN 108 b 0
def mP (b c : Nat) : Nat := mN 112 b c
def hN : Tm → Nat
  | .num i => mN i 0 0
  | .var i => mN (120 + i) 0 0
  | .mulL _ t => mL (hN t)
  | .add t u => mP (hN t) (hN u)
  | .mulR _ _ => 0
def prT {α : Type} (f : α → α → α) (A B : List α) : List α := A.flatMap fun a => B.map (f a)

def kT1 : List Tm := [.num 105, .num 98, .var 0, .var 1]
def kL1 : List Nat := [mN 105 0 0, mN 98 0 0, mN 120 0 0, mN 121 0 0]
def kT2 : List Tm := kT1.map (.mulL 0)
def kL2 : List Nat := kL1.map mL
def kT3 : List Tm := kT2.map (.mulL 0) ++ prT .add kT1 kT1
def kL3 : List Nat := kL2.map mL ++ prT mP kL1 kL1
def kT4 : List Tm := kT3.map (.mulL 0) ++ prT .add kT1 kT2 ++ prT .add kT2 kT1
def kL4 : List Nat := kL3.map mL ++ prT mP kL1 kL2 ++ prT mP kL2 kL1
def kT5 : List Tm := kT4.map (.mulL 0) ++ prT .add kT1 kT3 ++ prT .add kT2 kT2 ++ prT .add kT3 kT1
def kL5 : List Nat := kL4.map mL ++ prT mP kL1 kL3 ++ prT mP kL2 kL2 ++ prT mP kL3 kL1
def kT6 : List Tm := kT5.map (.mulL 0) ++ prT .add kT1 kT4 ++ prT .add kT2 kT3 ++ prT .add kT3 kT2 ++ prT .add kT4 kT1
def kL6 : List Nat := kL5.map mL ++ prT mP kL1 kL4 ++ prT mP kL2 kL3 ++ prT mP kL3 kL2 ++ prT mP kL4 kL1
def kT7 : List Tm := kT6.map (.mulL 0) ++ prT .add kT1 kT5 ++ prT .add kT2 kT4 ++ prT .add kT3 kT3 ++ prT .add kT4 kT2 ++ prT .add kT5 kT1
def kL7 : List Nat := kL6.map mL ++ prT mP kL1 kL5 ++ prT mP kL2 kL4 ++ prT mP kL3 kL3 ++ prT mP kL4 kL2 ++ prT mP kL5 kL1
def kT8 : List Tm := kT7.map (.mulL 0) ++ prT .add kT1 kT6 ++ prT .add kT2 kT5 ++ prT .add kT3 kT4 ++ prT .add kT4 kT3 ++ prT .add kT5 kT2 ++ prT .add kT6 kT1
def kL8 : List Nat := kL7.map mL ++ prT mP kL1 kL6 ++ prT mP kL2 kL5 ++ prT mP kL3 kL4 ++ prT mP kL4 kL3 ++ prT mP kL5 kL2 ++ prT mP kL6 kL1
def kT9 : List Tm := kT8.map (.mulL 0) ++ prT .add kT1 kT7 ++ prT .add kT2 kT6 ++ prT .add kT3 kT5 ++ prT .add kT4 kT4 ++ prT .add kT5 kT3 ++ prT .add kT6 kT2 ++ prT .add kT7 kT1
theorem prT_map {A B : List Tm} : (prT .add A B).map hN = prT mP (A.map hN) (B.map hN) := by
  unfold prT
  rw [List.map_flatMap, List.flatMap_map]
  congr 1
  funext a
  rw [List.map_map, List.map_map]
  rfl
theorem mLm {A : List Tm} : (A.map (.mulL 0)).map hN = (A.map hN).map mL := by
  rw [List.map_map, List.map_map]
  rfl
theorem kh1 : kT1.map hN = kL1 := rfl
theorem kh2 : kT2.map hN = kL2 := by
  unfold kT2 kL2
  simp only [List.map_append, mLm, prT_map, kh1]
theorem kh3 : kT3.map hN = kL3 := by
  unfold kT3 kL3
  simp only [List.map_append, mLm, prT_map, kh1, kh2]
theorem kh4 : kT4.map hN = kL4 := by
  unfold kT4 kL4
  simp only [List.map_append, mLm, prT_map, kh1, kh2, kh3]
theorem kh5 : kT5.map hN = kL5 := by
  unfold kT5 kL5
  simp only [List.map_append, mLm, prT_map, kh1, kh2, kh3, kh4]
theorem kh6 : kT6.map hN = kL6 := by
  unfold kT6 kL6
  simp only [List.map_append, mLm, prT_map, kh1, kh2, kh3, kh4, kh5]
theorem kh7 : kT7.map hN = kL7 := by
  unfold kT7 kL7
  simp only [List.map_append, mLm, prT_map, kh1, kh2, kh3, kh4, kh5, kh6]
theorem kh8 : kT8.map hN = kL8 := by
  unfold kT8 kL8
  simp only [List.map_append, mLm, prT_map, kh1, kh2, kh3, kh4, kh5, kh6, kh7]
theorem prT_mem {A B : List Tm} {a b : Tm} (ha : a ∈ A) (hb : b ∈ B) : Nat.Internal.Linear.Expr.add a b ∈ prT Nat.Internal.Linear.Expr.add A B := List.mem_flatMap.mpr ⟨a, ha, List.mem_map.mpr ⟨b, hb, rfl⟩⟩
theorem km1 {t : Tm} (o : okT t) (z : szT t = 1) : t ∈ kT1 := by
  cases t with
  | num c => rcases o with rfl | rfl <;> simp [kT1]
  | var v =>
    have hv : @LT.lt Nat instLTNat v 2 := o
    rcases okV hv with rfl | rfl <;> simp [kT1]
  | mulL k a => simp only [szT] at z; have := szT_pos a; omega
  | add a b => simp only [szT] at z; have := szT_pos a; omega
  | mulR a k => exact o.elim
theorem km2 {t : Tm} (o : okT t) (z : szT t = 2) : t ∈ kT2 := by
  unfold kT2
  cases t with
  | num c => simp only [szT] at z; omega
  | var v => simp only [szT] at z; omega
  | mulR a k => exact o.elim
  | mulL k a =>
    simp only [szT] at z
    obtain ⟨rfl, oa⟩ := o
    have m := km1 oa (by omega)
    exact List.mem_map.mpr ⟨a, m, rfl⟩
  | add a b =>
    simp only [szT] at z
    have pa := szT_pos a
    have pb := szT_pos b
    omega
theorem km3 {t : Tm} (o : okT t) (z : szT t = 3) : t ∈ kT3 := by
  unfold kT3
  cases t with
  | num c => simp only [szT] at z; omega
  | var v => simp only [szT] at z; omega
  | mulR a k => exact o.elim
  | mulL k a =>
    simp only [szT] at z
    obtain ⟨rfl, oa⟩ := o
    have m := km2 oa (by omega)
    simp only [List.mem_append]
    exact Or.inl (List.mem_map.mpr ⟨a, m, rfl⟩)
  | add a b =>
    simp only [szT] at z
    have pa := szT_pos a
    have pb := szT_pos b
    have : (szT a = 1 ∧ szT b = 1) := by omega
    simp only [List.mem_append]
    rcases this with ⟨h1, h2⟩
    · exact Or.inr (prT_mem (km1 o.1 h1) (km1 o.2 h2))
theorem km4 {t : Tm} (o : okT t) (z : szT t = 4) : t ∈ kT4 := by
  unfold kT4
  cases t with
  | num c => simp only [szT] at z; omega
  | var v => simp only [szT] at z; omega
  | mulR a k => exact o.elim
  | mulL k a =>
    simp only [szT] at z
    obtain ⟨rfl, oa⟩ := o
    have m := km3 oa (by omega)
    simp only [List.mem_append]
    exact Or.inl (Or.inl (List.mem_map.mpr ⟨a, m, rfl⟩))
  | add a b =>
    simp only [szT] at z
    have pa := szT_pos a
    have pb := szT_pos b
    have : (szT a = 1 ∧ szT b = 2) ∨ (szT a = 2 ∧ szT b = 1) := by omega
    simp only [List.mem_append]
    rcases this with ⟨h1, h2⟩ | ⟨h1, h2⟩
    · exact Or.inl (Or.inr (prT_mem (km1 o.1 h1) (km2 o.2 h2)))
    · exact Or.inr (prT_mem (km2 o.1 h1) (km1 o.2 h2))
theorem km5 {t : Tm} (o : okT t) (z : szT t = 5) : t ∈ kT5 := by
  unfold kT5
  cases t with
  | num c => simp only [szT] at z; omega
  | var v => simp only [szT] at z; omega
  | mulR a k => exact o.elim
  | mulL k a =>
    simp only [szT] at z
    obtain ⟨rfl, oa⟩ := o
    have m := km4 oa (by omega)
    simp only [List.mem_append]
    exact Or.inl (Or.inl (Or.inl (List.mem_map.mpr ⟨a, m, rfl⟩)))
  | add a b =>
    simp only [szT] at z
    have pa := szT_pos a
    have pb := szT_pos b
    have : (szT a = 1 ∧ szT b = 3) ∨ (szT a = 2 ∧ szT b = 2) ∨ (szT a = 3 ∧ szT b = 1) := by omega
    simp only [List.mem_append]
    rcases this with ⟨h1, h2⟩ | ⟨h1, h2⟩ | ⟨h1, h2⟩
    · exact Or.inl (Or.inl (Or.inr (prT_mem (km1 o.1 h1) (km3 o.2 h2))))
    · exact Or.inl (Or.inr (prT_mem (km2 o.1 h1) (km2 o.2 h2)))
    · exact Or.inr (prT_mem (km3 o.1 h1) (km1 o.2 h2))
theorem km6 {t : Tm} (o : okT t) (z : szT t = 6) : t ∈ kT6 := by
  unfold kT6
  cases t with
  | num c => simp only [szT] at z; omega
  | var v => simp only [szT] at z; omega
  | mulR a k => exact o.elim
  | mulL k a =>
    simp only [szT] at z
    obtain ⟨rfl, oa⟩ := o
    have m := km5 oa (by omega)
    simp only [List.mem_append]
    exact Or.inl (Or.inl (Or.inl (Or.inl (List.mem_map.mpr ⟨a, m, rfl⟩))))
  | add a b =>
    simp only [szT] at z
    have pa := szT_pos a
    have pb := szT_pos b
    have : (szT a = 1 ∧ szT b = 4) ∨ (szT a = 2 ∧ szT b = 3) ∨ (szT a = 3 ∧ szT b = 2) ∨ (szT a = 4 ∧ szT b = 1) := by omega
    simp only [List.mem_append]
    rcases this with ⟨h1, h2⟩ | ⟨h1, h2⟩ | ⟨h1, h2⟩ | ⟨h1, h2⟩
    · exact Or.inl (Or.inl (Or.inl (Or.inr (prT_mem (km1 o.1 h1) (km4 o.2 h2)))))
    · exact Or.inl (Or.inl (Or.inr (prT_mem (km2 o.1 h1) (km3 o.2 h2))))
    · exact Or.inl (Or.inr (prT_mem (km3 o.1 h1) (km2 o.2 h2)))
    · exact Or.inr (prT_mem (km4 o.1 h1) (km1 o.2 h2))
theorem km7 {t : Tm} (o : okT t) (z : szT t = 7) : t ∈ kT7 := by
  unfold kT7
  cases t with
  | num c => simp only [szT] at z; omega
  | var v => simp only [szT] at z; omega
  | mulR a k => exact o.elim
  | mulL k a =>
    simp only [szT] at z
    obtain ⟨rfl, oa⟩ := o
    have m := km6 oa (by omega)
    simp only [List.mem_append]
    exact Or.inl (Or.inl (Or.inl (Or.inl (Or.inl (List.mem_map.mpr ⟨a, m, rfl⟩)))))
  | add a b =>
    simp only [szT] at z
    have pa := szT_pos a
    have pb := szT_pos b
    have : (szT a = 1 ∧ szT b = 5) ∨ (szT a = 2 ∧ szT b = 4) ∨ (szT a = 3 ∧ szT b = 3) ∨ (szT a = 4 ∧ szT b = 2) ∨ (szT a = 5 ∧ szT b = 1) := by omega
    simp only [List.mem_append]
    rcases this with ⟨h1, h2⟩ | ⟨h1, h2⟩ | ⟨h1, h2⟩ | ⟨h1, h2⟩ | ⟨h1, h2⟩
    · exact Or.inl (Or.inl (Or.inl (Or.inl (Or.inr (prT_mem (km1 o.1 h1) (km5 o.2 h2))))))
    · exact Or.inl (Or.inl (Or.inl (Or.inr (prT_mem (km2 o.1 h1) (km4 o.2 h2)))))
    · exact Or.inl (Or.inl (Or.inr (prT_mem (km3 o.1 h1) (km3 o.2 h2))))
    · exact Or.inl (Or.inr (prT_mem (km4 o.1 h1) (km2 o.2 h2)))
    · exact Or.inr (prT_mem (km5 o.1 h1) (km1 o.2 h2))
theorem km8 {t : Tm} (o : okT t) (z : szT t = 8) : t ∈ kT8 := by
  unfold kT8
  cases t with
  | num c => simp only [szT] at z; omega
  | var v => simp only [szT] at z; omega
  | mulR a k => exact o.elim
  | mulL k a =>
    simp only [szT] at z
    obtain ⟨rfl, oa⟩ := o
    have m := km7 oa (by omega)
    simp only [List.mem_append]
    exact Or.inl (Or.inl (Or.inl (Or.inl (Or.inl (Or.inl (List.mem_map.mpr ⟨a, m, rfl⟩))))))
  | add a b =>
    simp only [szT] at z
    have pa := szT_pos a
    have pb := szT_pos b
    have : (szT a = 1 ∧ szT b = 6) ∨ (szT a = 2 ∧ szT b = 5) ∨ (szT a = 3 ∧ szT b = 4) ∨ (szT a = 4 ∧ szT b = 3) ∨ (szT a = 5 ∧ szT b = 2) ∨ (szT a = 6 ∧ szT b = 1) := by omega
    simp only [List.mem_append]
    rcases this with ⟨h1, h2⟩ | ⟨h1, h2⟩ | ⟨h1, h2⟩ | ⟨h1, h2⟩ | ⟨h1, h2⟩ | ⟨h1, h2⟩
    · exact Or.inl (Or.inl (Or.inl (Or.inl (Or.inl (Or.inr (prT_mem (km1 o.1 h1) (km6 o.2 h2)))))))
    · exact Or.inl (Or.inl (Or.inl (Or.inl (Or.inr (prT_mem (km2 o.1 h1) (km5 o.2 h2))))))
    · exact Or.inl (Or.inl (Or.inl (Or.inr (prT_mem (km3 o.1 h1) (km4 o.2 h2)))))
    · exact Or.inl (Or.inl (Or.inr (prT_mem (km4 o.1 h1) (km3 o.2 h2))))
    · exact Or.inl (Or.inr (prT_mem (km5 o.1 h1) (km2 o.2 h2)))
    · exact Or.inr (prT_mem (km6 o.1 h1) (km1 o.2 h2))
theorem km9 {t : Tm} (o : okT t) (z : szT t = 9) : t ∈ kT9 := by
  unfold kT9
  cases t with
  | num c => simp only [szT] at z; omega
  | var v => simp only [szT] at z; omega
  | mulR a k => exact o.elim
  | mulL k a =>
    simp only [szT] at z
    obtain ⟨rfl, oa⟩ := o
    have m := km8 oa (by omega)
    simp only [List.mem_append]
    exact Or.inl (Or.inl (Or.inl (Or.inl (Or.inl (Or.inl (Or.inl (List.mem_map.mpr ⟨a, m, rfl⟩)))))))
  | add a b =>
    simp only [szT] at z
    have pa := szT_pos a
    have pb := szT_pos b
    have : (szT a = 1 ∧ szT b = 7) ∨ (szT a = 2 ∧ szT b = 6) ∨ (szT a = 3 ∧ szT b = 5) ∨ (szT a = 4 ∧ szT b = 4) ∨ (szT a = 5 ∧ szT b = 3) ∨ (szT a = 6 ∧ szT b = 2) ∨ (szT a = 7 ∧ szT b = 1) := by omega
    simp only [List.mem_append]
    rcases this with ⟨h1, h2⟩ | ⟨h1, h2⟩ | ⟨h1, h2⟩ | ⟨h1, h2⟩ | ⟨h1, h2⟩ | ⟨h1, h2⟩ | ⟨h1, h2⟩
    · exact Or.inl (Or.inl (Or.inl (Or.inl (Or.inl (Or.inl (Or.inr (prT_mem (km1 o.1 h1) (km7 o.2 h2))))))))
    · exact Or.inl (Or.inl (Or.inl (Or.inl (Or.inl (Or.inr (prT_mem (km2 o.1 h1) (km6 o.2 h2)))))))
    · exact Or.inl (Or.inl (Or.inl (Or.inl (Or.inr (prT_mem (km3 o.1 h1) (km5 o.2 h2))))))
    · exact Or.inl (Or.inl (Or.inl (Or.inr (prT_mem (km4 o.1 h1) (km4 o.2 h2)))))
    · exact Or.inl (Or.inl (Or.inr (prT_mem (km5 o.1 h1) (km3 o.2 h2))))
    · exact Or.inl (Or.inr (prT_mem (km6 o.1 h1) (km2 o.2 h2)))
    · exact Or.inr (prT_mem (km7 o.1 h1) (km1 o.2 h2))

