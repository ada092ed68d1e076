/-! the pure laws: C6 -/
set_option maxRecDepth 100000
/-! PURE: every two heads of five letters are looked at to the end -/
/-- as mkN, with less to look inside -/
def mkG (fi : Nat) : Nat → Bn → Nd → Nd → Option (Option Bn)
  | 0, _, _, _ => none
  | f + 1, b, x, y => match rootN b 6 x, rootN b 6 y with
    | some x, some y => match nmN x, nmN y with
      | some v, some w => bif Nat.beq v w then some (some b) else (match insN b v fi y with
        | none => none
        | some true => some none
        | some false => some (some (bnU b v y)))
      | some v, none => (match insN b v fi y with
        | none => none
        | some true => some none
        | some false => some (some (bnU b v y)))
      | none, some w => (match insN b w fi x with
        | none => none
        | some true => some none
        | some false => some (some (bnU b w x)))
      | none, none => match x.1, y.1 with
        | .num c, .num d => bif Nat.beq c d then some (some b) else some none
        | .mulL _ a, .mulL _ c => mkG fi f b (a, x.2) (c, y.2)
        | .add a1 a2, .add c1 c2 => match mkG fi f b (a1, x.2) (c1, y.2) with
          | none => none
          | some none => some none
          | some (some b') => mkG fi f b' (a2, x.2) (c2, y.2)
        | _, _ => some none
    | _, _ => none
def mkOK2 (h g : Tm) : Bool := (mkG 5 5 bn0 (h, 0) (g, 2)).isSome
theorem insN_le (b : Bn) (v : Nat) : ∀ (f f' : Nat) (x : Nd) (r : Bool), f ≤ f' → insN b v f x = some r → insN b v f' x = some r := by
  intro f
  induction f with
  | zero => intro f' x r _ h; cases h
  | succ f ih =>
    intro f' x r hf h
    obtain ⟨f', rfl⟩ : ∃ k, f' = k + 1 := ⟨f' - 1, by omega⟩
    simp only [insN] at h ⊢
    cases e0 : rootN b 6 x with
    | none => rw [e0] at h; cases (show none = some r from h)
    | some y =>
      rw [e0] at h
      obtain ⟨y, n⟩ := y
      cases y with
      | num c => exact h
      | var w => exact h
      | mulR t k => exact h
      | mulL k a => exact ih f' _ _ (by omega) h
      | add a c =>
        simp only at h ⊢
        cases e1 : insN b v f (a, n) with
        | none => rw [e1] at h; cases (show none = some r from h)
        | some p =>
          cases e2 : insN b v f (c, n) with
          | none => rw [e1, e2] at h; cases (show none = some r from h)
          | some q =>
            rw [e1, e2] at h
            rw [ih f' _ _ (by omega) e1, ih f' _ _ (by omega) e2]
            exact h
theorem mkG_mkN (fi : Nat) (hfi : fi ≤ 8) : ∀ (f f' : Nat) (b : Bn) (x y : Nd) (r : Option Bn), f ≤ f' → mkG fi f b x y = some r → mkN f' b x y = some r := by
  intro f
  induction f with
  | zero => intro f' b x y r _ h; cases h
  | succ f ih =>
    intro f' b x y r hf h
    obtain ⟨f', rfl⟩ : ∃ k, f' = k + 1 := ⟨f' - 1, by omega⟩
    have bnd : ∀ (v : Nat) (z : Nd), (match insN b v fi z with
        | none => none
        | some true => some none
        | some false => some (some (bnU b v z))) = some r → (match insN b v 8 z with
        | none => none
        | some true => some none
        | some false => some (some (bnU b v z))) = some r := by
      intro v z hz
      cases e : insN b v fi z with
      | none => rw [e] at hz; cases (show none = some r from hz)
      | some q => rw [insN_le b v fi 8 z q hfi e]; rw [e] at hz; exact hz
    simp only [mkG] at h
    simp only [mkN]
    cases ex : rootN b 6 x with
    | none => rw [ex] at h; cases (show none = some r from h)
    | some x =>
      cases ey : rootN b 6 y with
      | none => rw [ex, ey] at h; cases (show none = some r from h)
      | some y =>
        rw [ex, ey] at h
        simp only at h ⊢
        cases e1 : nmN x with
        | some v =>
          rw [e1] at h
          cases e2 : nmN y with
          | some w =>
            rw [e2] at h
            simp only at h ⊢
            cases e3 : Nat.beq v w with
            | true => rw [e3] at h; exact h
            | false => rw [e3] at h; exact bnd v y h
          | none => rw [e2] at h; exact bnd v y h
        | none =>
          rw [e1] at h
          cases e2 : nmN y with
          | some w => rw [e2] at h; exact bnd w x h
          | none =>
            rw [e2] at h
            simp only at h ⊢
            obtain ⟨x, n⟩ := x
            obtain ⟨y, m⟩ := y
            simp only at h ⊢
            cases x <;> cases y <;> simp only at h ⊢ <;> first | exact h | exact ih f' b _ _ r (by omega) h | skip
            rename_i a1 a2 c1 c2
            cases e4 : mkG fi f b (a1, n) (c1, m) with
            | none => rw [e4] at h; cases (show none = some r from h)
            | some z =>
              rw [ih f' b _ _ z (by omega) e4]
              rw [e4] at h
              cases z with
              | none => exact h
              | some b' => exact ih f' b' _ _ r (by omega) h
theorem mk_0 : (((allH 5).drop 0).take 22).all (fun h => (allH 5).all fun g => mkOK2 h g) = true := by decide +kernel
theorem mk_1 : (((allH 5).drop 22).take 22).all (fun h => (allH 5).all fun g => mkOK2 h g) = true := by decide +kernel
theorem mk_2 : (((allH 5).drop 44).take 22).all (fun h => (allH 5).all fun g => mkOK2 h g) = true := by decide +kernel
theorem mk_3 : (((allH 5).drop 66).take 22).all (fun h => (allH 5).all fun g => mkOK2 h g) = true := by decide +kernel
theorem mk_4 : (((allH 5).drop 88).take 22).all (fun h => (allH 5).all fun g => mkOK2 h g) = true := by decide +kernel
theorem mk_5 : (((allH 5).drop 110).take 22).all (fun h => (allH 5).all fun g => mkOK2 h g) = true := by decide +kernel
theorem mk_6 : (((allH 5).drop 132).take 22).all (fun h => (allH 5).all fun g => mkOK2 h g) = true := by decide +kernel
theorem mk_7 : (((allH 5).drop 154).take 22).all (fun h => (allH 5).all fun g => mkOK2 h g) = true := by decide +kernel
theorem mk_8 : (((allH 5).drop 176).take 22).all (fun h => (allH 5).all fun g => mkOK2 h g) = true := by decide +kernel
theorem mk_9 : (((allH 5).drop 198).take 22).all (fun h => (allH 5).all fun g => mkOK2 h g) = true := by decide +kernel
theorem mk_10 : (((allH 5).drop 220).take 22).all (fun h => (allH 5).all fun g => mkOK2 h g) = true := by decide +kernel
theorem mk_11 : (((allH 5).drop 242).take 22).all (fun h => (allH 5).all fun g => mkOK2 h g) = true := by decide +kernel
theorem mk_12 : (((allH 5).drop 264).take 22).all (fun h => (allH 5).all fun g => mkOK2 h g) = true := by decide +kernel
theorem mk_13 : (((allH 5).drop 286).take 22).all (fun h => (allH 5).all fun g => mkOK2 h g) = true := by decide +kernel
theorem take_all {α : Type} {P : α → Bool} {l : List α} {n : Nat} (h1 : (l.take n).all P = true) (h2 : (l.drop n).all P = true) : l.all P = true := by
  rw [← List.take_append_drop n l, List.all_append, h1, h2]; rfl
theorem mk_all : ((allH 5).all fun h => (allH 5).all fun g => mkOK2 h g) = true := by
  refine take_all (n := 22) mk_0 ?_
  refine take_all (n := 22) (mk_1) ?_
  rw [List.drop_drop]
  refine take_all (n := 22) (mk_2) ?_
  rw [List.drop_drop]
  refine take_all (n := 22) (mk_3) ?_
  rw [List.drop_drop]
  refine take_all (n := 22) (mk_4) ?_
  rw [List.drop_drop]
  refine take_all (n := 22) (mk_5) ?_
  rw [List.drop_drop]
  refine take_all (n := 22) (mk_6) ?_
  rw [List.drop_drop]
  refine take_all (n := 22) (mk_7) ?_
  rw [List.drop_drop]
  refine take_all (n := 22) (mk_8) ?_
  rw [List.drop_drop]
  refine take_all (n := 22) (mk_9) ?_
  rw [List.drop_drop]
  refine take_all (n := 22) (mk_10) ?_
  rw [List.drop_drop]
  refine take_all (n := 22) (mk_11) ?_
  rw [List.drop_drop]
  refine take_all (n := 22) (mk_12) ?_
  rw [List.drop_drop]
  refine take_all (n := 22) (mk_13) ?_
  rw [List.drop_drop]
  have : (List.drop (22 * 14) (allH 5)) = [] := by decide +kernel
  exact (congrArg (fun l => l.all fun h => (allH 5).all fun g => mkOK2 h g) this).trans rfl
theorem allH_s (n : Nat) : allH (n + 2) = [.num 105, .num 98, .var 0, .var 1] ++ (allH (n + 1)).map (.mulL 0) ++ (allH n).flatMap fun a => ((allH n).filter fun c => Nat.ble (szT a + szT c) (n + 1)).map (.add a) := rfl
theorem allH_leaf {n : Nat} {t : Tm} (h : t ∈ ([.num 105, .num 98, .var 0, .var 1] : List Tm)) : t ∈ allH (n + 1) := by
  cases n with
  | zero => exact h
  | succ n => rw [allH_s]; exact List.mem_append_left _ (List.mem_append_left _ h)
theorem allH_mem : ∀ (n : Nat) (t : Tm), okT t → szT t ≤ n → t ∈ allH n := by
  intro n
  induction n using Nat.strongRecOn with
  | _ n ih =>
    intro t ht hz
    have hp := szT_pos t
    obtain ⟨n, rfl⟩ : ∃ k, n = k + 1 := ⟨n - 1, by omega⟩
    cases t with
    | num c => rcases ht with rfl | rfl <;> exact allH_leaf (by simp)
    | var v =>
      have hv : (v : Nat) < 2 := ht
      rcases okV hv with rfl | rfl <;> exact allH_leaf (by simp)
    | mulR a k => cases ht
    | mulL k a =>
      obtain ⟨rfl, ha⟩ := ht
      simp only [szT] at hz
      have pa := szT_pos a
      obtain ⟨m, rfl⟩ : ∃ k, n = k + 1 := ⟨n - 1, by omega⟩
      rw [allH_s]
      exact List.mem_append_left _ (List.mem_append_right _ (List.mem_map.mpr ⟨a, ih (m + 1) (by omega) a ha (by omega), rfl⟩))
    | add a c =>
      obtain ⟨ha, hc⟩ := ht
      simp only [szT] at hz
      have pa := szT_pos a
      have pc := szT_pos c
      obtain ⟨m, rfl⟩ : ∃ k, n = k + 1 := ⟨n - 1, by omega⟩
      rw [allH_s]
      refine List.mem_append_right _ (List.mem_flatMap.mpr ⟨a, ih m (by omega) a ha (by omega), List.mem_map.mpr ⟨c, List.mem_filter.mpr ⟨ih m (by omega) c hc (by omega), ?_⟩, rfl⟩⟩)
      exact Nat.ble_eq_true_of_le (by omega)
theorem mk_some2 {h g : Tm} (oh : okT h) (og : okT g) (zh : szT h ≤ 5) (zg : szT g ≤ 5) : ∃ r, mkG 5 5 bn0 (h, 0) (g, 2) = some r := by
  have h1 := List.all_eq_true.mp mk_all h (allH_mem 5 h oh zh)
  have h2 := List.all_eq_true.mp h1 g (allH_mem 5 g og zg)
  exact Option.isSome_iff_exists.mp h2
theorem mk_some {h g : Tm} (oh : okT h) (og : okT g) (zh : szT h ≤ 5) (zg : szT g ≤ 5) : ∃ r, mkN 6 bn0 (h, 0) (g, 2) = some r := by
  obtain ⟨r, e⟩ := mk_some2 oh og zh zg
  exact ⟨r, mkG_mkN 5 (by omega) 5 6 bn0 _ _ r (by omega) e⟩

