/-! BASE 5: fields and arrays, at the heap -/
set_option maxRecDepth 100000
def opL (t : Nat) (op : Instr) : Prop := match t with
  | 0 => op = .iaload
  | _ => op = .baload
def opS (t : Nat) (op : Instr) : Prop := match t with
  | 0 => op = .iastore
  | _ => op = .bastore
/-- what an int array of a type takes -/
def sOK (t : Nat) (v : Int) : Prop := match t with
  | 0 => rI v
  | 1 => v = 0 ∨ v = 1
  | _ => -128 ≤ v ∧ v ≤ 127
section RW
variable {M : Mx} {cc : ByteArray} {own : String} {fR lO : Nat} {σs : List Sg} {st : hS} {pc : Nat} {lv : List (Nat × Tv)} {stk : List Tv}
variable {H : Heap} {locs : List Loc} {cells slots : Nat} {ls : Array Slot} {rest : List Value}
theorem Wg_get (C : Cx M cc own fR lO) {ci N index : Nat} {Cn ref : String} {T : u_T} (hc : clA[ci]? = some (Cn, T, N)) (hin : ∀ w ∈ u_ws Cn T N, w ∈ lw_all) (k : Nat) (hk : k < N)
    (hlink : Cond.fieldLink own index ref (T k).2.1 (T k).2.2.1 ∈ lw_all) (hsame : ∀ x, (ks (mK M)).fieldFound? (T k).1 (T k).2.1 (T k).2.2.1 = some x → (ks (mK M)).fieldFound? ref (T k).2.1 (T k).2.2.1 = some x)
    {b c9 : Nat} {V : Nat → Value} (ho : t_OBc c9 b ((gD (mG M)).1 ci) N ((gD (mG M)).2 ci) H V) (hd : decode cc pc = .ok (.getfield index, 3))
    (kk : WK (mK M) H locs cells slots (mQ M) (F0 (km (mK M)) (pc + 3) ls (V k :: rest))) : WK (mK M) H locs cells slots (mQ M) (F0 (km (mK M)) pc ls (.ref b :: rest)) := by
  obtain ⟨cell, q1, q2, q3, -, -, q4⟩ := ho
  obtain ⟨hS, hfc, kC, hkC, hkind⟩ := C.k.1 ci _ hc
  obtain ⟨cf, kf, fi, f, hi, hsl⟩ := hS k hk
  exact W.getf C.x C.b C.o (C.ts _ hlink) (hsame _ hi) (u_facts hfc hkC (u_lays C.ts hin hk) hi).1 q1 q3 (v := V k) (by rw [hsl, q4 k hk]) rfl rfl hd kk
theorem Wg_put (C : Cx M cc own fR lO) {ci N index : Nat} {Cn ref : String} {T : u_T} (hc : clA[ci]? = some (Cn, T, N)) (hin : ∀ w ∈ u_ws Cn T N, w ∈ lw_all) (ty0 : Nat → FieldType) (hty : ∀ k, k < N → parseFieldDescriptor (T k).2.2.1 = some (ty0 k)) (hnm : ∀ a, a < N → ∀ b, b < N → a ≠ b → (T a).2.1 ≠ (T b).2.1) (k : Nat) (hk : k < N)
    (hlink : Cond.fieldLink own index ref (T k).2.1 (T k).2.2.1 ∈ lw_all) (hsame : ∀ x, (ks (mK M)).fieldFound? (T k).1 (T k).2.1 (T k).2.2.1 = some x → (ks (mK M)).fieldFound? ref (T k).2.1 (T k).2.2.1 = some x)
    (hfin : (T k).2.2.2 = false ∨ (T k).2.2.2 = true ∧ (kme (mK M)).name = "<init>" ∧ (T k).1 = own) {v : Value} (hn : narrow (ty0 k) v = v) (hfit : fits (ty0 k) v = true)
    {b : Nat} {V : Nat → Value} (ho : t_OB b ((gD (mG M)).1 ci) N ((gD (mG M)).2 ci) H V) (hd : decode cc pc = .ok (.putfield index, 3))
    (kk : ∀ (H' : Heap) (x : Nat), t_OB b ((gD (mG M)).1 ci) N ((gD (mG M)).2 ci) H' (updV V k v) → H'.size = H.size → (∀ q : Nat, q ≠ b → H'[q]? = H[q]?) → WK (mK M) H' (locs ++ [⟨b, x⟩]) cells slots (mQ M) (F0 (km (mK M)) (pc + 3) ls rest)) : WK (mK M) H locs cells slots (mQ M) (F0 (km (mK M)) pc ls (v :: .ref b :: rest)) := by
  have hap := va_apart (own := own) C.ts hin ty0 hty hnm C.k hc
  obtain ⟨cell, q1, q2, q3, q4⟩ := ho
  obtain ⟨hS, hfc, kC, hkC, hkind⟩ := C.k.1 ci _ hc
  obtain ⟨cf, kf, fi, f, hi, hsl⟩ := hS k hk
  have hst := (u_facts hfc hkC (u_lays C.ts hin hk) hi).1
  rcases hfin with hfin | ⟨hfin, hin2, hdecl⟩
  · have hlay := C.ts _ (hin _ (u_in_lay hk))
    unfold u_lay at hlay
    rw [if_neg (by rw [hfin]; decide)] at hlay
    have h6 := u_store hfc hkC hkind hlay hi (hty k hk) hn hfit
    refine W.putK C.x C.b (f := f) ⟨C.o, C.ts _ hlink, ⟨_, _, _, hsame _ hi⟩, hst⟩ (by rw [q2]; exact h6) q1 q3 (by rw [hsl]; exact k2_hasslot (q4 k hk)) rfl rfl hd fun H' e1 e2 e3 => ?_
    rw [hsl] at e1 ⊢
    exact kk H' _ ⟨_, e1, q2, q3, t_set q4 hap hk v⟩ e2 e3
  · have h6 := u_fits hfc hkC hkind (u_lays C.ts hin hk) hi (hty k hk) hn hfit
    have hlay := C.ts _ (hin _ (u_in_lay hk))
    unfold u_lay at hlay
    rw [if_pos hfin] at hlay
    have hcf : (km (mK M)).cls = cf := by
      obtain ⟨_, _, c', _, _, _, -, -, hf', -, -, -, hown2, -⟩ := Cond.laysFinal_spec hlay
      have e1 : c' = cf := by have := hi.symm.trans hf'; simp at this; exact this.1.symm
      rw [hdecl] at hown2
      rw [← e1]; exact Option.some.inj (C.o.symm.trans hown2)
    refine W.putFinK C.x C.b C.o (C.ts _ hlink) (hsame _ hi) hst hcf hin2 (by rw [q2]; exact h6) q1 q3 (by rw [hsl]; exact k2_hasslot (q4 k hk)) rfl rfl hd fun H' e1 e2 e3 => ?_
    rw [hsl] at e1 ⊢
    exact kk H' _ ⟨_, e1, q2, q3, t_set q4 hap hk v⟩ e2 e3
/-! arrays at the heap -/
theorem tysA_at (G : Gx) {t : Nat} (ht : t < 7) : (tysA G)[t]? = some (gT G t, tyN t) := by
  unfold tysA
  rw [List.getElem?_map, List.getElem?_range ht]
  rfl
theorem C_arr (C : Cx M cc own fR lO) {t : Nat} (ht : t < 8) : ArrOfT (ks (mK M)) (gT (mG M) t) (tyN t) := by
  by_cases h : t < 7
  · exact (C.k.2 t _ (tysA_at _ h)).1
  · obtain rfl : t = 7 := by omega
    exact C.g.2.2.2.2.2.2.2.2.2.2.2.2
theorem Wa_iald (C : Cx M cc own fR lO) {t n : Nat} (ht : t < 3) {f : Int → Int} {a : Nat} (ha : H[a]? = some (vp_cell (gT (mG M) t) (cA f n))) {i : Int} (hi : rI i) (h0 : 0 ≤ i) (h1 : i < (n : Int)) {op : Instr} (hop : opL t op) (hd : decode cc pc = .ok (op, 1))
    (kk : WK (mK M) H locs cells slots (mQ M) (F0 (km (mK M)) (pc + 1) ls (.int (I32 (f i)) :: rest))) : WK (mK M) H locs cells slots (mQ M) (F0 (km (mK M)) pc ls (.int (I32 i) :: .ref a :: rest)) := by
  have hin : vp_in (I32 i) n := I_in hi ⟨h0, h1⟩
  have hlt : (I32 i).toNatClampNeg < n := Nat.not_le.mp fun q => hin (Or.inr q)
  have hix : (I32 i).toNatClampNeg = i.toNat := I_idx hi h0
  have hv : (arrV (gT (mG M) t) n (fun j => .int (I32 (f (j : Int))))).slots[(I32 i).toNatClampNeg]? = some (.int (I32 (f i))) := by
    rw [arrV_read _ _ hlt, hix, Int.toNat_of_nonneg h0]
  have hs : ¬ ((I32 i) < 0 ∨ (arrV (gT (mG M) t) n (fun j => .int (I32 (f (j : Int))))).slots.size ≤ (I32 i).toNatClampNeg) := by rw [arrV_size]; exact hin
  have hA := C_arr C (t := t) (by omega)
  rcases (by omega : t = 0 ∨ t = 1 ∨ t = 2) with rfl | rfl | rfl
  · cases hop; exact W.iald C.x C.b ha (hA n (fun j => .int (I32 (f (j : Int))))) (fun q => by cases q) hs hv rfl rfl hd kk
  · cases hop; exact W.zald C.x C.b ha (hA n (fun j => .int (I32 (f (j : Int))))) (fun q => by cases q) hs hv rfl rfl hd kk
  · cases hop; exact W.bald C.x C.b ha (hA n (fun j => .int (I32 (f (j : Int))))) (fun q => by cases q) hs hv rfl rfl hd kk
theorem cA_up (f : Int → Int) (n : Nat) {i : Int} (h0 : 0 ≤ i) (v : Int) (cI : ClassId) : (arrV cI n (fun j => .int (I32 (f (j : Int))))).setSlot i.toNat (.int (I32 v)) = vp_cell cI (cA (upI f i v) n) := by
  rw [arrV_store]
  show _ = vp_cell cI (n, .inl fun j => I32 (upI f i v (j : Int)))
  rw [vp_cell_i]
  congr 1
  funext q
  by_cases hq : q = i.toNat
  · subst hq
    simp [updV, upI, Int.toNat_of_nonneg h0]
  · have : ¬ ((q : Int) = i) := by omega
    simp [updV, upI, hq, this]
theorem Wa_iast (C : Cx M cc own fR lO) {t n : Nat} (ht : t < 3) {f : Int → Int} {a : Nat} (ha : H[a]? = some (vp_cell (gT (mG M) t) (cA f n))) {i v : Int} (hi : rI i) (h0 : 0 ≤ i) (h1 : i < (n : Int)) (hv : sOK t v) {op : Instr} (hop : opS t op) (hd : decode cc pc = .ok (op, 1))
    (kk : ∀ (H' : Heap) (x : Nat), H'[a]? = some (vp_cell (gT (mG M) t) (cA (upI f i v) n)) → H'.size = H.size → (∀ q : Nat, q ≠ a → H'[q]? = H[q]?) → WK (mK M) H' (locs ++ [⟨a, x⟩]) cells slots (mQ M) (F0 (km (mK M)) (pc + 1) ls rest)) : WK (mK M) H locs cells slots (mQ M) (F0 (km (mK M)) pc ls (.int (I32 v) :: .int (I32 i) :: .ref a :: rest)) := by
  have hin : vp_in (I32 i) n := I_in hi ⟨h0, h1⟩
  have hix : (I32 i).toNatClampNeg = i.toNat := I_idx hi h0
  have hs : ¬ ((I32 i) < 0 ∨ (arrV (gT (mG M) t) n (fun j => .int (I32 (f (j : Int))))).slots.size ≤ (I32 i).toNatClampNeg) := by rw [arrV_size]; exact hin
  have hA := C_arr C (t := t) (by omega)
  rcases (by omega : t = 0 ∨ t = 1 ∨ t = 2) with rfl | rfl | rfl
  · cases hop
    refine W.iast C.x C.b ha (hA n (fun j => .int (I32 (f (j : Int))))) (fun q => by cases q) hs rfl rfl hd fun H' e z oq => ?_
    rw [hix] at e ⊢
    exact kk H' _ (e.trans (congrArg some (cA_up f n h0 v _))) z oq
  · cases hop
    refine W.zast C.x C.b ha (hA n (fun j => .int (I32 (f (j : Int))))) (fun q => by cases q) hs rfl rfl hd fun H' e z oq => ?_
    rw [hix] at e ⊢
    have hv : v = 0 ∨ v = 1 := hv
    have hn : narrow .boolean (.int (I32 v)) = .int (I32 v) := by rcases hv with q | q <;> subst q <;> rfl
    rw [hn] at e
    exact kk H' _ (e.trans (congrArg some (cA_up f n h0 v _))) z oq
  · cases hop
    refine W.bast C.x C.b ha (hA n (fun j => .int (I32 (f (j : Int))))) (fun q => by cases q) hs rfl rfl hd fun H' e z oq => ?_
    rw [hix] at e ⊢
    have hn : narrow .byte (.int (I32 v)) = .int (I32 v) := by
      have hv : -128 ≤ v ∧ v ≤ 127 := hv
      show Value.int ((I32 v).toInt8.toInt32) = _
      congr 1
      apply Int32.toInt.inj
      rw [Int8.toInt_toInt32, Int32.toInt8_ofInt, toI ⟨by omega, by omega⟩]
      exact Int8.toInt_ofInt_of_le (by omega) (by omega)
    rw [hn] at e
    exact kk H' _ (e.trans (congrArg some (cA_up f n h0 v _))) z oq
theorem sOK.a {t : Nat} (ht : t < 3) {v : Int} (hv : sOK t v) : rI v ∧ (t = 1 → v = 0 ∨ v = 1) ∧ (t = 2 → -128 ≤ v ∧ v ≤ 127) := by
  rcases (by omega : t = 0 ∨ t = 1 ∨ t = 2) with rfl | rfl | rfl
  · exact ⟨hv, fun e => (by cases e), fun e => (by cases e)⟩
  · have hv : v = 0 ∨ v = 1 := hv
    exact ⟨by rcases hv with rfl | rfl <;> decide, fun _ => hv, fun e => (by cases e)⟩
  · have hv : -128 ≤ v ∧ v ≤ 127 := hv
    exact ⟨⟨by omega, by omega⟩, fun e => (by cases e), fun _ => hv⟩
theorem cQ_up (f : Int → Option Nat) (n : Nat) {i : Int} (h0 : 0 ≤ i) (v : Option Nat) (cI : ClassId) : (arrV cI n (fun j => va_rf (f (j : Int)))).setSlot i.toNat (va_rf v) = vp_cell cI (cQ (upI f i v) n) := by
  rw [arrV_store]
  show _ = vp_cell cI (n, .inr (.inr (.inr (.inr fun j => upI f i v (j : Int)))))
  rw [vp_cell_q]
  congr 1
  funext q
  by_cases hq : q = i.toNat
  · subst hq
    simp [updV, upI, Int.toNat_of_nonneg h0]
  · have : ¬ ((q : Int) = i) := by omega
    simp [updV, upI, hq, this]
theorem tyN_ref {t : Nat} (ht : 3 ≤ t) : ∃ Cn, tyN t = .object Cn := by
  match t, ht with
  | 3, _ => exact ⟨_, rfl⟩
  | 4, _ => exact ⟨_, rfl⟩
  | 5, _ => exact ⟨_, rfl⟩
  | 6, _ => exact ⟨_, rfl⟩
  | n + 7, _ => exact ⟨_, rfl⟩
theorem Wa_aald (C : Cx M cc own fR lO) {t n : Nat} (ht : 3 ≤ t) (ht8 : t < 8) {f : Int → Option Nat} {a : Nat} (ha : arA t (gT (mG M) t) a n f H) {i : Int} (hi : rI i) (h0 : 0 ≤ i) (h1 : i < (n : Int)) (hd : decode cc pc = .ok (.aaload, 1))
    (kk : WK (mK M) H locs cells slots (mQ M) (F0 (km (mK M)) (pc + 1) ls (va_rf (f i) :: rest))) : WK (mK M) H locs cells slots (mQ M) (F0 (km (mK M)) pc ls (.int (I32 i) :: .ref a :: rest)) := by
  have hin : vp_in (I32 i) n := I_in hi ⟨h0, h1⟩
  have hlt : (I32 i).toNatClampNeg < n := Nat.not_le.mp fun q => hin (Or.inr q)
  have hix : (I32 i).toNatClampNeg = i.toNat := I_idx hi h0
  obtain ⟨cell, q1, -, q2, q3, q4, q5, q6⟩ := ha
  have hv : cell.slots[(I32 i).toNatClampNeg]? = some (va_rf (f i)) := by
    rw [q6 _ hlt, hix, Int.toNat_of_nonneg h0]
  have hs : ¬ ((I32 i) < 0 ∨ cell.slots.size ≤ (I32 i).toNatClampNeg) := by rw [q5]; exact hin
  have harr : (ks (mK M)).isArrayOf cell (tyN t) := ⟨q4, by rw [q2]; exact (C_arr C ht8 n (fun j => va_rf (f (j : Int)))).2⟩
  obtain ⟨Cn, hCn⟩ := tyN_ref ht
  exact W.aald (ty := tyN t) C.x C.b q1 harr (by rw [hCn]; rfl) q3 hs hv rfl rfl hd kk
/-- null is stored -/
theorem Wa_aastN (C : Cx M cc own fR lO) {t n : Nat} (ht : 3 ≤ t) (ht8 : t < 8) {f : Int → Option Nat} {a : Nat} (ha : H[a]? = some (vp_cell (gT (mG M) t) (cQ f n))) {i : Int} (hi : rI i) (h0 : 0 ≤ i) (h1 : i < (n : Int)) (hd : decode cc pc = .ok (.aastore, 1))
    (kk : ∀ (H' : Heap) (x : Nat), H'[a]? = some (vp_cell (gT (mG M) t) (cQ (upI f i none) n)) → H'.size = H.size → (∀ q : Nat, q ≠ a → H'[q]? = H[q]?) → WK (mK M) H' (locs ++ [⟨a, x⟩]) cells slots (mQ M) (F0 (km (mK M)) (pc + 1) ls rest)) : WK (mK M) H locs cells slots (mQ M) (F0 (km (mK M)) pc ls (.null :: .int (I32 i) :: .ref a :: rest)) := by
  have hin : vp_in (I32 i) n := I_in hi ⟨h0, h1⟩
  have hix : (I32 i).toNatClampNeg = i.toNat := I_idx hi h0
  have hs : ¬ ((I32 i) < 0 ∨ (arrV (gT (mG M) t) n (fun j => va_rf (f (j : Int)))).slots.size ≤ (I32 i).toNatClampNeg) := by rw [arrV_size]; exact hin
  obtain ⟨Cn, hCn⟩ := tyN_ref ht
  have hA := C_arr C ht8 n (fun j => va_rf (f (j : Int)))
  rw [hCn] at hA
  refine va_WaastN C.x C.b ha hA (fun q => by cases q) hs rfl rfl hd fun H' e z oq => ?_
  rw [hix] at e ⊢
  exact kk H' _ (e.trans (congrArg some (cQ_up f n h0 none _))) z oq
/-- an object is stored: its class is a class of the array's -/
theorem Wa_aast (C : Cx M cc own fR lO) {t n : Nat} (ht : 3 ≤ t) (ht8 : t < 7) {f : Int → Option Nat} {a : Nat} (ha : H[a]? = some (vp_cell (gT (mG M) t) (cQ f n))) {i : Int} (hi : rI i) (h0 : 0 ≤ i) (h1 : i < (n : Int)) {ci v : Nat} {r : vw_C} {V : Nat → Value} (hc : clA[ci]? = some r) (hv : t_OB v ((gD (mG M)).1 ci) r.2.2 ((gD (mG M)).2 ci) H V)
    (hcast : ∃ (cj : Nat) (rj : vw_C), clA[cj]? = some rj ∧ tyN t = .object rj.1 ∧ (r.1 = rj.1 ∨ Cond.castable r.1 rj.1 ∈ lw_tbl)) (hd : decode cc pc = .ok (.aastore, 1))
    (kk : ∀ (H' : Heap) (x : Nat), H'[a]? = some (vp_cell (gT (mG M) t) (cQ (upI f i (some v)) n)) → H'.size = H.size → (∀ q : Nat, q ≠ a → H'[q]? = H[q]?) → WK (mK M) H' (locs ++ [⟨a, x⟩]) cells slots (mQ M) (F0 (km (mK M)) (pc + 1) ls rest)) : WK (mK M) H locs cells slots (mQ M) (F0 (km (mK M)) pc ls (.ref v :: .int (I32 i) :: .ref a :: rest)) := by
  have hin : vp_in (I32 i) n := I_in hi ⟨h0, h1⟩
  have hlt : (I32 i).toNatClampNeg < n := Nat.not_le.mp fun q => hin (Or.inr q)
  have h00 : ¬ I32 i < 0 := fun q => hin (Or.inl q)
  have hix : (I32 i).toNatClampNeg = i.toNat := I_idx hi h0
  obtain ⟨cj, rj, hcj, hCn, hcst⟩ := hcast
  have hK := C.k
  obtain ⟨cellV, g1, g2, g3, -⟩ := hv
  have hcls := (hK.1 ci r hc).2
  have hra := (hK.2 t _ (tysA_at _ ht8)).2
  simp only [hCn] at hra
  obtain ⟨kA, comp, k1, k2, k3, -⟩ := hra
  obtain ⟨kC, hkC, -⟩ := hcls.2
  have hclj := (hK.1 cj rj hcj).2
  have hcomp : comp = (gD (mG M)).1 cj := Option.some.inj (k3.symm.trans hclj.1)
  subst hcomp
  have hAs : (ks (mK M)).vm.assignable ((gD (mG M)).1 ci) ((gD (mG M)).1 cj) = true := by
    rcases hcst with e | hcw
    · have h3 := hcls.1
      rw [e] at h3
      rw [show (gD (mG M)).1 cj = (gD (mG M)).1 ci from Option.some.inj (k3.symm.trans h3)]
      exact va_assign hcls
    · exact vb_asgC (C.g.2.1 _ hcw rfl) _ _ k3 hcls.1
  obtain ⟨kcomp, hkcomp, -⟩ := hclj.2
  refine W.aast C.x C.b ha (fun q h => by cases h) (fun h => by cases h) k1 k2 rfl hkcomp ⟨h00, by show _ < (arrV _ _ _).slots.size; rw [arrV_size]; exact hlt⟩ g1 (fun q h => by rw [g3] at h; cases h) (by rw [g2]; exact hkC) (by rw [g2]; exact hAs) rfl rfl hd fun H' e z oq => ?_
  rw [hix] at e ⊢
  exact kk H' _ (e.trans (congrArg some (cQ_up f n h0 (some v) _))) z oq
theorem Wa_alen (C : Cx M cc own fR lO) {t n : Nat} (ht8 : t < 8) {z : Nat → Value} {a : Nat} (ha : H[a]? = some (arrV (gT (mG M) t) n z)) (hd : decode cc pc = .ok (.arraylength, 1))
    (kk : WK (mK M) H locs cells slots (mQ M) (F0 (km (mK M)) (pc + 1) ls (.int (I32 (n : Int)) :: rest))) : WK (mK M) H locs cells slots (mQ M) (F0 (km (mK M)) pc ls (.ref a :: rest)) :=
  W.alen (n := Int32.ofNat n) C.x C.b ha (C_arr C ht8 n z) (by rw [arrV_size]) rfl rfl hd kk
theorem Wa_alenQ (C : Cx M cc own fR lO) {t n : Nat} (ht8 : t < 8) {f : Int → Option Nat} {a : Nat} (ha : arA t (gT (mG M) t) a n f H) (hd : decode cc pc = .ok (.arraylength, 1))
    (kk : WK (mK M) H locs cells slots (mQ M) (F0 (km (mK M)) (pc + 1) ls (.int (I32 (n : Int)) :: rest))) : WK (mK M) H locs cells slots (mQ M) (F0 (km (mK M)) pc ls (.ref a :: rest)) := by
  obtain ⟨cell, q1, -, q2, q3, q4, q5, q6⟩ := ha
  exact W.alen (n := Int32.ofNat n) C.x C.b q1 (ty := tyN t) ⟨q4, by rw [q2]; exact (C_arr C ht8 n (fun j => va_rf (f (j : Int)))).2⟩ (by rw [q5]) rfl rfl hd kk
end RW
