/-! the pure laws: H8 H9 H10 H11 H12 H13 H14 H15 H16 -/
set_option maxRecDepth 100000
/-! PURE: tree bins: a value is put -/
def upO (f : Nat → Option Nat) (a : Nat) (v : Option Nat) : Nat → Option Nat := fun b => if b = a then v else f b
/-- an object just made -/
theorem nwO_at (h : hS) (c : Nat) (fs : List hV) : (nwO h c fs).1 h.2.1 = some (.inl (c, fs)) := by unfold nwO; simp
theorem nwO_ne (h : hS) (c : Nat) (fs : List hV) {b : Nat} (hb : b ≠ h.2.1) : (nwO h c fs).1 b = h.1 b := by unfold nwO; simp [hb]
/-- a field of a known object is written -/
theorem hW_at {h : hS} {a c : Nat} {fs : List hV} {P : List (Nat × Nat)} {k : Nat} {v : hV} (e : h.1 a = some (.inl (c, fs))) (hP : P.lookup c = some k) (hk : k < fs.length) :
    ∃ h', hW h (some a) P v = some h' ∧ h'.1 a = some (.inl (c, fs.set k v)) ∧ (∀ b, b ≠ a → h'.1 b = h.1 b) ∧ h'.2 = h.2 := by
  unfold hW nn
  simp only
  rw [e]
  simp only [hP]
  rw [if_pos hk]
  refine ⟨_, rfl, by unfold hup; simp, fun b hb => by unfold hup; simp [hb], rfl⟩
/-- nothing but what is new changes; so many cells are made -/
def newN (c : Nat) (h h' : hS) : Prop := (∀ b, b < h.2.1 → h'.1 b = h.1 b) ∧ h'.2.1 = h.2.1 + c
theorem p_newTreeNode (h : hS) (m : Option Nat) (hv : Int) (k v nx : Option Nat) :
    ∃ h', fJ1_newTreeNode h m hv k v nx = some (some h.2.1, h') ∧ h'.1 h.2.1 = some (.inl (13, [vq none, vq none, vi hv, vq k, vq v, vq nx, vq none, vq none, vq none, vq none, vi 0])) ∧ (∀ b, b ≠ h.2.1 → h'.1 b = h.1 b) ∧ h'.2.1 = h.2.1 + 1 ∧ h'.2.2 = h.2.2 + 11 := by
  unfold fJ1_newTreeNode nwS
  rw [bd_s]
  dsimp only
  unfold fJ6_init fJ5_init fJ4_init
  rw [gd_t (by simp), gd_t (by simp), gd_t (by simp)]
  obtain ⟨h1, e1, a1, o1, s1⟩ := hW_at (P := [(12, 0), (13, 2)]) (v := vi hv) (nwO_at h 13 [vq none, vq none, vi 0, vq none, vq none, vq none, vq none, vq none, vq none, vq none, vi 0]) rfl (by simp)
  obtain ⟨h2, e2, a2, o2, s2⟩ := hW_at (P := [(12, 1), (13, 3)]) (v := vq k) a1 rfl (by simp)
  obtain ⟨h3, e3, a3, o3, s3⟩ := hW_at (P := [(12, 2), (13, 4)]) (v := vq v) a2 rfl (by simp)
  obtain ⟨h4, e4, a4, o4, s4⟩ := hW_at (P := [(12, 3), (13, 5)]) (v := vq nx) a3 rfl (by simp)
  rw [e1, bd_s, e2, bd_s, e3, bd_s, e4, bd_s, bd_s, bd_s, bd_s]
  refine ⟨h4, rfl, by rw [a4]; rfl, fun b hb => by rw [o4 b hb, o3 b hb, o2 b hb, o1 b hb, nwO_ne h 13 [vq none, vq none, vi 0, vq none, vq none, vq none, vq none, vq none, vq none, vq none, vi 0] hb], ?_, ?_⟩
  · rw [s4, s3, s2, s1]; rfl
  · rw [s4, s3, s2, s1]; rfl
/-- a new one behind one of a row -/
theorem DL_ins {R : TR} {X Y : List Nat} {y x : Nat} (hn : (X ++ y :: Y).Nodup) (hx : x ∉ X ++ y :: Y) (D : DL R none none (X ++ y :: Y)) :
    DL (trU (match Y with | [] => trU (trU (trU R y 5 (some x)) x 9 (some y)) x 5 none | z :: _ => trU (trU (trU (trU R y 5 (some x)) x 9 (some y)) x 5 (some z)) z 9 (some x)) x 5 (hdO Y none)) none none (X ++ y :: x :: Y) := by
  rw [DL_app] at D
  obtain ⟨d1, d9, d5, d2⟩ := D
  rw [List.nodup_append] at hn
  obtain ⟨n1, n2, n3⟩ := hn
  have hyY := (List.nodup_cons.mp n2).1
  have hyX : y ∉ X := fun q => n3 y q y (by simp) rfl
  have hxX : x ∉ X := fun q => hx (by simp [q])
  have hxy : x ≠ y := fun q => hx (by simp [q])
  have hxY : x ∉ Y := fun q => hx (by simp [q])
  cases Y with
  | nil =>
    simp only [hdO]
    rw [DL_app]
    refine ⟨DL_cg X _ (fun b hb => ?_) d1, ?_, ?_, ?_, ?_, trivial⟩
    · have b1 : b ≠ y := fun e => hyX (e ▸ hb)
      have b2 : b ≠ x := fun e => hxX (e ▸ hb)
      simp [trU, b1, b2]
    · simp [trU, hxy.symm, d9]
    · simp [trU, hxy.symm, hdO]
    · simp [trU]
    · simp [trU, hdO]
  | cons z Y =>
    simp only [hdO]
    have hzX : z ∉ X := fun q => n3 z q z (by simp) rfl
    have hzy : z ≠ y := fun e => hyY (by simp [e])
    have hzx : z ≠ x := fun e => hxY (by simp [e])
    have hzY : z ∉ Y := (List.nodup_cons.mp (List.nodup_cons.mp n2).2).1
    rw [DL_app]
    refine ⟨DL_cg X _ (fun b hb => ?_) d1, ?_, ?_, ?_, ?_, ?_, ?_, ?_⟩
    · have b1 : b ≠ y := fun e => hyX (e ▸ hb)
      have b2 : b ≠ x := fun e => hxX (e ▸ hb)
      have b3 : b ≠ z := fun e => hzX (e ▸ hb)
      simp [trU, b1, b2, b3]
    · simp [trU, hxy.symm, hzy.symm, d9]
    · simp [trU, hxy.symm, hzy.symm, hdO]
    · simp [trU, hzx.symm]
    · simp [trU, hdO]
    · simp [trU, hzx]
    · obtain ⟨q9, q5, q⟩ := d2
      simp [trU, hzx, hzy, q5]
    · obtain ⟨q9, q5, q⟩ := d2
      refine DL_cg Y _ (fun b hb => ?_) q
      have b1 : b ≠ y := fun e => hyY (by rw [← e]; simp [hb])
      have b2 : b ≠ x := fun e => hxY (by rw [← e]; simp [hb])
      have b3 : b ≠ z := fun e => hzY (e ▸ hb)
      simp [trU, b1, b2, b3]
/-- what a put in a tree leaves -/
def ptvR (h : hS) (Ch : List Nat) (H : Nat → Int) (K V : Nat → Option Nat) (tab n : Nat) (f : Int → Option Nat) (i : Int) (hv : Int) (k : Nat) (v : Option Nat) (Z : Option (Option Nat × hS)) : Prop :=
  (∃ a, a ∈ Ch ∧ H a = hv ∧ Z = some (some a, h)) ∨
  ((∀ a, a ∈ Ch → H a ≠ hv) ∧ ∃ h' Ch' R' C' f', Z = some (none, h') ∧ TB h' Ch' (upN H h.2.1 hv) (upO K h.2.1 (some k)) (upO V h.2.1 v) R' C' ∧ (∀ a, a ∈ Ch' ↔ a = h.2.1 ∨ a ∈ Ch) ∧ arQ h' 6 n tab f' ∧ f' i = Ch'.head? ∧ (∀ j, j ≠ i → f' j = f j) ∧ (∀ b, b ∉ Ch → b ≠ tab → b ≠ h.2.1 → h'.1 b = h.1 b) ∧ h'.2.1 = h.2.1 + 1 ∧ h'.2.2 = h.2.2 + 11)

set_option maxRecDepth 100000
/-! PURE: tree bins: a value is put, the walk down -/
/-- the fields of a node just made -/
def nwR (R : TR) (x : Nat) (nx : Option Nat) : TR := fun a j => if a = x then (if j = 5 then nx else none) else R a j
theorem BT.cgH {N : Nat → Prop} {R : TR} {H H' lo hi : Nat → Int} {r : Nat} (B : BT N R H lo hi r) (h : ∀ a, N a → H' a = H a) : BT N R H' lo hi r := by
  obtain ⟨g1, g2, g3, g4, g5, g6, g7, g8⟩ := B
  exact ⟨g1, g2, g3, fun a ha => by rw [h a ha]; exact g4 a ha, fun a b ha e => by rw [h a ha]; exact g5 a b ha e, fun a b ha e => by rw [h a ha]; exact g6 a b ha e, g7, g8⟩
theorem TS.nw {h h1 : hS} {N : Nat → Prop} {H : Nat → Int} {K V : Nat → Option Nat} {R : TR} {C : Nat → Int} {x : Nat} {hv : Int} {k v nx : Option Nat} (T : TS h N H K V R C) (hx : ¬ N x)
    (e : h1.1 x = some (.inl (13, [vq none, vq none, vi hv, vq k, vq v, vq nx, vq none, vq none, vq none, vq none, vi 0]))) (o : ∀ b, b ≠ x → h1.1 b = h.1 b) :
    TS h1 (fun a => a = x ∨ N a) (upN H x hv) (upO K x k) (upO V x v) (nwR R x nx) (upN C x 0) := by
  intro a ha
  by_cases q : a = x
  · subst q; rw [e]; simp [tnL, upN, upO, nwR]
  · rw [o a q, T a (by rcases ha with rfl | ha; exact absurd rfl q; exact ha)]
    simp [tnL, upN, upO, nwR, q]
theorem pH_b263 {h2 : hS} {Ch : List Nat} {H lo hi : Nat → Int} {K V : Nat → Option Nat} {R R2 : TR} {C : Nat → Int} {x y r tab n : Nat} {f : Int → Option Nat} {i : Int} (hlen : Ch.length < 80000) (hn : Ch.Nodup) (D : DL R none none Ch)
    (T2 : TS h2 (fun a => a = x ∨ a ∈ Ch) H K V R2 C) (e59 : ∀ a, a ∈ Ch → R2 a 5 = R a 5 ∧ R2 a 9 = R a 9) (x5 : R2 x 5 = R y 5) (B2 : BT (fun a => a = x ∨ a ∈ Ch) (trU R2 x 6 (some y)) H lo hi r) (hy : y ∈ Ch) (hx : x ∉ Ch)
    (A : arQ h2 6 n tab f) (ht : tab ∉ Ch) (htx : tab ≠ x) (hi' : ∀ a, a = x ∨ a ∈ Ch → iand (wr ((n : Int) - 1)) (H a) = i) (h0 : 0 ≤ i) (h1 : i < n) (hf : f i = Ch.head?) :
    ∃ h' Ch' R' C' f', fJ6_putTreeVal_b263 h2 (some tab) (some r) (some y) (R y 5) (some x) = some (none, h') ∧ TB h' Ch' H K V R' C' ∧ (∀ a, a ∈ Ch' ↔ a = x ∨ a ∈ Ch) ∧ arQ h' 6 n tab f' ∧ f' i = Ch'.head? ∧ (∀ j, j ≠ i → f' j = f j) ∧ (∀ b, b ∉ Ch → b ≠ tab → b ≠ x → h'.1 b = h2.1 b) ∧ h'.2 = h2.2 := by
  obtain ⟨X, Y, rfl⟩ := List.append_of_mem hy
  have hyN : y = x ∨ y ∈ X ++ y :: Y := Or.inr hy
  have hxN : x = x ∨ x ∈ X ++ y :: Y := Or.inl rfl
  have hxy : x ≠ y := by rintro rfl; exact hx hy
  have D0 := D
  rw [DL_app] at D0
  obtain ⟨d1, d9, d5, d2⟩ := D0
  unfold fJ6_putTreeVal_b263
  obtain ⟨ha, ea, Ta, oa⟩ := T2.w (show y = x ∨ y ∈ X ++ y :: Y from hyN) [(13, 5)] rfl (by simp) (some x)
  obtain ⟨hb, eb, Tb, ob⟩ := Ta.w (show x = x ∨ x ∈ X ++ y :: Y from hxN) [(13, 9)] rfl (by simp) (some y)
  obtain ⟨hc, ec, Tc, oc⟩ := Tb.w (show x = x ∨ x ∈ X ++ y :: Y from hxN) [(13, 6)] rfl (by simp) (some y)
  rw [ea, bd_s, eb, bd_s, ec, bd_s]
  -- the end, when the row is right
  have fin : ∀ (hd : hS) (Rd : TR), TS hd (fun a => a = x ∨ a ∈ X ++ y :: Y) H K V Rd C → onlyN (fun a => a = x ∨ a ∈ X ++ y :: Y) h2 hd → DL Rd none none (X ++ y :: x :: Y) → (∀ a j, j = 6 ∨ j = 7 ∨ j = 8 → Rd a j = trU R2 x 6 (some y) a j) →
      ∃ h' Ch' R' C' f', fJ6_putTreeVal_b298 hd (some tab) (some r) (some x) = some (none, h') ∧ TB h' Ch' H K V R' C' ∧ (∀ a, a ∈ Ch' ↔ a = x ∨ a ∈ X ++ y :: Y) ∧ arQ h' 6 n tab f' ∧ f' i = Ch'.head? ∧ (∀ j, j ≠ i → f' j = f j) ∧ (∀ b, b ∉ X ++ y :: Y → b ≠ tab → b ≠ x → h'.1 b = h2.1 b) ∧ h'.2 = h2.2 := by
    intro hd Rd Td od Dd ed
    have mm : ∀ a, a ∈ X ++ y :: x :: Y ↔ a = x ∨ a ∈ X ++ y :: Y := by
      intro a
      simp only [List.mem_append, List.mem_cons]
      grind
    have Td' : TS hd (fun a => a ∈ X ++ y :: x :: Y) H K V Rd C := fun a ha => Td a ((mm a).mp ha)
    have Bd' : BT (fun a => a ∈ X ++ y :: x :: Y) Rd H lo hi r := (B2.cgN mm).cgR (fun a j _ hj => ed a j hj)
    have nd : (X ++ y :: x :: Y).Nodup := by
      rw [List.nodup_append] at hn ⊢
      obtain ⟨n1, n2, n3⟩ := hn
      simp only [List.nodup_cons, List.mem_cons, List.mem_append] at n2 hx ⊢
      grind
    have hlen' : (X ++ y :: x :: Y).length < 90000 := by simp at hlen ⊢; omega
    obtain ⟨h3, R3, C3, r3, lo3, hi3, e3, T3, B3, o3, f59⟩ := pH_bal hlen' Td' Bd' (show x ∈ X ++ y :: x :: Y by simp)
    unfold fJ6_putTreeVal_b298
    rw [e3, bd_s]
    have D3 : DL R3 none none (X ++ y :: x :: Y) := DL_cg _ _ (fun a ha => ⟨f59 a 5 (by simp), f59 a 9 (by simp)⟩) Dd
    have ht' : tab ∉ X ++ y :: x :: Y := fun q => by rcases (mm tab).mp q with q | q; exact htx q; exact ht q
    have A3 : arQ h3 6 n tab f := by
      unfold arQ
      rw [o3.1 tab ht', od.1 tab (fun q => by rcases q with q | q; exact htx q; exact ht q)]
      exact A
    have hf' : f i = (X ++ y :: x :: Y).head? := by rw [hf]; cases X <;> rfl
    obtain ⟨h4, Ch4, R4, f4, e4, T4, D4, hd4, n4, m4, g4, A4, fi4, fj4, o4, s4⟩ := pH_move nd T3 D3 B3.1 A3 ht' (hi' r3 ((mm r3).mp B3.1)) h0 h1 hf'
    simp only
    rw [e4, bd_s]
    refine ⟨h4, Ch4, R4, C3, f4, rfl, ⟨n4, T4, D4, r3, lo3, hi3, hd4, (B3.cgN m4).cgR (fun a j _ hj => g4 a j hj)⟩, fun a => (m4 a).trans (mm a), A4, by rw [fi4, hd4], fj4, fun b hb hbt hbx => ?_, by rw [s4, o3.2, od.2]⟩
    have nb : b ∉ X ++ y :: x :: Y := fun q => by rcases (mm b).mp q with q | q; exact hbx q; exact hb q
    rw [o4 b nb hbt, o3.1 b nb, od.1 b (fun q => by rcases q with q | q; exact hbx q; exact hb q)]
  have DD := DL_ins hn hx D
  have e5 : ∀ a, a ∈ X ++ y :: Y → R2 a 5 = R a 5 := fun a ha => (e59 a ha).1
  have e9 : ∀ a, a ∈ X ++ y :: Y → R2 a 9 = R a 9 := fun a ha => (e59 a ha).2
  cases Y with
  | nil =>
    simp only [hdO] at d5 DD
    rw [d5]
    unfold ifN
    simp only
    refine fin hc _ Tc ((oa.trans ob).trans oc) (DL_cg _ _ (fun a ha => ?_) DD) (fun a j hj => ?_)
    · have q5 := e5 a
      have q9 := e9 a
      rw [d5] at x5
      simp only [List.mem_append, List.mem_cons] at ha q5 q9
      simp only [trU_e]
      constructor <;> grind
    · simp only [trU_e]
      grind
  | cons z Y =>
    simp only [hdO] at d5 DD
    rw [d5]
    unfold ifN
    simp only
    have hzN : z = x ∨ z ∈ X ++ y :: z :: Y := Or.inr (by simp)
    rw [gd_t (Or.inr (Tc.in3 hzN))]
    obtain ⟨hd, ed, Td, od⟩ := Tc.w (show z = x ∨ z ∈ X ++ y :: z :: Y from hzN) [(13, 9)] rfl (by simp) (some x)
    rw [ed, bd_s]
    refine fin hd _ Td (((oa.trans ob).trans oc).trans od) (DL_cg _ _ (fun a ha => ?_) DD) (fun a j hj => ?_)
    · have q5 := e5 a
      have q9 := e9 a
      rw [d5] at x5
      simp only [List.mem_append, List.mem_cons] at ha q5 q9
      simp only [trU_e]
      constructor <;> grind
    · simp only [trU_e]
      grind

set_option maxRecDepth 100000
/-! PURE: tree bins: a value is put, all of it -/
theorem pH_leaf {K27 : hS → Option Nat → Option Nat → Int → Option Nat → Option Nat → Option Nat → Option Nat → Option Nat → Option (Option Nat × hS)} {h : hS} {Ch : List Nat} {H lo hi : Nat → Int} {K V : Nat → Option Nat} {R : TR} {C : Nat → Int} {y r tab n o1 k : Nat} {v o6 : Option Nat} {f : Int → Option Nat} {i hv a10 : Int} (hlen : Ch.length < 80000) (hn : Ch.Nodup) (T : TS h (fun a => a ∈ Ch) H K V R C) (D : DL R none none Ch) (B : BT (fun a => a ∈ Ch) R H lo hi r)
    (hy : y ∈ Ch) (hx : h.2.1 ∉ Ch) (ho : hC h (some o1) = some 11) (A : arQ h 6 n tab f) (ht : tab ∉ Ch) (htx : tab ≠ h.2.1) (hv' : iand (wr ((n : Int) - 1)) hv = i) (hi' : ∀ a, a ∈ Ch → iand (wr ((n : Int) - 1)) (H a) = i) (h0 : 0 ≤ i) (h1 : i < n) (hf : f i = Ch.head?)
    (hd : (a10 = 1 ∧ R y 8 = none ∧ H y < hv ∧ hv < hi y) ∨ (a10 = -1 ∧ R y 7 = none ∧ lo y < hv ∧ hv < H y)) :
    ∃ h' Ch' R' C' f', fJ6_putTreeVal_b215 K27 h (some o1) (some tab) hv (some k) v o6 (some r) a10 (some y) none = some (none, h') ∧ TB h' Ch' (upN H h.2.1 hv) (upO K h.2.1 (some k)) (upO V h.2.1 v) R' C' ∧ (∀ a, a ∈ Ch' ↔ a = h.2.1 ∨ a ∈ Ch) ∧ arQ h' 6 n tab f' ∧ f' i = Ch'.head? ∧ (∀ j, j ≠ i → f' j = f j) ∧ (∀ b, b ∉ Ch → b ≠ tab → b ≠ h.2.1 → h'.1 b = h.1 b) ∧ h'.2.1 = h.2.1 + 1 ∧ h'.2.2 = h.2.2 + 11 := by
  have ne : ∀ a, a ∈ Ch → a ≠ h.2.1 := fun a ha e => hx (e ▸ ha)
  have hyx := ne y hy
  have Hy : upN H h.2.1 hv y = H y := by unfold upN; rw [if_neg hyx]
  have Hx : upN H h.2.1 hv h.2.1 = hv := by unfold upN; rw [if_pos rfl]
  have HC : ∀ a, a ∈ Ch → upN H h.2.1 hv a = H a := fun a ha => by unfold upN; rw [if_neg (ne a ha)]
  have RC : ∀ a, a ∈ Ch → ∀ j, nwR R h.2.1 (R y 5) a j = R a j := fun a ha j => by unfold nwR; rw [if_neg (ne a ha)]
  unfold fJ6_putTreeVal_b215 ifN
  simp only
  rw [T.q hy [(13, 5)] rfl (by simp), bd_s, gd_t ho]
  obtain ⟨h2, e2, a2, o2, s2, s2'⟩ := p_newTreeNode h (some o1) hv (some k) v (R y 5)
  rw [e2, bd_s]
  have T2 := T.nw hx a2 o2
  have B2 : BT (fun a => a ∈ Ch) (nwR R h.2.1 (R y 5)) (upN H h.2.1 hv) lo hi r := (B.cgH HC).cgR (fun a j ha _ => RC a ha j)
  have hyN : y = h.2.1 ∨ y ∈ Ch := Or.inr hy
  have A2 : arQ h2 6 n tab f := by unfold arQ; rw [o2 tab htx]; exact A
  have hiN : ∀ a, a = h.2.1 ∨ a ∈ Ch → iand (wr ((n : Int) - 1)) (upN H h.2.1 hv a) = i := by
    intro a ha
    rcases ha with rfl | ha
    · rw [Hx]; exact hv'
    · rw [HC a ha]; exact hi' a ha
  have fin : ∀ (d : Nat), d = 7 ∨ d = 8 → ∀ (h3 : hS) (lo2 hi2 : Nat → Int), TS h3 (fun a => a = h.2.1 ∨ a ∈ Ch) (upN H h.2.1 hv) (upO K h.2.1 (some k)) (upO V h.2.1 v) (trU (nwR R h.2.1 (R y 5)) y d (some h.2.1)) (upN C h.2.1 0) → onlyN (fun a => a = h.2.1 ∨ a ∈ Ch) h2 h3 → BT (fun a => a = h.2.1 ∨ a ∈ Ch) (trU (trU (nwR R h.2.1 (R y 5)) h.2.1 6 (some y)) y d (some h.2.1)) (upN H h.2.1 hv) lo2 hi2 r →
      ∃ h' Ch' R' C' f', fJ6_putTreeVal_b263 h3 (some tab) (some r) (some y) (R y 5) (some h.2.1) = some (none, h') ∧ TB h' Ch' (upN H h.2.1 hv) (upO K h.2.1 (some k)) (upO V h.2.1 v) R' C' ∧ (∀ a, a ∈ Ch' ↔ a = h.2.1 ∨ a ∈ Ch) ∧ arQ h' 6 n tab f' ∧ f' i = Ch'.head? ∧ (∀ j, j ≠ i → f' j = f j) ∧ (∀ b, b ∉ Ch → b ≠ tab → b ≠ h.2.1 → h'.1 b = h.1 b) ∧ h'.2.1 = h.2.1 + 1 ∧ h'.2.2 = h.2.2 + 11 := by
    intro d hd h3 lo2 hi2 T3 o3 B3
    have A3 : arQ h3 6 n tab f := by unfold arQ; rw [o3.1 tab (fun q => by rcases q with q | q; exact htx q; exact ht q)]; exact A2
    have q1 : ∀ a, a ∈ Ch → trU (nwR R h.2.1 (R y 5)) y d (some h.2.1) a 5 = R a 5 ∧ trU (nwR R h.2.1 (R y 5)) y d (some h.2.1) a 9 = R a 9 := by
      intro a ha
      constructor
      · rw [trU_e, if_neg (by omega), RC a ha]
      · rw [trU_e, if_neg (by omega), RC a ha]
    have q2 : trU (nwR R h.2.1 (R y 5)) y d (some h.2.1) h.2.1 5 = R y 5 := by
      rw [trU_e, if_neg (by omega)]; unfold nwR; simp
    have B3' : BT (fun a => a = h.2.1 ∨ a ∈ Ch) (trU (trU (nwR R h.2.1 (R y 5)) y d (some h.2.1)) h.2.1 6 (some y)) (upN H h.2.1 hv) lo2 hi2 r :=
      B3.cgR (fun a j _ _ => by simp only [trU_e]; grind)
    obtain ⟨h4, Ch4, R4, C4, f4, e4, T4, m4, A4, fi4, fj4, o4, s4⟩ := pH_b263 hlen hn D T3 q1 q2 B3' hy hx A3 ht htx hiN h0 h1 hf
    refine ⟨h4, Ch4, R4, C4, f4, e4, T4, m4, A4, fi4, fj4, fun b hb hbt hbx => ?_, by rw [s4, o3.2, s2], by rw [s4, o3.2, s2']⟩
    rw [o4 b hb hbt hbx, o3.1 b (fun q => by rcases q with q | q; exact hbx q; exact hb q), o2 b hbx]
  rcases hd with ⟨rfl, e8, c1, c2⟩ | ⟨rfl, e7, c1, c2⟩
  · simp only [show (0 : Int) < 1 from by decide, if_true]
    obtain ⟨h3, e3, T3, o3⟩ := T2.w (show y = h.2.1 ∨ y ∈ Ch from hyN) [(13, 8)] rfl (by simp) (some h.2.1)
    rw [e3, bd_s]
    exact fin 8 (by simp) h3 _ _ T3 o3 (B2.insR hy hx (by rw [RC y hy]; exact e8) (by simp [nwR]) (by simp [nwR]) (by rw [Hx, Hy]; exact c1) (by rw [Hx]; exact c2))
  · simp only [show ¬ (0 : Int) < -1 from by decide, if_false]
    obtain ⟨h3, e3, T3, o3⟩ := T2.w (show y = h.2.1 ∨ y ∈ Ch from hyN) [(13, 7)] rfl (by simp) (some h.2.1)
    rw [e3, bd_s]
    exact fin 7 (by simp) h3 _ _ T3 o3 (B2.insL hy hx (by rw [RC y hy]; exact e7) (by simp [nwR]) (by simp [nwR]) (by rw [Hx]; exact c1) (by rw [Hx, Hy]; exact c2))
theorem pH_ptv_L {h : hS} {Ch : List Nat} {H lo hi : Nat → Int} {K V : Nat → Option Nat} {R : TR} {C : Nat → Int} {r tab n o1 k : Nat} {v o6 : Option Nat} {f : Int → Option Nat} {i hv : Int} (hlen : Ch.length < 80000) (hn : Ch.Nodup) (T : TS h (fun a => a ∈ Ch) H K V R C) (D : DL R none none Ch) (B : BT (fun a => a ∈ Ch) R H lo hi r)
    (hx : h.2.1 ∉ Ch) (ho : hC h (some o1) = some 11) (A : arQ h 6 n tab f) (ht : tab ∉ Ch) (htx : tab ≠ h.2.1) (hv' : iand (wr ((n : Int) - 1)) hv = i) (hi' : ∀ a, a ∈ Ch → iand (wr ((n : Int) - 1)) (H a) = i) (h0 : 0 ≤ i) (h1 : i < n) (hf : f i = Ch.head?)
    (hk : ∀ a, a ∈ Ch → H a = hv → K a = some k ∨ ∃ w, w ≠ 0 ∧ D1_equals h (some k) (K a) = some w) :
    ∀ (m y g : Nat), ncnt Ch lo hi y ≤ m → m < g → y ∈ Ch → lo y < hv → hv < hi y →
    (∃ a, a ∈ Ch ∧ H a = hv ∧ fJ6_putTreeVal_L27 g h (some o1) (some tab) hv (some k) v o6 (some r) (some y) = some (some a, h)) ∨
    ((∀ a, a ∈ Ch → H a ≠ hv) ∧ ∃ h' Ch' R' C' f', fJ6_putTreeVal_L27 g h (some o1) (some tab) hv (some k) v o6 (some r) (some y) = some (none, h') ∧ TB h' Ch' (upN H h.2.1 hv) (upO K h.2.1 (some k)) (upO V h.2.1 v) R' C' ∧ (∀ a, a ∈ Ch' ↔ a = h.2.1 ∨ a ∈ Ch) ∧ arQ h' 6 n tab f' ∧ f' i = Ch'.head? ∧ (∀ j, j ≠ i → f' j = f j) ∧ (∀ b, b ∉ Ch → b ≠ tab → b ≠ h.2.1 → h'.1 b = h.1 b) ∧ h'.2.1 = h.2.1 + 1 ∧ h'.2.2 = h.2.2 + 11) := by
  intro m
  induction m using Nat.strongRecOn with
  | _ m ih =>
    intro y g hm hg hy c1 c2
    obtain ⟨g, rfl⟩ : ∃ k, g = k + 1 := ⟨g - 1, by omega⟩
    have gy := B.2.2.2.1 y hy
    rw [fJ6_putTreeVal_L27_s, fJ6_putTreeVal_b27, T.hh hy [(13, 2)] rfl, bd_s]
    by_cases q1 : H y ≤ hv
    · rw [if_pos q1]
      by_cases q2 : hv ≤ H y
      · rw [if_pos q2, T.k hy [(13, 3)] rfl, bd_s]
        left
        refine ⟨y, hy, by omega, ?_⟩
        unfold fJ6_putTreeVal_b85
        rcases hk y hy (by omega) with e | ⟨w, w0, e⟩
        · rw [if_pos e]
        · by_cases e' : K y = some k
          · rw [if_pos e']
          · rw [if_neg e']
            unfold ifN
            simp only
            rw [e, bd_s, if_neg w0]
      · rw [if_neg q2]
        unfold fJ6_putTreeVal_b193
        rw [if_pos (by decide), T.q hy [(13, 8)] rfl (by simp), bd_s]
        cases e : R y 8 with
        | none =>
          right
          refine ⟨fun a ha ea => B.noR hy ha e (by omega) (by omega), ?_⟩
          exact pH_leaf hlen hn T D B hy hx ho A ht htx hv' hi' h0 h1 hf (Or.inl ⟨rfl, e, by omega, c2⟩)
        | some c =>
          have q := B.2.2.2.2.2.1 y c hy e
          have lt := ncnt_lt (lo := lo) (hi := hi) (x := y) q.1 (by omega)
          unfold fJ6_putTreeVal_b215 ifN
          simp only
          exact ih (ncnt Ch lo hi c) (by omega) c g (Nat.le_refl _) (by omega) q.1 (by omega) (by omega)
    · rw [if_neg q1]
      unfold fJ6_putTreeVal_b193
      rw [if_neg (by decide), T.q hy [(13, 7)] rfl (by simp), bd_s]
      cases e : R y 7 with
      | none =>
        right
        refine ⟨fun a ha ea => B.noL hy ha e (by omega) (by omega), ?_⟩
        exact pH_leaf hlen hn T D B hy hx ho A ht htx hv' hi' h0 h1 hf (Or.inr ⟨rfl, e, c1, by omega⟩)
      | some c =>
        have q := B.2.2.2.2.1 y c hy e
        have lt := ncnt_lt (lo := lo) (hi := hi) (x := y) q.1 (by omega)
        unfold fJ6_putTreeVal_b215 ifN
        simp only
        exact ih (ncnt Ch lo hi c) (by omega) c g (Nat.le_refl _) (by omega) q.1 (by omega) (by omega)
/-- a value is put in a tree bin -/
theorem pH_putTreeVal {h : hS} {Ch : List Nat} {H : Nat → Int} {K V : Nat → Option Nat} {R : TR} {C : Nat → Int} {x tab n o1 k : Nat} {v : Option Nat} {f : Int → Option Nat} {i hv : Int} (hlen : Ch.length < 80000) (T : TB h Ch H K V R C) (hf0 : Ch.head? = some x)
    (hx : h.2.1 ∉ Ch) (ho : hC h (some o1) = some 11) (A : arQ h 6 n tab f) (ht : tab ∉ Ch) (htx : tab ≠ h.2.1) (hr : rI hv) (hv' : iand (wr ((n : Int) - 1)) hv = i) (hi' : ∀ a, a ∈ Ch → iand (wr ((n : Int) - 1)) (H a) = i) (h0 : 0 ≤ i) (h1 : i < n) (hf : f i = Ch.head?)
    (hk : ∀ a, a ∈ Ch → H a = hv → K a = some k ∨ ∃ w, w ≠ 0 ∧ D1_equals h (some k) (K a) = some w) :
    ptvR h Ch H K V tab n f i hv k v (fJ6_putTreeVal h (some x) (some o1) (some tab) hv (some k) v) := by
  obtain ⟨hn, TT, D, r, lo, hi, er, B⟩ := T
  have : x = r := by rw [hf0] at er; exact Option.some.inj er
  subst this
  have hr1 := hr.1
  have hr2 := hr.2
  have hb := B.2.2.1
  have hnc := ncnt_le (NL := Ch) (lo := lo) (hi := hi) (x := x)
  unfold fJ6_putTreeVal
  rw [TT.q B.1 [(13, 6)] rfl (by simp), bd_s, B.2.1]
  unfold ifN fJ6_putTreeVal_b21
  simp only
  unfold ptvR
  have := pH_ptv_L (o6 := none) (v := v) hlen hn TT D B hx ho A ht htx hv' hi' h0 h1 hf hk (ncnt Ch lo hi x) x FU (Nat.le_refl _) (by unfold FU; omega) B.1 (by omega) (by omega)
  rcases this with ⟨a, ha, e1, e2⟩ | ⟨q1, h', Ch', R', C', f', e2, q⟩
  · exact Or.inl ⟨a, ha, e1, e2⟩
  · exact Or.inr ⟨q1, h', Ch', R', C', f', e2, q⟩

set_option maxRecDepth 100000
/-! PURE: a hash table's bins; a value is looked up -/
/-- one entry: hash, key, value -/
abbrev En : Type := Int × Option Nat × Option Nat
/-- a plain row of nodes -/
def PB (h : hS) (H : Nat → Int) (K V : Nat → Option Nat) (q : Option Nat) : List Nat → Prop
  | [] => True
  | a :: A => h.1 a = some (.inl (12, [vi (H a), vq (K a), vq (V a), vq (hdO A q)])) ∧ PB h H K V q A
theorem PB_app {h : hS} {H : Nat → Int} {K V : Nat → Option Nat} {q : Option Nat} : ∀ (A B : List Nat), PB h H K V q (A ++ B) ↔ PB h H K V (hdO B q) A ∧ PB h H K V q B := by
  intro A
  induction A with
  | nil => intro B; simp [PB]
  | cons a A ih =>
    intro B
    simp only [List.cons_append, PB, ih]
    have : hdO (A ++ B) q = hdO A (hdO B q) := by cases A <;> rfl
    rw [this, and_assoc]
theorem PB_cg {h h' : hS} {H H' : Nat → Int} {K V K' V' : Nat → Option Nat} {q : Option Nat} : ∀ (A : List Nat), (∀ a, a ∈ A → h'.1 a = h.1 a ∧ H' a = H a ∧ K' a = K a ∧ V' a = V a) → PB h H K V q A → PB h' H' K' V' q A := by
  intro A
  induction A with
  | nil => intro _ _; trivial
  | cons a A ih =>
    rintro h0 ⟨h1, h2⟩
    obtain ⟨e1, e2, e3, e4⟩ := h0 a (by simp)
    exact ⟨by rw [e1, e2, e3, e4]; exact h1, ih (fun b hb => h0 b (by simp [hb])) h2⟩
/-- the entry a node holds -/
def tE (H : Nat → Int) (K V : Nat → Option Nat) (a : Nat) : En := (H a, K a, V a)
/-- a bin: a plain row or a tree, with these entries -/
def BC (h : hS) (b : Bool) (L : List Nat) (E : List En) : Prop :=
  ∃ H K V, (match b with
    | true => L.Nodup ∧ PB h H K V none L
    | false => ∃ R C, TB h L H K V R C) ∧ (L.map (tE H K V)).Perm E ∧ ∀ a, a ∈ L → a < h.2.1
/-- what a node can be asked -/
def ndA (h : hS) (a : Nat) (t : En) (nx : Option Nat) (c : Nat) : Prop :=
  hI h (some a) [(12, 0), (13, 2)] = some t.1 ∧ hQ h (some a) [(12, 1), (13, 3)] = some t.2.1 ∧ hQ h (some a) [(12, 2), (13, 4)] = some t.2.2 ∧ hQ h (some a) [(12, 3), (13, 5)] = some nx ∧ hC h (some a) = some c
theorem ndA_p {h : hS} {a : Nat} {H : Int} {K V nx : Option Nat} (e : h.1 a = some (.inl (12, [vi H, vq K, vq V, vq nx]))) : ndA h a (H, K, V) nx 12 := by
  unfold ndA hI hQ hC hF nn
  simp only [e]
  refine ⟨rfl, rfl, rfl, rfl, ?_⟩
  simp only
theorem ndA_t {h : hS} {N : Nat → Prop} {H : Nat → Int} {K V : Nat → Option Nat} {R : TR} {C : Nat → Int} {a : Nat} (T : TS h N H K V R C) (ha : N a) : ndA h a (tE H K V a) (R a 5) 13 :=
  ⟨T.hh ha _ rfl, T.k ha _ rfl, T.v ha _ rfl, T.q ha _ rfl (by simp), T.cl ha⟩
theorem inC_13 {h : hS} {a : Nat} (e : hC h (some a) = some 13) : inC h (some a) [13] = true := by
  unfold inC
  rw [e]; rfl
theorem inC_12 {h : hS} {a : Nat} (e : hC h (some a) = some 12) : ¬ inC h (some a) [13] = true := by
  unfold inC
  rw [e]; decide
/-- the keys of equal hash are equal -/
def KE (h : hS) (o : Nat) (hv : Int) (E : List En) : Prop := ∀ e, e ∈ E → e.1 = hv → e.2.1 = some o ∨ ∃ w, w ≠ 0 ∧ D1_equals h (some o) e.2.1 = some w
/-- what is found -/
def GR (h : hS) (L : List Nat) (E : List En) (hv : Int) (z : Option Nat) : Prop := match z with
  | none => ∀ e, e ∈ E → e.1 ≠ hv
  | some a => a ∈ L ∧ hI h (some a) [(12, 0), (13, 2)] = some hv
/-- a plain row is looked through -/
theorem pH_get_L99 {h : hS} {H : Nat → Int} {K V : Nat → Option Nat} {hv : Int} {o : Nat} : ∀ (Y : List Nat) (y f : Nat), PB h H K V none (y :: Y) → (∀ a, a ∈ y :: Y → H a = hv → K a = some o ∨ ∃ w, w ≠ 0 ∧ D1_equals h (some o) (K a) = some w) → Y.length < f →
    ∃ z, fJ1_getNode_L99 f h (some o) (some y) hv = some z ∧ (match z with
      | none => ∀ a, a ∈ y :: Y → H a ≠ hv
      | some a => a ∈ y :: Y ∧ H a = hv) := by
  intro Y
  induction Y with
  | nil =>
    intro y f P hk hf
    obtain ⟨f, rfl⟩ : ∃ k, f = k + 1 := ⟨f - 1, by omega⟩
    obtain ⟨r1, r2, r3, r4, r5⟩ := ndA_p P.1
    rw [fJ1_getNode_L99_s, fJ1_getNode_b99, r1, bd_s]
    unfold fJ1_getNode_b137 fJ1_getNode_b134 fJ1_getNode_b148
    rw [r4, bd_s]
    simp only [hdO, ifN]
    by_cases c : H y = hv
    · rw [if_neg (by simpa using c), r2, bd_s]
      simp only
      refine ⟨some y, ?_, by simp, c⟩
      by_cases c2 : K y = some o
      · rw [if_pos c2]
      · rw [if_neg c2]
        rcases hk y (by simp) c with e | ⟨w, w0, e⟩
        · exact absurd e c2
        · rw [e, bd_s, if_neg w0]
    · rw [if_pos (by simpa using c)]
      exact ⟨none, rfl, by simpa using c⟩
  | cons z Y ih =>
    intro y f P hk hf
    obtain ⟨f, rfl⟩ : ∃ k, f = k + 1 := ⟨f - 1, by omega⟩
    obtain ⟨r1, r2, r3, r4, r5⟩ := ndA_p P.1
    rw [fJ1_getNode_L99_s, fJ1_getNode_b99, r1, bd_s]
    unfold fJ1_getNode_b137 fJ1_getNode_b134 fJ1_getNode_b148
    rw [r4, bd_s]
    simp only [hdO, ifN]
    by_cases c : H y = hv
    · rw [if_neg (by simpa using c), r2, bd_s]
      simp only
      refine ⟨some y, ?_, by simp, c⟩
      by_cases c2 : K y = some o
      · rw [if_pos c2]
      · rw [if_neg c2]
        rcases hk y (by simp) c with e | ⟨w, w0, e⟩
        · exact absurd e c2
        · rw [e, bd_s, if_neg w0]
    · rw [if_pos (by simpa using c)]
      obtain ⟨q, e, hq⟩ := ih z f P.2 (fun a ha => hk a (List.mem_cons_of_mem _ ha)) (by simp at hf ⊢; omega)
      refine ⟨q, e, ?_⟩
      cases q with
      | none =>
        intro a ha
        rcases List.mem_cons.mp ha with rfl | ha
        · exact c
        · exact hq a ha
      | some a => exact ⟨List.mem_cons_of_mem _ hq.1, hq.2⟩
/-- a bin is looked through -/
theorem pH_bin {h : hS} {b : Bool} {x : Nat} {Y : List Nat} {E : List En} {hv : Int} {o : Nat} (B : BC h b (x :: Y) E) (hr : rI hv) (hlen : (x :: Y).length < 80000) (hk : KE h o hv E) :
    ∃ z, (bd (hI h (some x) [(12, 0), (13, 2)]) fun v16 => if ¬ v16 = hv then fJ1_getNode_b71 h (some o) (some x) hv else bd (hQ h (some x) [(12, 1), (13, 3)]) fun v19 => if v19 = some o then fJ1_getNode_b69 h (some x) else ifN (some o) (fJ1_getNode_b71 h (some o) (some x) hv) (fun _ => bd (D1_equals h (some o) v19) fun p24 => if p24 = 0 then fJ1_getNode_b71 h (some o) (some x) hv else fJ1_getNode_b69 h (some x))) = some z ∧ GR h (x :: Y) E hv z := by
  obtain ⟨H, K, V, K0, hp, hlt⟩ := B
  have hkk : ∀ a, a ∈ x :: Y → H a = hv → K a = some o ∨ ∃ w, w ≠ 0 ∧ D1_equals h (some o) (K a) = some w := by
    intro a ha e
    exact hk (tE H K V a) (hp.mem_iff.mp (List.mem_map.mpr ⟨a, ha, rfl⟩)) e
  have none_ : (∀ a, a ∈ x :: Y → H a ≠ hv) → GR h (x :: Y) E hv none := by
    intro q e he
    obtain ⟨a, ha, rfl⟩ := List.mem_map.mp (hp.mem_iff.mpr he)
    exact q a ha
  cases b with
  | true =>
    obtain ⟨nd, P⟩ := K0
    obtain ⟨r1, r2, r3, r4, r5⟩ := ndA_p P.1
    have hI' : ∀ a, a ∈ x :: Y → hI h (some a) [(12, 0), (13, 2)] = some (H a) := by
      intro a ha
      obtain ⟨A, B, e⟩ := List.append_of_mem ha
      rw [e, PB_app] at P
      exact (ndA_p P.2.1).1
    rw [r1, bd_s]
    unfold fJ1_getNode_b71 fJ1_getNode_b69 fJ1_getNode_b148
    rw [r4, bd_s, if_neg (inC_12 r5), gd_t r5]
    simp only [ifN]
    by_cases c : H x = hv
    · rw [if_neg (by simpa using c), r2, bd_s]
      simp only
      refine ⟨some x, ?_, by simp, by rw [← c]; exact r1⟩
      by_cases c2 : K x = some o
      · rw [if_pos c2]
      · rw [if_neg c2]
        rcases hkk x (by simp) c with e | ⟨w, w0, e⟩
        · exact absurd e c2
        · rw [e, bd_s, if_neg w0]
    · rw [if_pos (by simpa using c)]
      cases Y with
      | nil =>
        simp only [hdO]
        exact ⟨none, rfl, none_ (by simpa using c)⟩
      | cons z Y =>
        simp only [hdO]
        obtain ⟨q, e, hq⟩ := pH_get_L99 (hv := hv) (o := o) Y z FU P.2 (fun a ha => hkk a (List.mem_cons_of_mem _ ha)) (by simp at hlen; unfold FU; omega)
        refine ⟨q, e, ?_⟩
        cases q with
        | none =>
          refine none_ (fun a ha => ?_)
          rcases List.mem_cons.mp ha with rfl | ha
          · exact c
          · exact hq a ha
        | some a => exact ⟨List.mem_cons_of_mem _ hq.1, by rw [← hq.2]; exact hI' a (List.mem_cons_of_mem _ hq.1)⟩
  | false =>
    obtain ⟨R, C, T⟩ := K0
    obtain ⟨nd, TT, D, r, lo, hi, er, B⟩ := T
    have hxm : x ∈ x :: Y := by simp
    obtain ⟨r1, r2, r3, r4, r5⟩ := ndA_t TT (show x ∈ x :: Y from hxm)
    have r1 : hI h (some x) [(12, 0), (13, 2)] = some (H x) := r1
    have r2 : hQ h (some x) [(12, 1), (13, 3)] = some (K x) := r2
    have hI' : ∀ a, a ∈ x :: Y → hI h (some a) [(12, 0), (13, 2)] = some (H a) := fun a ha => (ndA_t TT (show a ∈ x :: Y from ha)).1
    rw [r1, bd_s]
    unfold fJ1_getNode_b71 fJ1_getNode_b69 fJ1_getNode_b148
    rw [r4, bd_s, if_pos (inC_13 r5), gd_t (Or.inr (inC_13 r5)), gd_t r5]
    simp only [ifN]
    by_cases c : H x = hv
    · rw [if_neg (by simpa using c), r2, bd_s]
      refine ⟨some x, ?_, by simp, by rw [← c]; exact r1⟩
      by_cases c2 : K x = some o
      · rw [if_pos c2]
      · rw [if_neg c2]
        rcases hkk x (by simp) c with e | ⟨w, w0, e⟩
        · exact absurd e c2
        · rw [e, bd_s, if_neg w0]
    · rw [if_pos (by simpa using c)]
      have d5 : R x 5 = hdO Y none := D.2.1
      rw [d5]
      cases Y with
      | nil =>
        simp only [hdO]
        exact ⟨none, rfl, none_ (by simpa using c)⟩
      | cons z Y =>
        simp only [hdO]
        obtain ⟨q, e, hq⟩ := pH_getTreeNode (by omega) TT B hxm hr hkk
        rw [e, bd_s]
        refine ⟨q, rfl, ?_⟩
        cases q with
        | none => exact none_ hq
        | some a => exact ⟨hq.1, by rw [← hq.2]; exact hI' a hq.1⟩

set_option maxRecDepth 100000
/-! PURE: a hash's place in a table -/
/-- a hash as 32 bits -/
def uu (x : Int) : Nat := (x % 4294967296).toNat
theorem uu_bv (x : Int) : (I32 x).toBitVec = BitVec.ofNat 32 (uu x) := by
  show (Int32.ofInt x).toBitVec = _
  rw [Int32.toBitVec_ofInt]
  apply BitVec.eq_of_toNat_eq
  rw [BitVec.toNat_ofInt, BitVec.toNat_ofNat]
  unfold uu
  have h1 : 0 ≤ x % 4294967296 := Int.emod_nonneg _ (by omega)
  have h2 : x % 4294967296 < 4294967296 := Int.emod_lt_of_pos _ (by omega)
  have e : ((2 ^ 32 : Nat) : Int) = 4294967296 := rfl
  rw [e]
  omega
theorem iand_c (x y : Int) : iand x y = iand y x := by
  unfold iand
  rw [p_i32bv, p_i32bv, Int32.toBitVec_and, Int32.toBitVec_and, BitVec.and_comm]
theorem iand_nat (x : Int) {b : Nat} (hb : b < 2147483648) : iand (b : Int) x = ((b &&& uu x : Nat) : Int) := by
  unfold iand
  rw [p_i32bv, Int32.toBitVec_and, p_I32nat hb, uu_bv, ← BitVec.ofNat_and]
  exact p_bvnat (Nat.lt_of_le_of_lt Nat.and_le_left hb)
/-- the place of a hash -/
def ix (n : Nat) (x : Int) : Int := iand (wr ((n : Int) - 1)) x
theorem ix_k {k : Nat} (hk : k ≤ 30) (x : Int) : ix (2 ^ k) x = ((uu x % 2 ^ k : Nat) : Int) := by
  have hp : 2 ^ k ≤ 2 ^ 30 := Nat.pow_le_pow_right (by omega) hk
  have hp0 : 0 < 2 ^ k := Nat.pow_pos (by omega)
  have h30 : (2 : Nat) ^ 30 = 1073741824 := rfl
  unfold ix
  have e : wr (((2 ^ k : Nat) : Int) - 1) = ((2 ^ k - 1 : Nat) : Int) := by rw [wr_id (by omega) (by omega)]; omega
  rw [e, iand_nat x (by omega), Nat.and_comm, Nat.and_two_pow_sub_one_eq_mod]
theorem ix_lt {k : Nat} (hk : k ≤ 30) (x : Int) : 0 ≤ ix (2 ^ k) x ∧ ix (2 ^ k) x < ((2 ^ k : Nat) : Int) := by
  rw [ix_k hk x]
  have hp0 : 0 < 2 ^ k := Nat.pow_pos (by omega)
  have := Nat.mod_lt (uu x) hp0
  omega
/-- which half a hash goes to when the table doubles -/
theorem ix_2 {k : Nat} (hk : k ≤ 29) (x : Int) : (iand x ((2 ^ k : Nat) : Int) = 0 → ix (2 ^ (k + 1)) x = ix (2 ^ k) x) ∧ (¬ iand x ((2 ^ k : Nat) : Int) = 0 → ix (2 ^ (k + 1)) x = ix (2 ^ k) x + ((2 ^ k : Nat) : Int)) := by
  have hp : 2 ^ k ≤ 2 ^ 29 := Nat.pow_le_pow_right (by omega) hk
  have h29 : (2 : Nat) ^ 29 = 536870912 := rfl
  rw [ix_k (by omega), ix_k (by omega), iand_c, iand_nat x (by omega)]
  have e : uu x % 2 ^ (k + 1) = uu x % 2 ^ k + 2 ^ k * ((uu x).testBit k).toNat := by rw [Nat.mod_pow_succ, Nat.toNat_testBit]
  have e2 : (2 ^ k &&& uu x) = 2 ^ k * ((uu x).testBit k).toNat := by
    apply Nat.eq_of_testBit_eq
    intro i
    rw [Nat.testBit_and, Nat.testBit_two_pow]
    by_cases c : k = i
    · subst c
      cases (uu x).testBit k <;> simp [Nat.testBit_two_pow]
    · cases (uu x).testBit k <;> simp [Nat.testBit_two_pow, c]
  have hp0 : 0 < 2 ^ k := Nat.pow_pos (by omega)
  rw [e2, e]
  cases (uu x).testBit k
  · simp
  · simp only [Bool.toNat_true, Nat.mul_one]
    constructor
    · intro q; omega
    · intro _; omega

set_option maxRecDepth 100000
/-! PURE: the hash map; get -/
def HT (h : hS) (tab n : Nat) (f : Int → Option Nat) (Ls : Int → List Nat) (pl : Int → Bool) (E : List En) : Prop :=
  arQ h 6 n tab f ∧ tab < h.2.1 ∧ ∀ i : Int, 0 ≤ i → i < (n : Int) → f i = (Ls i).head? ∧ BC h (pl i) (Ls i) (E.filter fun e => decide (ix n e.1 = i))
/-- the map at mp holds the entries E; F are its cells; Q what it may still cost -/
def HM (N : Nat) (h : hS) (mp : Nat) (E : List En) (F : Nat → Prop) (Q : Nat) : Prop :=
  ∃ (tq : Option Nat) (mc thr : Int) (lf : hV), h.1 mp = some (.inl (11, [vq none, vq none, vq tq, vq none, vi (E.length : Nat), vi mc, vi thr, lf])) ∧ F mp ∧ (∀ a, F a → a < h.2.1) ∧ (E.map (·.1)).Nodup ∧ (∀ e, e ∈ E → rI e.1) ∧
    match tq with
    | none => E = [] ∧ thr = 0 ∧ 4 * N ≤ Q
    | some tab => ∃ (k n : Nat) (f : Int → Option Nat) (Ls : Int → List Nat) (pl : Int → Bool), n = 2 ^ k ∧ 4 ≤ k ∧ n ≤ N ∧ F tab ∧ (∀ (i : Int) (a : Nat), 0 ≤ i → i < (n : Int) → a ∈ Ls i → F a) ∧ HT h tab n f Ls pl E ∧ 4 * thr = 3 * (n : Int) ∧ 4 * E.length ≤ 3 * n ∧ 3 * E.countP (fun e => pl (ix n e.1)) + 4 * (N - n) ≤ Q
/-- the value of a hash -/
def mgt (E : List En) (hv : Int) : Option Nat := match E.find? (fun e => decide (e.1 = hv)) with
  | some e => e.2.2
  | none => none
theorem mgt_of {E : List En} {hv : Int} (hn : (E.map (·.1)).Nodup) {e : En} (he : e ∈ E) (h1 : e.1 = hv) : mgt E hv = e.2.2 := by
  unfold mgt
  cases q : E.find? (fun e => decide (e.1 = hv)) with
  | none => exact absurd (List.find?_eq_none.mp q e he) (by simpa using h1)
  | some e' =>
    have m := List.mem_of_find?_eq_some q
    have c := List.find?_some q
    have c : e'.1 = hv := by simpa using c
    have : e' = e := by
      clear q
      induction E with
      | nil => cases he
      | cons x E ih =>
        simp only [List.map_cons, List.nodup_cons] at hn
        rcases List.mem_cons.mp he with rfl | he'
        · rcases List.mem_cons.mp m with rfl | m
          · rfl
          · exact absurd (List.mem_map.mpr ⟨e', m, c.trans h1.symm⟩) hn.1
        · rcases List.mem_cons.mp m with rfl | m
          · exact (hn.1 (List.mem_map.mpr ⟨e, he', h1.trans c.symm⟩)).elim
          · exact ih hn.2 he' m
    rw [this]
theorem mgt_no {E : List En} {hv : Int} (h : ∀ e, e ∈ E → e.1 ≠ hv) : mgt E hv = none := by
  unfold mgt
  rw [List.find?_eq_none.mpr (fun e he => by simpa using h e he)]
/-- what a node of a bin holds -/
theorem BC.at {h : hS} {b : Bool} {L : List Nat} {E : List En} (B : BC h b L E) {a : Nat} (ha : a ∈ L) : ∃ e nx c, e ∈ E ∧ ndA h a e nx c ∧ (c = 12 ∨ c = 13) := by
  obtain ⟨H, K, V, K0, hp, hlt⟩ := B
  have hm : tE H K V a ∈ E := hp.mem_iff.mp (List.mem_map.mpr ⟨a, ha, rfl⟩)
  cases b with
  | true =>
    obtain ⟨nd, P⟩ := K0
    obtain ⟨A, B, e⟩ := List.append_of_mem ha
    rw [e, PB_app] at P
    exact ⟨_, _, 12, hm, ndA_p P.2.1, Or.inl rfl⟩
  | false =>
    obtain ⟨R, C, T⟩ := K0
    exact ⟨_, _, 13, hm, ndA_t T.2.1 (show a ∈ L from ha), Or.inr rfl⟩
theorem BC.len {h : hS} {b : Bool} {L : List Nat} {E : List En} (B : BC h b L E) : L.length = E.length := by
  obtain ⟨H, K, V, K0, hp, hlt⟩ := B
  have := hp.length_eq
  simpa using this
theorem HT.at {h : hS} {tab n k : Nat} {f : Int → Option Nat} {Ls : Int → List Nat} {pl : Int → Bool} {E : List En} (T : HT h tab n f Ls pl E) (hn : n = 2 ^ k) (hk : k ≤ 30) (hv : Int) :
    0 ≤ ix n hv ∧ ix n hv < n ∧ aQ h (some tab) 6 (ix n hv) = some ((Ls (ix n hv)).head?) ∧ BC h (pl (ix n hv)) (Ls (ix n hv)) (E.filter fun e => decide (ix n e.1 = ix n hv)) := by
  obtain ⟨A, ht, hb⟩ := T
  subst hn
  obtain ⟨l0, l1⟩ := ix_lt hk hv
  obtain ⟨e, B⟩ := hb (ix (2 ^ k) hv) l0 l1
  exact ⟨l0, l1, by rw [A.q l0 l1, e], B⟩
theorem pow_le_of {k : Nat} (h : 2 ^ k ≤ 65536) : k ≤ 16 := by
  rcases Nat.lt_or_ge 16 k with q | q
  · have : 2 ^ 17 ≤ 2 ^ k := Nat.pow_le_pow_right (by omega) (by omega)
    have e : (2 : Nat) ^ 17 = 131072 := rfl
    omega
  · exact q
theorem pH_get {N : Nat} {h : hS} {mp : Nat} {E : List En} {F : Nat → Prop} {Q o : Nat} {hv : Int} (hN : N ≤ 65536) (M : HM N h mp E F Q) (hh : fJ1_hash h (some o) = some hv) (hr : rI hv) (hk : KE h o hv E) : fJ1_get h (some mp) (some o) = some (mgt E hv) := by
  obtain ⟨tq, mc, thr, lf, e0, hFm, hlt, nd, hrE, T⟩ := M
  have c0 : hC h (some mp) = some 11 := by unfold hC nn; simp only [e0]
  have q0 : hQ h (some mp) [(11, 2)] = some tq := by unfold hQ hF nn; simp only [e0]; rfl
  unfold fJ1_get
  rw [gd_t c0]
  unfold fJ1_getNode fJ1_getNode_b148 fJ1_get_b18
  rw [q0, bd_s]
  cases tq with
  | none =>
    obtain ⟨rfl, -, -⟩ := T
    rfl
  | some tab =>
    obtain ⟨k, n, f, Ls, pl, hn, hk4, hnN, hFt, hFn, T, ht, hl, hQ'⟩ := T
    have hk16 : k ≤ 16 := pow_le_of (by omega)
    have hnp : 0 < n := by rw [hn]; exact Nat.pow_pos (by omega)
    obtain ⟨l0, l1, ea, B⟩ := T.at hn (by omega) hv
    unfold ifN
    simp only
    rw [T.1.l, bd_s, if_neg (by omega), hh, bd_s]
    rw [show iand (wr ((n : Int) - 1)) hv = ix n hv from rfl, ea, bd_s]
    cases eL : Ls (ix n hv) with
    | nil =>
      rw [eL] at B
      have := B.len
      simp only [List.head?_nil, bd_s]
      rw [mgt_no]
      intro e he h1
      have m : e ∈ E.filter (fun e => decide (ix n e.1 = ix n hv)) := List.mem_filter.mpr ⟨he, by simp [h1]⟩
      rw [List.length_nil] at this
      have := List.length_pos_of_mem m
      omega
    | cons x Y =>
      rw [eL] at B
      have hlen : (x :: Y).length < 80000 := by
        rw [B.len]
        have : (E.filter (fun e => decide (ix n e.1 = ix n hv))).length ≤ E.length := List.length_filter_le _ _
        omega
      obtain ⟨z, ez, gz⟩ := pH_bin B hr hlen (fun e he => hk e (List.mem_filter.mp he).1)
      simp only [List.head?_cons]
      unfold ifN at ez
      simp only at ez
      rw [ez, bd_s]
      cases z with
      | none =>
        simp only
        rw [mgt_no]
        intro e he h1
        exact gz e (List.mem_filter.mpr ⟨he, by simp [h1]⟩) h1
      | some a =>
        obtain ⟨ha, h1⟩ := gz
        obtain ⟨e, nx, c, he, ⟨r1, r2, r3, r4, r5⟩, -⟩ := B.at ha
        simp only
        rw [r3, bd_s]
        have : e.1 = hv := by rw [h1] at r1; exact (Option.some.inj r1).symm
        rw [mgt_of nd (List.mem_filter.mp he).1 this]

set_option maxRecDepth 100000
/-! PURE: the hash map; a value replaced, a node appended -/
theorem TB.cg {h h' : hS} {Ch : List Nat} {H : Nat → Int} {K V : Nat → Option Nat} {R : TR} {C : Nat → Int} (T : TB h Ch H K V R C) (e : ∀ a, a ∈ Ch → h'.1 a = h.1 a) : TB h' Ch H K V R C :=
  ⟨T.1, T.2.1.cg e, T.2.2⟩
theorem BC.cg {h h' : hS} {b : Bool} {L : List Nat} {E : List En} (B : BC h b L E) (e : ∀ a, a ∈ L → h'.1 a = h.1 a) (hle : h.2.1 ≤ h'.2.1) : BC h' b L E := by
  obtain ⟨H, K, V, K0, hp, hlt⟩ := B
  refine ⟨H, K, V, ?_, hp, fun a ha => by have := hlt a ha; omega⟩
  cases b with
  | true => exact ⟨K0.1, PB_cg L (fun a ha => ⟨e a ha, rfl, rfl, rfl⟩) K0.2⟩
  | false =>
    obtain ⟨R, C, T⟩ := K0
    exact ⟨R, C, T.cg e⟩
theorem BC.perm {h : hS} {b : Bool} {L : List Nat} {E E' : List En} (B : BC h b L E) (p : E.Perm E') : BC h b L E' := by
  obtain ⟨H, K, V, K0, hp, hlt⟩ := B
  exact ⟨H, K, V, K0, hp.trans p, hlt⟩
/-- a value replaced -/
def upE (hv : Int) (v : Option Nat) (e : En) : En := if e.1 = hv then (e.1, e.2.1, v) else e
theorem hnd_inj {H : Nat → Int} {K V : Nat → Option Nat} {E : List En} {L : List Nat} (hp : (L.map (tE H K V)).Perm E) (nd : (E.map (·.1)).Nodup) : ∀ a b, a ∈ L → b ∈ L → H a = H b → a = b := by
  have n1 : ((L.map (tE H K V)).map (·.1)).Nodup := (hp.map _).nodup_iff.mpr nd
  rw [List.map_map] at n1
  clear hp nd
  induction L with
  | nil => intro a b ha; cases ha
  | cons x L ih =>
    simp only [List.map_cons, List.nodup_cons] at n1
    intro a b ha hb e
    rcases List.mem_cons.mp ha with rfl | ha'
    · rcases List.mem_cons.mp hb with rfl | hb'
      · rfl
      · exact (n1.1 (List.mem_map.mpr ⟨b, hb', e.symm⟩)).elim
    · rcases List.mem_cons.mp hb with rfl | hb'
      · exact (n1.1 (List.mem_map.mpr ⟨a, ha', e⟩)).elim
      · exact ih n1.2 a b ha' hb' e
theorem PB_at {h : hS} {H : Nat → Int} {K V : Nat → Option Nat} {q : Option Nat} {L : List Nat} (P : PB h H K V q L) {a : Nat} (ha : a ∈ L) : ∃ nx, h.1 a = some (.inl (12, [vi (H a), vq (K a), vq (V a), vq nx])) := by
  obtain ⟨A, B, e⟩ := List.append_of_mem ha
  rw [e, PB_app] at P
  exact ⟨_, P.2.1⟩
theorem PB_v {h h' : hS} {H : Nat → Int} {K V : Nat → Option Nat} {q v : Option Nat} {a : Nat} (e : ∀ x y, h.1 a = some (.inl (12, [vi (H a), vq (K a), x, y])) → h'.1 a = some (.inl (12, [vi (H a), vq (K a), vq v, y]))) (o : ∀ b, b ≠ a → h'.1 b = h.1 b) :
    ∀ (L : List Nat), PB h H K V q L → PB h' H K (upO V a v) q L := by
  intro L
  induction L with
  | nil => intro _; trivial
  | cons b L ih =>
    rintro ⟨p1, p2⟩
    refine ⟨?_, ih p2⟩
    by_cases c : b = a
    · subst c; rw [e _ _ p1]; simp [upO]
    · rw [o b c, p1]; simp [upO, c]
theorem BC.upd {h : hS} {b : Bool} {L : List Nat} {E : List En} {hv : Int} {a : Nat} (B : BC h b L E) (nd : (E.map (·.1)).Nodup) (ha : a ∈ L) (hI' : hI h (some a) [(12, 0), (13, 2)] = some hv) (v : Option Nat) :
    ∃ h', hW h (some a) [(12, 2), (13, 4)] (vq v) = some h' ∧ BC h' b L (E.map (upE hv v)) ∧ (∀ c, c ≠ a → h'.1 c = h.1 c) ∧ h'.2 = h.2 := by
  obtain ⟨H, K, V, K0, hp, hlt⟩ := B
  have inj := hnd_inj hp nd
  have main : H a = hv → (L.map (tE H K (upO V a v))).Perm (E.map (upE hv v)) := by
    intro e
    have : L.map (tE H K (upO V a v)) = (L.map (tE H K V)).map (upE hv v) := by
      rw [List.map_map]
      apply List.map_congr_left
      intro c hc
      simp only [Function.comp, tE, upE, upO]
      by_cases q : c = a
      · subst q; simp [e]
      · have : H c ≠ hv := fun w => q (inj c a hc ha (w.trans e.symm))
        simp [q, this]
    rw [this]
    exact hp.map _
  cases b with
  | true =>
    obtain ⟨nx, ea⟩ := PB_at K0.2 ha
    have e1 : H a = hv := by
      rw [(ndA_p ea).1] at hI'; exact Option.some.inj hI'
    obtain ⟨h', e', a', o', s'⟩ := hW_at (P := [(12, 2), (13, 4)]) (v := vq v) ea rfl (by simp)
    refine ⟨h', e', ⟨H, K, upO V a v, ⟨K0.1, PB_v (fun x y q => ?_) o' L K0.2⟩, main e1, fun c hc => by rw [s']; exact hlt c hc⟩, o', s'⟩
    rw [a']
    rw [ea] at q
    simp only [Option.some.injEq, Sum.inl.injEq, Prod.mk.injEq, List.cons.injEq, true_and, and_true] at q
    simp [q.2]
  | false =>
    obtain ⟨R, C, nd', T, D, r⟩ := K0
    have ea := T a ha
    have e1 : H a = hv := by
      rw [(ndA_t T (show a ∈ L from ha)).1] at hI'; exact Option.some.inj hI'
    obtain ⟨h', e', a', o', s'⟩ := hW_at (P := [(12, 2), (13, 4)]) (v := vq v) ea rfl (by simp [tnL])
    refine ⟨h', e', ⟨H, K, upO V a v, ⟨R, C, nd', fun c hc => ?_, D, r⟩, main e1, fun c hc => by rw [s']; exact hlt c hc⟩, o', s'⟩
    by_cases q : c = a
    · subst q; rw [a']; simp [tnL, upO]
    · rw [o' c q, T c hc]; simp [tnL, upO, q]
theorem p_newNode (h : hS) (m : Option Nat) (hv : Int) (k v nx : Option Nat) :
    ∃ h', fJ1_newNode h m hv k v nx = some (some h.2.1, h') ∧ h'.1 h.2.1 = some (.inl (12, [vi hv, vq k, vq v, vq nx])) ∧ (∀ b, b ≠ h.2.1 → h'.1 b = h.1 b) ∧ h'.2.1 = h.2.1 + 1 ∧ h'.2.2 = h.2.2 + 4 := by
  unfold fJ1_newNode nwS
  rw [bd_s]
  dsimp only
  unfold fJ4_init
  rw [gd_t (by simp)]
  obtain ⟨h1, e1, a1, o1, s1⟩ := hW_at (P := [(12, 0), (13, 2)]) (v := vi hv) (nwO_at h 12 [vi 0, vq none, vq none, vq none]) rfl (by simp)
  obtain ⟨h2, e2, a2, o2, s2⟩ := hW_at (P := [(12, 1), (13, 3)]) (v := vq k) a1 rfl (by simp)
  obtain ⟨h3, e3, a3, o3, s3⟩ := hW_at (P := [(12, 2), (13, 4)]) (v := vq v) a2 rfl (by simp)
  obtain ⟨h4, e4, a4, o4, s4⟩ := hW_at (P := [(12, 3), (13, 5)]) (v := vq nx) a3 rfl (by simp)
  rw [e1, bd_s, e2, bd_s, e3, bd_s, e4, bd_s, bd_s]
  refine ⟨h4, rfl, by rw [a4]; rfl, fun b hb => by rw [o4 b hb, o3 b hb, o2 b hb, o1 b hb, nwO_ne h 12 [vi 0, vq none, vq none, vq none] hb], ?_, ?_⟩
  · rw [s4, s3, s2, s1]; rfl
  · rw [s4, s3, s2, s1]; rfl

set_option maxRecDepth 100000
/-! PURE: the hash map; a plain row is gone through for a put -/
/-- what follows when a new node hangs at the end -/
def aft (h2 : hS) (mp : Nat) (hv : Int) (v : Option Nat) (tab : Nat) (c : Int) : Option (Option Nat × hS) :=
  if c < 7 then fJ1_putVal_b222 h2 (some mp) v 0 1 none else gd (hC h2 (some mp) = some 11) (bd (fJ1_treeifyBin h2 (some mp) (some tab) hv) fun p15 => fJ1_putVal_b222 p15 (some mp) v 0 1 none)
theorem PB_nw {h h1 : hS} {H : Nat → Int} {K V : Nat → Option Nat} {q : Option Nat} {x : Nat} {hv : Int} {k v : Option Nat} {L : List Nat} (hx : x ∉ L) (o : ∀ b, b ∈ L → h1.1 b = h.1 b) (P : PB h H K V q L) : PB h1 (upN H x hv) (upO K x k) (upO V x v) q L := by
  refine PB_cg L (fun a ha => ?_) P
  have : a ≠ x := fun e => hx (e ▸ ha)
  exact ⟨o a ha, by simp [upN, this], by simp [upO, this], by simp [upO, this]⟩
theorem pH_134 {h : hS} {H : Nat → Int} {K V : Nat → Option Nat} {mp k tab : Nat} {v : Option Nat} {hv : Int} (hm : hC h (some mp) = some 11) :
    ∀ (Y : List Nat) (y f : Nat) (cnt : Int), PB h H K V none (y :: Y) → (y :: Y).Nodup → h.2.1 ∉ y :: Y → (∀ a, a ∈ Y → H a = hv → K a = some k ∨ ∃ w, w ≠ 0 ∧ D1_equals h (some k) (K a) = some w) → Y.length < f → 0 ≤ cnt → cnt + Y.length < 100000 →
    (∃ a, a ∈ Y ∧ H a = hv ∧ fJ1_putVal_L134 f h (some mp) hv (some k) v 0 1 (some tab) (some y) cnt = fJ1_putVal_b222 h (some mp) v 0 1 (some a)) ∨
    ((∀ a, a ∈ Y → H a ≠ hv) ∧ ∃ h2, fJ1_putVal_L134 f h (some mp) hv (some k) v 0 1 (some tab) (some y) cnt = aft h2 mp hv v tab (cnt + Y.length) ∧ PB h2 (upN H h.2.1 hv) (upO K h.2.1 (some k)) (upO V h.2.1 v) none (y :: Y ++ [h.2.1]) ∧ (∀ b, b ∉ y :: Y → b ≠ h.2.1 → h2.1 b = h.1 b) ∧ h2.2.1 = h.2.1 + 1 ∧ h2.2.2 = h.2.2 + 4) := by
  intro Y
  induction Y with
  | nil =>
    intro y f cnt P nd hx hk hf h0 h1
    obtain ⟨f, rfl⟩ : ∃ k, f = k + 1 := ⟨f - 1, by omega⟩
    right
    refine ⟨by simp, ?_⟩
    have hyx : y ≠ h.2.1 := fun e => hx (by simp [e])
    rw [fJ1_putVal_L134_s, fJ1_putVal_b134, (ndA_p P.1).2.2.2.1, bd_s]
    simp only [hdO, ifN]
    rw [gd_t hm]
    obtain ⟨h1', e1, a1, o1, s1, s1'⟩ := p_newNode h (some mp) hv (some k) v none
    rw [e1, bd_s]
    have ey : h1'.1 y = some (.inl (12, [vi (H y), vq (K y), vq (V y), vq (hdO [] none)])) := by rw [o1 y hyx]; exact P.1
    obtain ⟨h2, e2, a2, o2, s2⟩ := hW_at (P := [(12, 3), (13, 5)]) (v := vq (some h.2.1)) ey rfl (by simp)
    simp only
    rw [e2, bd_s]
    refine ⟨h2, ?_, ?_, ?_, ?_, ?_⟩
    · unfold aft
      simp
    · refine ⟨?_, ?_, trivial⟩
      · rw [a2]; simp [upN, upO, hyx, hdO]
      · rw [o2 _ hyx.symm, a1]; simp [upN, upO, hdO]
    · intro b hb hbx
      rw [o2 b (by simpa using hb), o1 b hbx]
    · rw [s2, s1]
    · rw [s2, s1']
  | cons z Y ih =>
    intro y f cnt P nd hx hk hf h0 h1
    obtain ⟨f, rfl⟩ : ∃ k, f = k + 1 := ⟨f - 1, by omega⟩
    obtain ⟨r1, r2, r3, r4, r5⟩ := ndA_p P.2.1
    rw [fJ1_putVal_L134_s, fJ1_putVal_b134, (ndA_p P.1).2.2.2.1, bd_s]
    simp only [hdO, ifN]
    rw [r1, bd_s]
    have w1 : wr (cnt + 1) = cnt + 1 := wr_id (by simp at h1; omega) (by simp at h1; omega)
    by_cases c : H z = hv
    · left
      refine ⟨z, by simp, c, ?_⟩
      rw [if_neg (by simpa using c), r2, bd_s]
      simp only
      by_cases c2 : K z = some k
      · rw [if_pos c2]
      · rw [if_neg c2]
        rcases hk z (by simp) c with e | ⟨w, w0, e⟩
        · exact absurd e c2
        · rw [e, bd_s, if_neg w0]
    · rw [if_pos (by simpa using c)]
      unfold fJ1_putVal_b212
      rw [w1]
      have nd' := (List.nodup_cons.mp nd)
      rcases ih z f (cnt + 1) P.2 nd'.2 (fun q => hx (List.mem_cons_of_mem _ q)) (fun a ha => hk a (List.mem_cons_of_mem _ ha)) (by simp at hf ⊢; omega) (by omega) (by simp at h1 ⊢; omega) with ⟨a, ha, e1, e2⟩ | ⟨q1, h2, e2, P2, o2, s2, s2'⟩
      · exact Or.inl ⟨a, List.mem_cons_of_mem _ ha, e1, e2⟩
      · right
        refine ⟨?_, h2, ?_, ?_, fun b hb hbx => o2 b (fun q => hb (List.mem_cons_of_mem _ q)) hbx, s2, s2'⟩
        · intro a ha
          rcases List.mem_cons.mp ha with rfl | ha
          · exact c
          · exact q1 a ha
        · rw [e2]
          congr 1
          simp only [List.length_cons]; omega
        · have hyx : y ≠ h.2.1 := fun e => hx (by simp [e])
          refine ⟨?_, P2⟩
          rw [o2 y nd'.1 hyx, P.1]
          simp [upN, upO, hyx, hdO]

set_option maxRecDepth 100000
/-! PURE: the hash map; a plain row becomes a tree -/
theorem p_replT {h : hS} {m : Option Nat} {p : Nat} {t : En} {n1 nx : Option Nat} {c : Nat} (nd : ndA h p t n1 c) (hp : p ≠ h.2.1) :
    ∃ h', fJ1_replacementTreeNode h m (some p) nx = some (some h.2.1, h') ∧ h'.1 h.2.1 = some (.inl (13, [vq none, vq none, vi t.1, vq t.2.1, vq t.2.2, vq nx, vq none, vq none, vq none, vq none, vi 0])) ∧ (∀ b, b ≠ h.2.1 → h'.1 b = h.1 b) ∧ h'.2.1 = h.2.1 + 1 ∧ h'.2.2 = h.2.2 + 11 := by
  obtain ⟨h', e, r⟩ := p_newTreeNode h m t.1 t.2.1 t.2.2 nx
  refine ⟨h', ?_, r⟩
  rw [← e]
  unfold fJ1_replacementTreeNode fJ1_newTreeNode nwS
  rw [bd_s, bd_s]
  dsimp only
  obtain ⟨n1, n2, n3, n4, n5⟩ := nd
  have cg : ∀ P, hI (nwO h 13 [vq none, vq none, vi 0, vq none, vq none, vq none, vq none, vq none, vq none, vq none, vi 0]) (some p) P = hI h (some p) P := by
    intro P; unfold hI hF nn; simp only [nwO_ne h 13 [vq none, vq none, vi 0, vq none, vq none, vq none, vq none, vq none, vq none, vq none, vi 0] hp]
  have cq : ∀ P, hQ (nwO h 13 [vq none, vq none, vi 0, vq none, vq none, vq none, vq none, vq none, vq none, vq none, vi 0]) (some p) P = hQ h (some p) P := by
    intro P; unfold hQ hF nn; simp only [nwO_ne h 13 [vq none, vq none, vi 0, vq none, vq none, vq none, vq none, vq none, vq none, vq none, vi 0] hp]
  rw [cg, n1, bd_s, cq, n2, bd_s, cq, n3, bd_s]
/-- new tree nodes in a row -/
def TL (h : hS) (Ch : List Nat) (E : List En) : Prop :=
  ∃ H K V R C, Ch.Nodup ∧ TS h (fun a => a ∈ Ch) H K V R C ∧ DL R none none Ch ∧ Ch.map (tE H K V) = E ∧ ∀ a, a ∈ Ch → a < h.2.1
theorem DL_one {R : TR} {x : Nat} (h5 : R x 5 = none) (h9 : R x 9 = none) : DL R none none [x] := ⟨h9, h5, trivial⟩
theorem TL_step {h : hS} {m : Option Nat} {Ch : List Nat} {E : List En} (T : TL h Ch E) {p : Nat} {t : En} {n1 : Option Nat} {c : Nat} (nd : ndA h p t n1 c) (hp : p < h.2.1) (K43 : hS → Option Nat → Option Nat → Option hS) :
    ∃ h', (bd (fJ1_replacementTreeNode h m (some p) none) fun p1 => ifN (lsO none Ch) (K43 p1.2 p1.1 p1.1) (fun _ => bd (hW p1.2 p1.1 [(13, 9)] (vq (lsO none Ch))) fun h9 => bd (hW h9 (lsO none Ch) [(13, 5)] (vq p1.1)) fun h12 => K43 h12 (hdO Ch none) p1.1)) = K43 h' (hdO (Ch ++ [h.2.1]) none) (lsO none (Ch ++ [h.2.1])) ∧
      TL h' (Ch ++ [h.2.1]) (E ++ [t]) ∧ (∀ b, b ∉ Ch → b ≠ h.2.1 → h'.1 b = h.1 b) ∧ h'.2.1 = h.2.1 + 1 ∧ h'.2.2 = h.2.2 + 11 := by
  obtain ⟨H, K, V, R, C, nn', TT, D, hm, hlt⟩ := T
  have hx : h.2.1 ∉ Ch := fun q => by have := hlt _ q; omega
  obtain ⟨h1, e1, a1, o1, s1, s1'⟩ := p_replT (m := m) (nx := none) nd (by omega)
  rw [e1, bd_s]
  have T1 := TT.nw hx a1 o1
  have nd1 : (Ch ++ [h.2.1]).Nodup := by
    rw [List.nodup_append]
    exact ⟨nn', by simp, fun a ha b hb => by simp at hb; subst hb; rintro rfl; exact hx ha⟩
  have mp1 : (Ch ++ [h.2.1]).map (tE (upN H h.2.1 t.1) (upO K h.2.1 t.2.1) (upO V h.2.1 t.2.2)) = E ++ [t] := by
    rw [List.map_append, ← hm]
    congr 1
    · apply List.map_congr_left
      intro a ha
      have : a ≠ h.2.1 := fun e => hx (e ▸ ha)
      simp [tE, upN, upO, this]
    · simp [tE, upN, upO]
  have lt1 : ∀ h' : hS, h'.2.1 = h.2.1 + 1 → ∀ a, a ∈ Ch ++ [h.2.1] → a < h'.2.1 := by
    intro h' e a ha
    rw [e]
    rcases List.mem_append.mp ha with q | q
    · have := hlt a q; omega
    · simp at q; omega
  rcases List.eq_nil_or_concat Ch with rfl | ⟨A, z, rfl⟩
  · simp only [lsO, ifN, List.nil_append, hdO]
    refine ⟨h1, rfl, ⟨_, _, _, _, _, nd1, fun a ha => T1 a (by simpa using ha), DL_one (by simp [nwR]) (by simp [nwR]), mp1, lt1 h1 s1⟩, fun b _ hb => o1 b hb, s1, s1'⟩
  · have ez : ∀ (p : Option Nat) (A : List Nat) (z : Nat), lsO p (A ++ [z]) = some z := by
      intro p A
      induction A generalizing p with
      | nil => intro z; rfl
      | cons a A ih => intro z; exact ih (some a) z
    rw [List.concat_eq_append] at *
    have hz : z ∈ A ++ [z] := by simp
    have hzx : z ≠ h.2.1 := fun e => hx (e ▸ hz)
    have hzA : z ∉ A := fun q => by
      rw [List.nodup_append] at nn'
      exact nn'.2.2 z q z (by simp) rfl
    rw [ez, ez]
    simp only [ifN]
    obtain ⟨h2, e2, T2, o2⟩ := T1.w (show h.2.1 = h.2.1 ∨ h.2.1 ∈ A ++ [z] from Or.inl rfl) [(13, 9)] rfl (by simp) (some z)
    obtain ⟨h3, e3, T3, o3⟩ := T2.w (show z = h.2.1 ∨ z ∈ A ++ [z] from Or.inr hz) [(13, 5)] rfl (by simp) (some h.2.1)
    rw [e2, bd_s, e3, bd_s]
    have hh : hdO (A ++ [z] ++ [h.2.1]) none = hdO (A ++ [z]) none := by cases A <;> rfl
    rw [hh]
    refine ⟨h3, rfl, ⟨_, _, _, _, _, nd1, fun a ha => T3 a ?_, ?_, mp1, lt1 h3 (by rw [o3.2, o2.2, s1])⟩, ?_, by rw [o3.2, o2.2, s1], by rw [o3.2, o2.2, s1']⟩
    · rcases List.mem_append.mp ha with q | q
      · exact Or.inr q
      · simp at q; exact Or.inl q
    · rw [DL_app, ez]
      rw [DL_app] at D ⊢
      obtain ⟨d1, d9, d5, -⟩ := D
      simp only [hdO] at *
      refine ⟨⟨DL_cg A _ (fun b hb => ?_) d1, ?_, ?_, trivial⟩, ?_, ?_, trivial⟩
      · have b1 : b ≠ z := fun e => hzA (e ▸ hb)
        have b2 : b ≠ h.2.1 := fun e => hx (by rw [← e]; simp [hb])
        simp [trU, nwR, b1, b2]
      · simp [trU, nwR, hzx, d9]
      · simp [trU, hdO]
      · simp [trU, hzx.symm]
      · simp [trU, nwR, hzx.symm, hdO]
    · intro b hb hbx
      have : ¬ (b = h.2.1 ∨ b ∈ A ++ [z]) := fun q => by rcases q with q | q; exact hbx q; exact hb q
      rw [o3.1 b this, o2.1 b this, o1 b hbx]

