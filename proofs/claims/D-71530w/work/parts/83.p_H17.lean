/-! the pure laws: H17 H18 H19 H20 H21 H22 -/
set_option maxRecDepth 100000
/-! PURE: the hash map; a plain row becomes a tree, all of it -/
theorem hC_cg {h h' : hS} {a : Nat} (e : h'.1 a = h.1 a) : hC h' (some a) = hC h (some a) := by
  unfold hC nn; simp only [e]
theorem TL.c13 {h : hS} {Ch : List Nat} {E : List En} (T : TL h Ch E) {a : Nat} (ha : a ∈ Ch) : hC h (some a) = some 13 := by
  obtain ⟨H, K, V, R, C, nn', TT, D, hm, hlt⟩ := T
  exact TT.cl (show a ∈ Ch from ha)
theorem pH_L43 {H : Nat → Int} {K V : Nat → Option Nat} {mp tab : Nat} {i : Int} : ∀ (Y : List Nat) (y f : Nat) (h : hS) (Ch : List Nat) (E : List En), PB h H K V none (y :: Y) → (∀ a, a ∈ y :: Y → a < h.2.1) → hC h (some mp) = some 11 → mp < h.2.1 → TL h Ch E → Y.length < f →
    ∃ h' Ch', fJ1_treeifyBin_L43 f h (some mp) (some tab) i (some y) (hdO Ch none) (lsO none Ch) = (bd (aWQ h' (some tab) 6 [12, 13] i (hdO Ch' none)) fun h5 => ifN (hdO Ch' none) (fJ1_treeifyBin_b109 h5) (fun _ => gd (hC h5 (hdO Ch' none) = some 13) (bd (fJ6_treeify h5 (hdO Ch' none) (some tab)) fun p10 => fJ1_treeifyBin_b109 p10))) ∧
      TL h' Ch' (E ++ (y :: Y).map (tE H K V)) ∧ (∀ b, b ∉ Ch → b < h.2.1 → h'.1 b = h.1 b) ∧ (∀ a, a ∈ Ch' → a ∈ Ch ∨ h.2.1 ≤ a) ∧ h'.2.1 = h.2.1 + (Y.length + 1) ∧ h'.2.2 = h.2.2 + 11 * (Y.length + 1) := by
  intro Y
  induction Y with
  | nil =>
    intro y f h Ch E P hlt hm hmp T hf
    obtain ⟨f, rfl⟩ : ∃ k, f = k + 1 := ⟨f - 1, by omega⟩
    have hn := ndA_p P.1
    obtain ⟨h1, e1, T1, o1, s1, s1'⟩ := TL_step (m := some mp) T hn (hlt y (by simp)) (fun h o6 o8 => fJ1_treeifyBin_b78 (fJ1_treeifyBin_L43 f) h (some mp) (some tab) i (some y) o6 o8)
    refine ⟨h1, Ch ++ [h.2.1], ?_, T1, fun b hb hlb => o1 b hb (by omega), ?_, s1, s1'⟩
    · rw [fJ1_treeifyBin_L43_s, fJ1_treeifyBin_b43, gd_t hm]
      refine Eq.trans e1 ?_
      have hy1 : h1.1 y = h.1 y := o1 y (fun q => by have q1 := T.c13 q; rw [hn.2.2.2.2] at q1; cases q1) (by have := hlt y (by simp); omega)
      have hn1 : ndA h1 y (tE H K V y) (hdO [] none) 12 := ndA_p (by rw [hy1]; exact P.1)
      unfold fJ1_treeifyBin_b78
      rw [hn1.2.2.2.1, bd_s]
      rfl
    · intro a ha
      rcases List.mem_append.mp ha with q | q
      · exact Or.inl q
      · simp at q; right; omega
  | cons z Y ih =>
    intro y f h Ch E P hlt hm hmp T hf
    obtain ⟨f, rfl⟩ : ∃ k, f = k + 1 := ⟨f - 1, by omega⟩
    have hn := ndA_p P.1
    have nCh : ∀ a, a ∈ y :: z :: Y → a ∉ Ch := by
      intro a ha q
      have q1 := T.c13 q
      obtain ⟨nx, e⟩ := PB_at P ha
      rw [(ndA_p e).2.2.2.2] at q1; cases q1
    obtain ⟨h1, e1, T1, o1, s1, s1'⟩ := TL_step (m := some mp) T hn (hlt y (by simp)) (fun h o6 o8 => fJ1_treeifyBin_b78 (fJ1_treeifyBin_L43 f) h (some mp) (some tab) i (some y) o6 o8)
    have keep : ∀ a, a ∈ y :: z :: Y → h1.1 a = h.1 a := fun a ha => o1 a (nCh a ha) (by have := hlt a ha; omega)
    have hm1 : hC h1 (some mp) = some 11 := by
      rw [hC_cg (o1 mp (fun q => by have q1 := T.c13 q; rw [hm] at q1; cases q1) (by omega))]; exact hm
    have P1 : PB h1 H K V none (z :: Y) := PB_cg _ (fun a ha => ⟨keep a (List.mem_cons_of_mem _ ha), rfl, rfl, rfl⟩) P.2
    obtain ⟨h2, Ch2, e2, T2, o2, m2, s2, s2'⟩ := ih z f h1 (Ch ++ [h.2.1]) (E ++ [tE H K V y]) P1 (fun a ha => by have := hlt a (List.mem_cons_of_mem _ ha); omega) hm1 (by omega) T1 (by simp at hf ⊢; omega)
    refine ⟨h2, Ch2, ?_, ?_, ?_, ?_, ?_, ?_⟩
    · rw [fJ1_treeifyBin_L43_s, fJ1_treeifyBin_b43, gd_t hm]
      refine Eq.trans e1 ?_
      have hn1 : ndA h1 y (tE H K V y) (hdO (z :: Y) none) 12 := ndA_p (by rw [keep y (by simp)]; exact P.1)
      unfold fJ1_treeifyBin_b78
      rw [hn1.2.2.2.1, bd_s]
      simp only [hdO, ifN] at e2 ⊢
      exact e2
    · rw [List.append_assoc] at T2
      exact T2
    · intro b hb hlb
      rw [o2 b (fun q => by rcases List.mem_append.mp q with q | q; exact hb q; simp at q; omega) (by omega), o1 b hb (by omega)]
    · intro a ha
      rcases m2 a ha with q | q
      · rcases List.mem_append.mp q with q | q
        · exact Or.inl q
        · simp at q; right; omega
      · right; omega
    · rw [s2, s1]; simp only [List.length_cons]; omega
    · rw [s2', s1']; simp only [List.length_cons]; omega
theorem nodup_of_map {α β : Type} {f : α → β} : ∀ {L : List α}, (L.map f).Nodup → ∀ a b, a ∈ L → b ∈ L → f a = f b → a = b := by
  intro L
  induction L with
  | nil => intro _ a b ha; cases ha
  | cons x L ih =>
    intro n1 a b ha hb e
    simp only [List.map_cons, List.nodup_cons] at n1
    rcases List.mem_cons.mp ha with rfl | ha'
    · rcases List.mem_cons.mp hb with rfl | hb'
      · rfl
      · exact (n1.1 (List.mem_map.mpr ⟨b, hb', e.symm⟩)).elim
    · rcases List.mem_cons.mp hb with rfl | hb'
      · exact (n1.1 (List.mem_map.mpr ⟨a, ha', e⟩)).elim
      · exact ih n1.2 a b ha' hb' e
/-- a row of tree nodes at its place in the table becomes a tree -/
theorem TL_treeify {h : hS} {Ch : List Nat} {E : List En} {tab n : Nat} {f : Int → Option Nat} {i : Int} (T : TL h Ch E) (hne : Ch ≠ []) (hlen : Ch.length < 80000) (ndE : (E.map (·.1)).Nodup) (hr : ∀ e, e ∈ E → rI e.1) (hi : ∀ e, e ∈ E → ix n e.1 = i) (A : arQ h 6 n tab f) (h0 : 0 ≤ i) (h1 : i < n) :
    ∃ h' Ch' f', (bd (aWQ h (some tab) 6 [12, 13] i (hdO Ch none)) fun h5 => gd (hC h5 (hdO Ch none) = some 13) (fJ6_treeify h5 (hdO Ch none) (some tab))) = some h' ∧ BC h' false Ch' E ∧ (∀ a, a ∈ Ch' ↔ a ∈ Ch) ∧ arQ h' 6 n tab f' ∧ f' i = Ch'.head? ∧ (∀ j, j ≠ i → f' j = f j) ∧ (∀ b, b ∉ Ch → b ≠ tab → h'.1 b = h.1 b) ∧ h'.2 = h.2 := by
  have hc13 : ∀ a, a ∈ Ch → hC h (some a) = some 13 := fun a ha => T.c13 ha
  obtain ⟨H, K, V, R, C, nn', TT, D, hm, hlt⟩ := T
  cases Ch with
  | nil => exact absurd rfl hne
  | cons x X =>
    have ht : tab ∉ x :: X := by
      intro q
      have := hc13 tab q
      unfold arQ at A
      unfold hC nn at this
      simp only [A] at this
      cases this
    obtain ⟨h2, e2, A2, o2, s2⟩ := A.w h0 h1 (P := [12, 13]) (v := hdO (x :: X) none) (Or.inr ⟨13, by simp, hc13 x (by simp)⟩)
    have T2 : TS h2 (fun a => a ∈ x :: X) H K V R C := TT.cg (fun a ha => o2 a (fun q => ht (q ▸ ha)))
    have inE : ∀ a, a ∈ x :: X → tE H K V a ∈ E := fun a ha => by rw [← hm]; exact List.mem_map.mpr ⟨a, ha, rfl⟩
    have hH : ∀ a b, a ∈ x :: X → b ∈ x :: X → a ≠ b → H a ≠ H b := by
      intro a b ha hb hab e
      rw [← hm, List.map_map] at ndE
      exact hab (nodup_of_map ndE a b ha hb e)
    have hrr : ∀ a, a ∈ x :: X → rI (H a) := fun a ha => hr (tE H K V a) (inE a ha)
    have hix : ∀ a, a ∈ x :: X → iand (wr ((n : Int) - 1)) (H a) = i := fun a ha => by
      have := hi (tE H K V a) (inE a ha)
      unfold ix tE at this
      exact this
    obtain ⟨h3, Ch3, R3, C3, f3, e3, T3, m3, A3, fi3, fj3, o3, s3⟩ := pH_treeify (x := x) hlen nn' T2 D rfl hH hrr A2 ht (i := i) hix h0 h1 (by simp [upI, hdO])
    have g3 : hC h2 (hdO (x :: X) none) = some 13 := by
      show hC h2 (some x) = some 13
      rw [hC_cg (o2 x (fun q => ht (by rw [← q]; simp)))]; exact hc13 x (by simp)
    rw [e2, bd_s, gd_t g3, show fJ6_treeify h2 (hdO (x :: X) none) (some tab) = some h3 from e3]
    refine ⟨h3, Ch3, f3, rfl, ⟨H, K, V, ⟨R3, C3, T3⟩, ?_, fun a ha => by rw [s3, s2]; exact hlt a ((m3 a).mp ha)⟩, m3, A3, fi3, fun j hj => by rw [fj3 j hj]; simp [upI, hj], fun b hb hbt => by rw [o3 b hb hbt, o2 b hbt], by rw [s3, s2]⟩
    rw [← hm]
    exact ((List.perm_ext_iff_of_nodup T3.1 nn').mpr m3).map _

set_option maxRecDepth 100000
/-! PURE: the hash map; a row of tree nodes becomes plain -/
theorem p_replN {h : hS} {m : Option Nat} {p : Nat} {t : En} {n1 nx : Option Nat} {c : Nat} (nd : ndA h p t n1 c) (hp : p ≠ h.2.1) :
    ∃ h', fJ1_replacementNode h m (some p) nx = some (some h.2.1, h') ∧ h'.1 h.2.1 = some (.inl (12, [vi t.1, vq t.2.1, vq t.2.2, vq nx])) ∧ (∀ b, b ≠ h.2.1 → h'.1 b = h.1 b) ∧ h'.2.1 = h.2.1 + 1 ∧ h'.2.2 = h.2.2 + 4 := by
  obtain ⟨h', e, r⟩ := p_newNode h m t.1 t.2.1 t.2.2 nx
  refine ⟨h', ?_, r⟩
  rw [← e]
  unfold fJ1_replacementNode fJ1_newNode nwS
  rw [bd_s, bd_s]
  dsimp only
  obtain ⟨n1, n2, n3, n4, n5⟩ := nd
  have cg : ∀ P, hI (nwO h 12 [vi 0, vq none, vq none, vq none]) (some p) P = hI h (some p) P := by
    intro P; unfold hI hF nn; simp only [nwO_ne h 12 [vi 0, vq none, vq none, vq none] hp]
  have cq : ∀ P, hQ (nwO h 12 [vi 0, vq none, vq none, vq none]) (some p) P = hQ h (some p) P := by
    intro P; unfold hQ hF nn; simp only [nwO_ne h 12 [vi 0, vq none, vq none, vq none] hp]
  rw [cg, n1, bd_s, cq, n2, bd_s, cq, n3, bd_s]
/-- new plain nodes in a row -/
def PL (h : hS) (Ch : List Nat) (E : List En) : Prop :=
  ∃ H K V, Ch.Nodup ∧ PB h H K V none Ch ∧ Ch.map (tE H K V) = E ∧ ∀ a, a ∈ Ch → a < h.2.1
theorem PL.bc {h : hS} {Ch : List Nat} {E : List En} (T : PL h Ch E) : BC h true Ch E := by
  obtain ⟨H, K, V, nd, P, e, hlt⟩ := T
  exact ⟨H, K, V, ⟨nd, P⟩, by rw [e], hlt⟩
theorem lsO_app (p : Option Nat) (A : List Nat) (z : Nat) : lsO p (A ++ [z]) = some z := by
  induction A generalizing p with
  | nil => rfl
  | cons a A ih => exact ih (some a)
theorem PL_step {h : hS} {m : Option Nat} {Ch : List Nat} {E : List En} (T : PL h Ch E) {p : Nat} {t : En} {n1 : Option Nat} {c : Nat} (nd : ndA h p t n1 c) (hp : p < h.2.1) (K7 : hS → Option Nat → Option Nat → Option (Option Nat × hS)) :
    ∃ h', (bd (fJ1_replacementNode h m (some p) none) fun p3 => ifN (lsO none Ch) (K7 p3.2 p3.1 p3.1) (fun _ => bd (hW p3.2 (lsO none Ch) [(12, 3), (13, 5)] (vq p3.1)) fun h11 => K7 h11 (hdO Ch none) p3.1)) = K7 h' (hdO (Ch ++ [h.2.1]) none) (lsO none (Ch ++ [h.2.1])) ∧
      PL h' (Ch ++ [h.2.1]) (E ++ [t]) ∧ (∀ b, b ∉ Ch → b ≠ h.2.1 → h'.1 b = h.1 b) ∧ h'.2.1 = h.2.1 + 1 ∧ h'.2.2 = h.2.2 + 4 := by
  obtain ⟨H, K, V, nn', P, hm, hlt⟩ := T
  have hx : h.2.1 ∉ Ch := fun q => by have := hlt _ q; omega
  obtain ⟨h1, e1, a1, o1, s1, s1'⟩ := p_replN (m := m) (nx := none) nd (by omega)
  rw [e1, bd_s]
  have P1 : PB h1 (upN H h.2.1 t.1) (upO K h.2.1 t.2.1) (upO V h.2.1 t.2.2) none Ch := PB_nw hx (fun b hb => o1 b (fun e => hx (e ▸ hb))) P
  have nd1 : (Ch ++ [h.2.1]).Nodup := by
    rw [List.nodup_append]
    exact ⟨nn', by simp, fun a ha b hb => by simp at hb; subst hb; rintro rfl; exact hx ha⟩
  have mp1 : (Ch ++ [h.2.1]).map (tE (upN H h.2.1 t.1) (upO K h.2.1 t.2.1) (upO V h.2.1 t.2.2)) = E ++ [t] := by
    rw [List.map_append, ← hm]
    congr 1
    · apply List.map_congr_left
      intro a ha
      have : a ≠ h.2.1 := fun e => hx (e ▸ ha)
      simp [tE, upN, upO, this]
    · simp [tE, upN, upO]
  have lt1 : ∀ h' : hS, h'.2.1 = h.2.1 + 1 → ∀ a, a ∈ Ch ++ [h.2.1] → a < h'.2.1 := by
    intro h' e a ha
    rw [e]
    rcases List.mem_append.mp ha with q | q
    · have := hlt a q; omega
    · simp at q; omega
  rcases List.eq_nil_or_concat Ch with rfl | ⟨A, z, rfl⟩
  · simp only [lsO, ifN, List.nil_append, hdO]
    refine ⟨h1, rfl, ⟨_, _, _, nd1, ⟨?_, trivial⟩, mp1, lt1 h1 s1⟩, fun b _ hb => o1 b hb, s1, s1'⟩
    rw [a1]; simp [upN, upO, hdO]
  · rw [List.concat_eq_append] at *
    have hz : z ∈ A ++ [z] := by simp
    have hzx : z ≠ h.2.1 := fun e => hx (e ▸ hz)
    have hzA : z ∉ A := fun q => by
      rw [List.nodup_append] at nn'
      exact nn'.2.2 z q z (by simp) rfl
    rw [lsO_app, lsO_app]
    simp only [ifN]
    rw [PB_app] at P1
    obtain ⟨pA, pz, -⟩ := P1
    obtain ⟨h2, e2, a2, o2, s2⟩ := hW_at (P := [(12, 3), (13, 5)]) (v := vq (some h.2.1)) pz rfl (by simp)
    rw [e2, bd_s]
    have hh : hdO (A ++ [z] ++ [h.2.1]) none = hdO (A ++ [z]) none := by cases A <;> rfl
    rw [hh]
    refine ⟨h2, rfl, ⟨_, _, _, nd1, ?_, mp1, lt1 h2 (by rw [s2, s1])⟩, ?_, by rw [s2, s1], by rw [s2, s1']⟩
    · rw [PB_app, PB_app]
      refine ⟨⟨PB_cg A (fun a ha => ⟨o2 a (fun e => hzA (e ▸ ha)), rfl, rfl, rfl⟩) pA, ?_, trivial⟩, ?_, trivial⟩
      · rw [a2]; simp [hdO]
      · rw [o2 _ hzx.symm, a1]; simp [upN, upO, hdO]
    · intro b hb hbx
      rw [o2 b (fun e => hb (by rw [e]; exact hz)), o1 b hbx]
/-- a chain of nodes -/
def NC (h : hS) (c : Nat) : List Nat → List En → Prop
  | [], [] => True
  | a :: A, t :: T => ndA h a t (hdO A none) c ∧ a < h.2.1 ∧ NC h c A T
  | _, _ => False
theorem ndA_cg {h h' : hS} {a : Nat} {t : En} {nx : Option Nat} {c : Nat} (e : h'.1 a = h.1 a) (n : ndA h a t nx c) : ndA h' a t nx c := by
  unfold ndA hI hQ hC hF nn at *
  simp only at *
  rw [e]; exact n
theorem NC_cg {h h' : hS} {c : Nat} (hle : h.2.1 ≤ h'.2.1) : ∀ (A : List Nat) (T : List En), (∀ a, a ∈ A → h'.1 a = h.1 a) → NC h c A T → NC h' c A T := by
  intro A
  induction A with
  | nil => intro T _ n; cases T <;> exact n
  | cons a A ih =>
    intro T e n
    cases T with
    | nil => exact n
    | cons t T => exact ⟨ndA_cg (e a (by simp)) n.1, by have := n.2.1; omega, ih T (fun b hb => e b (List.mem_cons_of_mem _ hb)) n.2.2⟩
theorem NC_c {h : hS} {c : Nat} : ∀ (A : List Nat) (T : List En), NC h c A T → ∀ a, a ∈ A → hC h (some a) = some c := by
  intro A
  induction A with
  | nil => intro T _ a ha; cases ha
  | cons a A ih =>
    intro T n b hb
    cases T with
    | nil => exact absurd n id
    | cons t T =>
      rcases List.mem_cons.mp hb with rfl | hb
      · exact n.1.2.2.2.2
      · exact ih T n.2.2 b hb
theorem PL.c12 {h : hS} {Ch : List Nat} {E : List En} (T : PL h Ch E) {a : Nat} (ha : a ∈ Ch) : hC h (some a) = some 12 := by
  obtain ⟨H, K, V, nn', P, hm, hlt⟩ := T
  obtain ⟨nx, e⟩ := PB_at P ha
  exact (ndA_p e).2.2.2.2
theorem pH_unt_L7 {mp : Nat} : ∀ (Y : List Nat) (T : List En) (f : Nat) (h : hS) (Ch : List Nat) (E : List En), NC h 13 Y T → hC h (some mp) = some 11 → mp < h.2.1 → PL h Ch E → Y.length < f →
    ∃ h' Ch', fJ6_untreeify_L7 f h (some mp) (hdO Ch none) (lsO none Ch) (hdO Y none) = some (hdO Ch' none, h') ∧ PL h' Ch' (E ++ T) ∧ (∀ b, b ∉ Ch → b < h.2.1 → h'.1 b = h.1 b) ∧ (∀ a, a ∈ Ch' → a ∈ Ch ∨ h.2.1 ≤ a) ∧ h'.2.1 = h.2.1 + Y.length ∧ h'.2.2 = h.2.2 + 4 * Y.length := by
  intro Y
  induction Y with
  | nil =>
    intro T f h Ch E n hm hmp P hf
    obtain ⟨f, rfl⟩ : ∃ k, f = k + 1 := ⟨f - 1, by omega⟩
    cases T with
    | cons t T => exact absurd n id
    | nil =>
      rw [fJ6_untreeify_L7_s, fJ6_untreeify_b7]
      simp only [hdO, ifN]
      exact ⟨h, Ch, rfl, by rw [List.append_nil]; exact P, fun _ _ _ => rfl, fun a ha => Or.inl ha, rfl, rfl⟩
  | cons y Y ih =>
    intro T f h Ch E n hm hmp P hf
    obtain ⟨f, rfl⟩ : ∃ k, f = k + 1 := ⟨f - 1, by omega⟩
    cases T with
    | nil => exact absurd n id
    | cons t T =>
      obtain ⟨n1, nlt, n2⟩ := n
      obtain ⟨h1, e1, P1, o1, s1, s1'⟩ := PL_step (m := some mp) P n1 nlt (fun h o2 o5 => fJ6_untreeify_b37 (fJ6_untreeify_L7 f) h (some mp) o2 (some y) o5)
      have nCh : ∀ a, a ∈ y :: Y → a ∉ Ch := by
        intro a ha q
        have q1 := P.c12 q
        rw [NC_c (y :: Y) (t :: T) ⟨n1, nlt, n2⟩ a ha] at q1; cases q1
      have ltY : ∀ (A : List Nat) (T : List En), NC h 13 A T → ∀ a, a ∈ A → a < h.2.1 := by
        intro A
        induction A with
        | nil => intro T _ a ha; cases ha
        | cons a A ih =>
          intro T n b hb
          cases T with
          | nil => exact absurd n id
          | cons t T =>
            rcases List.mem_cons.mp hb with rfl | hb
            · exact n.2.1
            · exact ih T n.2.2 b hb
      have keep : ∀ a, a ∈ y :: Y → h1.1 a = h.1 a := by
        intro a ha
        have : a < h.2.1 := ltY (y :: Y) (t :: T) ⟨n1, nlt, n2⟩ a ha
        exact o1 a (nCh a ha) (by omega)
      have hm1 : hC h1 (some mp) = some 11 := by
        rw [hC_cg (o1 mp (fun q => by have q1 := P.c12 q; rw [hm] at q1; cases q1) (by omega))]; exact hm
      obtain ⟨h2, Ch2, e2, P2, o2, m2, s2, s2'⟩ := ih T f h1 (Ch ++ [h.2.1]) (E ++ [t]) (NC_cg (by omega) Y T (fun a ha => keep a (List.mem_cons_of_mem _ ha)) n2) hm1 (by omega) P1 (by simp at hf ⊢; omega)
      refine ⟨h2, Ch2, ?_, ?_, ?_, ?_, ?_, ?_⟩
      · rw [fJ6_untreeify_L7_s, fJ6_untreeify_b7]
        have e0 : hdO (y :: Y) none = some y := rfl
        rw [e0]
        simp only [ifN]
        rw [gd_t hm]
        simp only [ifN] at e1
        refine Eq.trans e1 ?_
        unfold fJ6_untreeify_b37
        rw [(ndA_cg (keep y (by simp)) n1).2.2.2.1, bd_s]
        exact e2
      · rw [List.append_assoc] at P2
        exact P2
      · intro b hb hlb
        rw [o2 b (fun q => by rcases List.mem_append.mp q with q | q; exact hb q; simp at q; omega) (by omega), o1 b hb (by omega)]
      · intro a ha
        rcases m2 a ha with q | q
        · rcases List.mem_append.mp q with q | q
          · exact Or.inl q
          · simp at q; right; omega
        · right; omega
      · rw [s2, s1]; simp only [List.length_cons]; omega
      · rw [s2', s1']; simp only [List.length_cons]; omega
theorem pH_untreeify {h : hS} {mp : Nat} {Y : List Nat} {T : List En} {q : Option Nat} (hq : hdO Y none = q) (n : NC h 13 Y T) (hm : hC h (some mp) = some 11) (hmp : mp < h.2.1) (hlen : Y.length < 80000) :
    ∃ h' Ch', fJ6_untreeify h q (some mp) = some (hdO Ch' none, h') ∧ PL h' Ch' T ∧ (∀ b, b < h.2.1 → h'.1 b = h.1 b) ∧ (∀ a, a ∈ Ch' → h.2.1 ≤ a) ∧ h'.2.1 = h.2.1 + Y.length ∧ h'.2.2 = h.2.2 + 4 * Y.length := by
  obtain ⟨h', Ch', e, P, o, m, s, s'⟩ := pH_unt_L7 (mp := mp) Y T FU h [] [] n hm hmp ⟨fun _ => 0, fun _ => none, fun _ => none, List.nodup_nil, trivial, rfl, fun a ha => by cases ha⟩ (by unfold FU; omega)
  refine ⟨h', Ch', ?_, P, fun b hb => o b (by simp) hb, fun a ha => ?_, s, s'⟩
  · unfold fJ6_untreeify
    rw [← hq]; exact e
  · rcases m a ha with q | q
    · cases q
    · exact q

set_option maxRecDepth 100000
/-! PURE: the hash map; one half of a split tree bin -/
theorem NC_of {h : hS} {N : Nat → Prop} {H : Nat → Int} {K V : Nat → Option Nat} {R : TR} {C : Nat → Int} (T : TS h N H K V R C) : ∀ (A : List Nat) (p : Option Nat), (∀ a, a ∈ A → N a ∧ a < h.2.1) → DL R none p A → NC h 13 A (A.map (tE H K V)) := by
  intro A
  induction A with
  | nil => intro p _ _; trivial
  | cons a A ih =>
    rintro p hN ⟨d9, d5, d⟩
    refine ⟨?_, (hN a (by simp)).2, ih (some a) (fun b hb => hN b (List.mem_cons_of_mem _ hb)) d⟩
    have := ndA_t T (hN a (by simp)).1
    rw [d5] at this
    exact this
/-- a new value in the table may leave the bins as they are -/
theorem BC.tab {h h' : hS} {b : Bool} {L : List Nat} {E : List En} {tab n : Nat} {f : Int → Option Nat} (B : BC h b L E) (A : arQ h 6 n tab f) (o : ∀ c, c ≠ tab → h'.1 c = h.1 c) (hle : h.2.1 ≤ h'.2.1) : BC h' b L E := by
  refine B.cg (fun a ha => o a ?_) hle
  rintro rfl
  obtain ⟨e, nx, c, he, n, -⟩ := B.at ha
  have q := n.2.2.2.2
  unfold hC nn at q
  unfold arQ at A
  simp only [A] at q
  cases q
theorem pH_half {h : hS} {mp tab n : Nat} {A : List Nat} {E : List En} {c i : Int} {f : Int → Option Nat} {other : Option Nat} (K : hS → Option hS) (T : TL h A E) (hne : A ≠ []) (hc : c = A.length) (hlen : A.length < 80000) (hoth : other = none → BC h false A E)
    (AQ : arQ h 6 n tab f) (h0 : 0 ≤ i) (h1 : i < n) (ndE : (E.map (·.1)).Nodup) (hr : ∀ e, e ∈ E → rI e.1) (hi : ∀ e, e ∈ E → ix n e.1 = i) (hm : hC h (some mp) = some 11) (hmp : mp < h.2.1) (htab : tab < h.2.1) :
    ∃ h' b Ch' f', (if 6 < c then bd (aWQ h (some tab) 6 [12, 13] i (hdO A none)) fun h6 => ifN other (K h6) (fun _ => gd (hC h6 (hdO A none) = some 13) (bd (fJ6_treeify h6 (hdO A none) (some tab)) fun p11 => K p11)) else gd (hC h (hdO A none) = some 13) (bd (fJ6_untreeify h (hdO A none) (some mp)) fun p17 => bd (aWQ p17.2 (some tab) 6 [12, 13] i p17.1) fun h23 => K h23)) = K h' ∧
      BC h' b Ch' E ∧ Ch' ≠ [] ∧ arQ h' 6 n tab f' ∧ f' i = Ch'.head? ∧ (∀ j, j ≠ i → f' j = f j) ∧ (∀ a, a ∈ Ch' → a ∈ A ∨ h.2.1 ≤ a) ∧ (∀ b, b ∉ A → b ≠ tab → b < h.2.1 → h'.1 b = h.1 b) ∧ h.2.1 ≤ h'.2.1 ∧ h'.2.1 ≤ h.2.1 + A.length ∧ h'.2.2 ≤ h.2.2 + 4 * A.length := by
  have hc13 : ∀ a, a ∈ A → hC h (some a) = some 13 := fun a ha => T.c13 ha
  have hTab : tab ∉ A := by
    intro q
    have := hc13 tab q
    unfold arQ at AQ
    unfold hC nn at this
    simp only [AQ] at this
    cases this
  obtain ⟨x, X, rfl⟩ : ∃ x X, A = x :: X := by cases A with | nil => exact absurd rfl hne | cons x X => exact ⟨x, X, rfl⟩
  have hx13 : hC h (hdO (x :: X) none) = some 13 := hc13 x (by simp)
  by_cases q : 6 < c
  · rw [if_pos q]
    cases other with
    | none =>
      obtain ⟨h2, e2, A2, o2, s2⟩ := AQ.w h0 h1 (P := [12, 13]) (v := hdO (x :: X) none) (Or.inr ⟨13, by simp, hx13⟩)
      rw [e2, bd_s]
      simp only [ifN]
      have B := hoth rfl
      refine ⟨h2, false, x :: X, _, rfl, B.tab AQ o2 (by rw [s2]; exact Nat.le_refl _), by simp, A2, by simp [upI, hdO], fun j hj => by simp [upI, hj], fun a ha => Or.inl ha, fun b hb hbt _ => o2 b hbt, by rw [s2]; exact Nat.le_refl _, by rw [s2]; omega, by rw [s2]; omega⟩
    | some y =>
      obtain ⟨h3, Ch3, f3, e3, B3, m3, A3, fi3, fj3, o3, s3⟩ := TL_treeify T hne hlen ndE hr hi AQ h0 h1
      refine ⟨h3, false, Ch3, f3, ?_, B3, ?_, A3, fi3, fj3, fun a ha => Or.inl ((m3 a).mp ha), fun b hb hbt _ => o3 b hb hbt, by rw [s3]; exact Nat.le_refl _, by rw [s3]; omega, by rw [s3]; omega⟩
      · simp only [ifN]
        cases e4 : aWQ h (some tab) 6 [12, 13] i (hdO (x :: X) none) with
        | none => rw [e4] at e3; cases e3
        | some h4 =>
          rw [e4, bd_s] at e3
          rw [bd_s]
          by_cases g : hC h4 (hdO (x :: X) none) = some 13
          · rw [gd_t g] at e3 ⊢
            rw [e3, bd_s]
          · unfold gd at e3
            rw [if_neg g] at e3
            cases e3
      · rintro rfl
        have := (m3 x).mpr (by simp)
        cases this
  · rw [if_neg q]
    have T0 := T
    obtain ⟨H, K', V, R, C, nn', TT, D, hmm, hlt⟩ := T
    have nc : NC h 13 (x :: X) E := by
      rw [← hmm]
      exact NC_of TT (x :: X) none (fun a ha => ⟨ha, hlt a ha⟩) D
    obtain ⟨h2, Ch2, e2, P2, o2, m2, s2, s2'⟩ := pH_untreeify (q := hdO (x :: X) none) rfl nc hm hmp hlen
    rw [gd_t hx13, e2, bd_s]
    have A2 : arQ h2 6 n tab f := by unfold arQ; rw [o2 tab htab]; exact AQ
    have hne2 : Ch2 ≠ [] := by
      rintro rfl
      have := P2.bc.len
      rw [← hmm] at this
      simp at this
    obtain ⟨y, Y, rfl⟩ : ∃ y Y, Ch2 = y :: Y := by cases Ch2 with | nil => exact absurd rfl hne2 | cons y Y => exact ⟨y, Y, rfl⟩
    obtain ⟨h3, e3, A3, o3, s3⟩ := A2.w h0 h1 (P := [12, 13]) (v := hdO (y :: Y) none) (Or.inr ⟨12, by simp, P2.c12 (a := y) (by simp)⟩)
    simp only
    rw [e3, bd_s]
    refine ⟨h3, true, y :: Y, _, rfl, P2.bc.tab A2 o3 (by rw [s3]; exact Nat.le_refl _), by simp, A3, by simp [upI, hdO], fun j hj => by simp [upI, hj], fun a ha => Or.inr (m2 a ha), fun b hb hbt hbl => by rw [o3 b hbt, o2 b hbl], by rw [s3, s2]; omega, by rw [s3, s2]; exact Nat.le_refl _, by rw [s3, s2']; exact Nat.le_refl _⟩

set_option maxRecDepth 100000
/-! PURE: the hash map; a tree bin is split, the walk along its row -/
def nxt (R : TR) : List Nat → Prop
  | [] => True
  | a :: A => R a 5 = hdO A none ∧ nxt R A
theorem nxt_cg {R R' : TR} : ∀ (A : List Nat), (∀ a, a ∈ A → R' a 5 = R a 5) → nxt R A → nxt R' A := by
  intro A
  induction A with
  | nil => intro _ _; trivial
  | cons a A ih => rintro e ⟨h1, h2⟩; exact ⟨(e a (by simp)).trans h1, ih (fun b hb => e b (List.mem_cons_of_mem _ hb)) h2⟩
theorem DL_snoc {R R' : TR} {A : List Nat} {a : Nat} (D : DL R none none A) (nd : A.Nodup) (ha : a ∉ A) (a5 : R' a 5 = none) (a9 : R' a 9 = lsO none A) (b9 : ∀ b, b ∈ A → R' b 9 = R b 9) (b5 : ∀ b, b ∈ A → R' b 5 = if lsO none A = some b then some a else R b 5) : DL R' none none (A ++ [a]) := by
  rcases List.eq_nil_or_concat A with rfl | ⟨B, z, rfl⟩
  · exact ⟨a9, a5, trivial⟩
  · rw [List.concat_eq_append] at *
    rw [lsO_app] at a9 b5
    have hzB : z ∉ B := fun q => by
      rw [List.nodup_append] at nd
      exact nd.2.2 z q z (by simp) rfl
    rw [DL_app] at D ⊢
    obtain ⟨d1, d9, d5, -⟩ := D
    rw [DL_app, lsO_app]
    refine ⟨⟨DL_cg B _ (fun b hb => ⟨?_, b9 b (by simp [hb])⟩) d1, ?_, ?_, trivial⟩, a9, a5, trivial⟩
    · rw [b5 b (by simp [hb]), if_neg (fun e => hzB (by rw [Option.some.inj e]; exact hb))]
    · rw [b9 z (by simp)]; exact d9
    · rw [b5 z (by simp), if_pos rfl]; rfl
/-- what follows the walk -/
def spF (h : hS) (mp tab : Nat) (i bit : Int) (lo hi : Option Nat) (lc hc : Int) : Option hS :=
  ifN lo (fJ6_split_b171 h (some mp) (some tab) i bit lo hi hc) (fun _ => if 6 < lc then bd (aWQ h (some tab) 6 [12, 13] i lo) fun h6 => ifN hi (fJ6_split_b171 h6 (some mp) (some tab) i bit lo hi hc) (fun _ => gd (hC h6 lo = some 13) (bd (fJ6_treeify h6 lo (some tab)) fun p11 => fJ6_split_b171 p11 (some mp) (some tab) i bit lo hi hc)) else gd (hC h lo = some 13) (bd (fJ6_untreeify h lo (some mp)) fun p17 => bd (aWQ p17.2 (some tab) 6 [12, 13] i p17.1) fun h23 => fJ6_split_b171 h23 (some mp) (some tab) i bit lo hi hc))
/-- one goes to the end of a row -/
theorem sp_app {h : hS} {Ch : List Nat} {H : Nat → Int} {K V : Nat → Option Nat} {R : TR} {C : Nat → Int} (T : TS h (fun a => a ∈ Ch) H K V R C) {A : List Nat} {a : Nat} (D : DL R none none A) (nd : A.Nodup) (ha : a ∉ A) (hA : ∀ b, b ∈ A → b ∈ Ch) (hac : a ∈ Ch) (a5 : R a 5 = none) (K1 K2 : hS → Option hS) (hK : ∀ h', (if A = [] then K1 h' else K2 h') = (if A = [] then K1 h' else K2 h')) :
    ∃ h' R', (bd (hW h (some a) [(13, 9)] (vq (lsO none A))) fun h35 => ifN (lsO none A) (K1 h35) (fun _ => bd (hW h35 (lsO none A) [(13, 5)] (vq (some a))) fun h40 => K2 h40)) = (if A = [] then K1 h' else K2 h') ∧ TS h' (fun a => a ∈ Ch) H K V R' C ∧ DL R' none none (A ++ [a]) ∧ onlyN (fun a => a ∈ Ch) h h' ∧ (∀ b j, j = 6 ∨ j = 7 ∨ j = 8 → R' b j = R b j) ∧ (∀ b, b ∉ A → b ≠ a → R' b 5 = R b 5 ∧ R' b 9 = R b 9) := by
  obtain ⟨h1, e1, T1, o1⟩ := T.w (show a ∈ Ch from hac) [(13, 9)] rfl (by simp) (lsO none A)
  rw [e1, bd_s]
  rcases List.eq_nil_or_concat A with rfl | ⟨B, z, rfl⟩
  · refine ⟨h1, _, rfl, T1, DL_snoc D nd ha ?_ ?_ (by simp) (by simp), o1, ?_, ?_⟩
    · simp [trU, a5]
    · simp [trU]
    · intro b j hj; rw [trU_e, if_neg (by omega)]
    · intro b _ hb; simp [trU, hb]
  · rw [List.concat_eq_append] at *
    have hz : z ∈ Ch := hA z (by simp)
    have haz : a ≠ z := fun e => ha (by simp [e])
    rw [lsO_app]
    simp only [ifN]
    obtain ⟨h2, e2, T2, o2⟩ := T1.w (show z ∈ Ch from hz) [(13, 5)] rfl (by simp) (some a)
    rw [e2, bd_s]
    refine ⟨h2, _, by simp, T2, DL_snoc D nd ha ?_ ?_ ?_ ?_, o1.trans o2, ?_, ?_⟩
    · simp [trU, haz, a5]
    · simp [trU, lsO_app]
    · intro b hb
      have : b ≠ a := fun e => ha (e ▸ hb)
      simp [trU, this]
    · intro b hb
      have : b ≠ a := fun e => ha (e ▸ hb)
      rw [lsO_app]
      by_cases q : b = z
      · subst q; simp [trU]
      · rw [trU_e, if_neg (fun c => q c.1), trU_e, if_neg (fun c => this c.1), if_neg (fun e => q (Option.some.inj e).symm)]
    · intro b j hj; rw [trU_e, if_neg (by omega), trU_e, if_neg (by omega)]
    · intro b hb hba
      have : b ≠ z := fun e => hb (by simp [e])
      simp [trU, this, hba]
theorem pH_split_L {Ch : List Nat} {H : Nat → Int} {K V : Nat → Option Nat} {C : Nat → Int} {mp tab : Nat} {i bit : Int} : ∀ (Rest : List Nat) (f : Nat) (h : hS) (R : TR) (LO HI : List Nat), TS h (fun a => a ∈ Ch) H K V R C → (∀ a, a ∈ LO ++ (HI ++ Rest) → a ∈ Ch) → (LO ++ (HI ++ Rest)).Nodup → DL R none none LO → DL R none none HI → nxt R Rest → Rest.length < f → LO.length + HI.length + Rest.length < 1000000 →
    ∃ h' R', fJ6_split_L25 f h (some mp) (some tab) i bit (hdO LO none) (lsO none LO) (hdO HI none) (lsO none HI) (LO.length : Nat) (HI.length : Nat) (hdO Rest none) = spF h' mp tab i bit (hdO (LO ++ Rest.filter fun a => decide (iand (H a) bit = 0)) none) (hdO (HI ++ Rest.filter fun a => decide (¬ iand (H a) bit = 0)) none) ((LO ++ Rest.filter fun a => decide (iand (H a) bit = 0)).length : Nat) ((HI ++ Rest.filter fun a => decide (¬ iand (H a) bit = 0)).length : Nat) ∧
      TS h' (fun a => a ∈ Ch) H K V R' C ∧ DL R' none none (LO ++ Rest.filter fun a => decide (iand (H a) bit = 0)) ∧ DL R' none none (HI ++ Rest.filter fun a => decide (¬ iand (H a) bit = 0)) ∧ onlyN (fun a => a ∈ Ch) h h' ∧ (∀ b j, j = 6 ∨ j = 7 ∨ j = 8 → R' b j = R b j) := by
  intro Rest
  induction Rest with
  | nil =>
    intro f h R LO HI T hN nd DLo DHi nx hf hl
    obtain ⟨f, rfl⟩ : ∃ k, f = k + 1 := ⟨f - 1, by omega⟩
    refine ⟨h, R, ?_, T, by simpa using DLo, by simpa using DHi, onlyN.refl _ h, fun _ _ _ => rfl⟩
    rw [fJ6_split_L25_s, fJ6_split_b25]
    simp only [hdO, ifN, List.filter_nil, List.append_nil]
    rfl
  | cons a Rest ih =>
    intro f h R LO HI T hN nd DLo DHi nx hf hl
    obtain ⟨f, rfl⟩ : ∃ k, f = k + 1 := ⟨f - 1, by omega⟩
    have hac : a ∈ Ch := hN a (by simp)
    have ndA := nd
    simp only [List.nodup_append, List.nodup_cons, List.mem_append, List.mem_cons] at ndA
    have e0 : hdO (a :: Rest) none = some a := rfl
    rw [fJ6_split_L25_s, fJ6_split_b25, e0]
    simp only [ifN]
    rw [T.q hac [(13, 5)] rfl (by simp), bd_s, nx.1]
    have hcast : hdO Rest none = none ∨ inC h (hdO Rest none) [13] = true := by
      cases Rest with
      | nil => exact Or.inl rfl
      | cons y Y => exact Or.inr (T.in3 (show y ∈ Ch from hN y (by simp)))
    rw [gd_t hcast]
    obtain ⟨h1, e1, T1, o1⟩ := T.w (show a ∈ Ch from hac) [(13, 5)] rfl (by simp) none
    rw [e1, bd_s, T1.hh hac [(13, 2)] rfl, bd_s]
    have haLO : a ∉ LO := fun q => by grind
    have haHI : a ∉ HI := fun q => by grind
    have haR : a ∉ Rest := fun q => by grind
    have R15 : ∀ b, b ≠ a → trU R a 5 none b 5 = R b 5 := fun b hb => by simp [trU, hb]
    have R19 : ∀ b, trU R a 5 none b 9 = R b 9 := fun b => by simp [trU]
    have DLo1 : DL (trU R a 5 none) none none LO := DL_cg _ _ (fun b hb => ⟨R15 b (fun e => haLO (e ▸ hb)), R19 b⟩) DLo
    have DHi1 : DL (trU R a 5 none) none none HI := DL_cg _ _ (fun b hb => ⟨R15 b (fun e => haHI (e ▸ hb)), R19 b⟩) DHi
    by_cases q : iand (H a) bit = 0
    · rw [if_neg (by simpa using q)]
      obtain ⟨h2, R2, e2, T2, D2, o2, k2, x2⟩ := sp_app T1 DLo1 (by grind) haLO (fun b hb => hN b (by simp [hb])) hac (by simp [trU])
        (fun h' => fJ6_split_b82 (fJ6_split_L25 f) h' (some mp) (some tab) i bit (some a) (hdO HI none) (lsO none HI) (LO.length : Nat) (HI.length : Nat) (some a) (hdO Rest none))
        (fun h' => fJ6_split_b82 (fJ6_split_L25 f) h' (some mp) (some tab) i bit (hdO LO none) (hdO HI none) (lsO none HI) (LO.length : Nat) (HI.length : Nat) (some a) (hdO Rest none)) (fun _ => rfl)
      have fl : (a :: Rest).filter (fun a => decide (iand (H a) bit = 0)) = a :: Rest.filter (fun a => decide (iand (H a) bit = 0)) := by simp [q]
      have fh : (a :: Rest).filter (fun a => decide (¬ iand (H a) bit = 0)) = Rest.filter (fun a => decide (¬ iand (H a) bit = 0)) := by simp [q]
      rw [fl, fh]
      obtain ⟨h3, R3, e3, T3, DL3, DH3, o3, k3⟩ := ih f h2 R2 (LO ++ [a]) HI T2 (fun b hb => hN b (by simp only [List.mem_append, List.mem_cons, List.not_mem_nil, or_false] at hb ⊢; grind)) (by simp only [List.nodup_append, List.nodup_cons, List.mem_append, List.mem_cons, List.not_mem_nil, or_false]; grind) D2
        (DL_cg _ _ (fun b hb => by have := x2 b (by grind) (by grind); exact this) DHi1) (nxt_cg Rest (fun b hb => by rw [(x2 b (by grind) (by grind)).1, R15 b (fun e => haR (e ▸ hb))]) nx.2) (by simp at hf; omega) (by simp at hl ⊢; omega)
      refine ⟨h3, R3, ?_, T3, by simpa using DL3, DH3, (o1.trans o2).trans o3, fun b j hj => by rw [k3 b j hj, k2 b j hj, trU_e, if_neg (by omega)]⟩
      refine Eq.trans e2 ?_
      have w1 : wr (((LO.length : Nat) : Int) + 1) = (((LO ++ [a]).length : Nat) : Int) := by rw [wr_id (by omega) (by simp at hl; omega)]; simp
      unfold fJ6_split_b82 fJ6_split_b124
      rw [w1]
      have hh : hdO (LO ++ [a]) none = if LO = [] then some a else hdO LO none := by cases LO <;> simp [hdO]
      rw [lsO_app, hh] at e3
      rw [List.append_assoc] at e3
      by_cases qq : LO = []
      · rw [if_pos qq] at e3 ⊢; exact e3
      · rw [if_neg qq] at e3 ⊢; exact e3
    · rw [if_pos q]
      obtain ⟨h2, R2, e2, T2, D2, o2, k2, x2⟩ := sp_app T1 DHi1 (by grind) haHI (fun b hb => hN b (by simp [hb])) hac (by simp [trU])
        (fun h' => fJ6_split_b117 (fJ6_split_L25 f) h' (some mp) (some tab) i bit (hdO LO none) (lsO none LO) (some a) (LO.length : Nat) (HI.length : Nat) (some a) (hdO Rest none))
        (fun h' => fJ6_split_b117 (fJ6_split_L25 f) h' (some mp) (some tab) i bit (hdO LO none) (lsO none LO) (hdO HI none) (LO.length : Nat) (HI.length : Nat) (some a) (hdO Rest none)) (fun _ => rfl)
      have fl : (a :: Rest).filter (fun a => decide (iand (H a) bit = 0)) = Rest.filter (fun a => decide (iand (H a) bit = 0)) := by simp [q]
      have fh : (a :: Rest).filter (fun a => decide (¬ iand (H a) bit = 0)) = a :: Rest.filter (fun a => decide (¬ iand (H a) bit = 0)) := by simp [q]
      rw [fl, fh]
      obtain ⟨h3, R3, e3, T3, DL3, DH3, o3, k3⟩ := ih f h2 R2 LO (HI ++ [a]) T2 (fun b hb => hN b (by simp only [List.mem_append, List.mem_cons, List.not_mem_nil, or_false] at hb ⊢; grind)) (by simp only [List.nodup_append, List.nodup_cons, List.mem_append, List.mem_cons, List.not_mem_nil, or_false]; grind)
        (DL_cg _ _ (fun b hb => by have := x2 b (by grind) (by grind); exact this) DLo1) D2 (nxt_cg Rest (fun b hb => by rw [(x2 b (by grind) (by grind)).1, R15 b (fun e => haR (e ▸ hb))]) nx.2) (by simp at hf; omega) (by simp at hl ⊢; omega)
      refine ⟨h3, R3, ?_, T3, DL3, by simpa using DH3, (o1.trans o2).trans o3, fun b j hj => by rw [k3 b j hj, k2 b j hj, trU_e, if_neg (by omega)]⟩
      refine Eq.trans e2 ?_
      have w1 : wr (((HI.length : Nat) : Int) + 1) = (((HI ++ [a]).length : Nat) : Int) := by rw [wr_id (by omega) (by simp at hl; omega)]; simp
      unfold fJ6_split_b117 fJ6_split_b124
      rw [w1]
      have hh : hdO (HI ++ [a]) none = if HI = [] then some a else hdO HI none := by cases HI <;> simp [hdO]
      rw [lsO_app, hh] at e3
      rw [List.append_assoc] at e3
      by_cases qq : HI = []
      · rw [if_pos qq] at e3 ⊢; exact e3
      · rw [if_neg qq] at e3 ⊢; exact e3

set_option maxRecDepth 100000
/-! PURE: the hash map; a tree bin is split, all of it -/
theorem hdO_head (A : List Nat) : hdO A none = A.head? := by cases A <;> rfl
theorem nxt_of {R : TR} : ∀ (A : List Nat) (p : Option Nat), DL R none p A → nxt R A := by
  intro A
  induction A with
  | nil => intro p _; trivial
  | cons a A ih => rintro p ⟨h1, h2, h3⟩; exact ⟨h2, ih _ h3⟩
theorem BC.nil (h : hS) : BC h true [] [] := ⟨fun _ => 0, fun _ => none, fun _ => none, ⟨List.nodup_nil, trivial⟩, List.Perm.refl _, fun a ha => by cases ha⟩
theorem nodup_map_of {α β : Type} {f : α → β} : ∀ {A : List α}, (∀ a b, a ∈ A → b ∈ A → f a = f b → a = b) → A.Nodup → (A.map f).Nodup := by
  intro A
  induction A with
  | nil => intro _ _; exact List.nodup_nil
  | cons a A ih =>
    intro inj n
    have n := List.nodup_cons.mp n
    rw [List.map_cons, List.nodup_cons]
    refine ⟨fun q => ?_, ih (fun b c hb hc => inj b c (List.mem_cons_of_mem _ hb) (List.mem_cons_of_mem _ hc)) n.2⟩
    obtain ⟨b, hb, e⟩ := List.mem_map.mp q
    have := inj b a (List.mem_cons_of_mem _ hb) (by simp) e
    subst this
    exact n.1 hb
/-- what a bin of the old table leaves in the new one -/
def spR (h h' : hS) (L : List Nat) (E : List En) (tab n m : Nat) (f : Int → Option Nat) (j j2 : Int) : Prop :=
  ∃ b0 L0 b1 L1 f', BC h' b0 L0 (E.filter fun e => decide (ix m e.1 = j)) ∧ BC h' b1 L1 (E.filter fun e => decide (ix m e.1 = j2)) ∧ arQ h' 6 m tab f' ∧ f' j = L0.head? ∧ f' j2 = L1.head? ∧ (∀ x, x ≠ j → x ≠ j2 → f' x = f x) ∧ (∀ a, a ∈ L0 ∨ a ∈ L1 → a ∈ L ∨ h.2.1 ≤ a) ∧ (∀ b, b ∉ L → b ≠ tab → b < h.2.1 → h'.1 b = h.1 b) ∧ h.2.1 ≤ h'.2.1 ∧ h'.2.1 ≤ h.2.1 + L.length ∧ h'.2.2 ≤ h.2.2 + 4 * L.length
theorem filter_ite {E : List En} {p q : En → Bool} (h : ∀ e, e ∈ E → p e = q e) : E.filter p = E.filter q := List.filter_congr h
theorem pH_split {h : hS} {mp tab x k n m : Nat} {L : List Nat} {E : List En} {f : Int → Option Nat} {j : Int} (B : BC h false L E) (hx : L.head? = some x) (hlen : L.length < 80000) (hn : n = 2 ^ k) (hk : k ≤ 29) (hm2 : m = 2 ^ (k + 1))
    (AQ : arQ h 6 m tab f) (h0 : 0 ≤ j) (h1 : j < n) (ndE : (E.map (·.1)).Nodup) (hr : ∀ e, e ∈ E → rI e.1) (hi : ∀ e, e ∈ E → ix n e.1 = j) (hm : hC h (some mp) = some 11) (hmp : mp < h.2.1) (htab : tab < h.2.1) (f0 : f j = none) (f1 : f (j + n) = none) :
    ∃ h', fJ6_split h (some x) (some mp) (some tab) j n = some h' ∧ spR h h' L E tab n m f j (j + n) := by
  obtain ⟨H, K, V, ⟨R, C, nd, TT, D, r, lo, hi', er, BTr⟩, hp, hlt⟩ := B
  have hmn : m = 2 * n := by rw [hm2, hn, Nat.pow_succ]; omega
  have hn0 : 0 < n := by rw [hn]; exact Nat.pow_pos (by omega)
  have hn29 : n ≤ 536870912 := by
    have : 2 ^ k ≤ 2 ^ 29 := Nat.pow_le_pow_right (by omega) hk
    have e : (2 : Nat) ^ 29 = 536870912 := rfl
    omega
  have inE : ∀ a, a ∈ L → tE H K V a ∈ E := fun a ha => hp.mem_iff.mp (List.mem_map.mpr ⟨a, ha, rfl⟩)
  have hj : ∀ x : Int, ix n x = j → (iand x (n : Int) = 0 → ix m x = j) ∧ (¬ iand x (n : Int) = 0 → ix m x = j + n) := by
    intro x e
    have := ix_2 hk x
    rw [← hn, ← hm2, e] at this
    exact this
  obtain ⟨h1', R', e1, T1, DL1, DH1, o1, k1⟩ := pH_split_L (mp := mp) (tab := tab) (i := j) (bit := (n : Int)) L FU h R [] [] TT (fun a ha => by simpa using ha) (by simpa using nd) trivial trivial (nxt_of L none D) (by unfold FU; omega) (by simp; omega)
  simp only [List.nil_append] at e1 DL1 DH1
  obtain ⟨LO, hLO⟩ : ∃ LO, LO = L.filter (fun a => decide (iand (H a) (n : Int) = 0)) := ⟨_, rfl⟩
  obtain ⟨HI, hHI⟩ : ∃ HI, HI = L.filter (fun a => decide (¬ iand (H a) (n : Int) = 0)) := ⟨_, rfl⟩
  rw [← hLO, ← hHI] at e1
  rw [← hLO] at DL1
  rw [← hHI] at DH1
  have mLO : ∀ a, a ∈ LO → a ∈ L := fun a ha => by rw [hLO] at ha; exact (List.mem_filter.mp ha).1
  have mHI : ∀ a, a ∈ HI → a ∈ L := fun a ha => by rw [hHI] at ha; exact (List.mem_filter.mp ha).1
  have dis : ∀ a, a ∈ HI → a ∉ LO := by
    intro a ha hb
    rw [hLO] at hb
    rw [hHI] at ha
    have q1 := (List.mem_filter.mp ha).2
    have q2 := (List.mem_filter.mp hb).2
    simp at q1 q2
    exact q1 q2
  have pLO : (LO.map (tE H K V)).Perm (E.filter fun e => decide (ix m e.1 = j)) := by
    have e : E.filter (fun e => decide (ix m e.1 = j)) = E.filter (fun e => decide (iand e.1 (n : Int) = 0)) := by
      apply List.filter_congr
      intro e he
      have := hj e.1 (hi e he)
      by_cases q : iand e.1 (n : Int) = 0
      · simp [q, this.1 q]
      · have w := this.2 q
        simp only [q, decide_false, decide_eq_false_iff_not]
        omega
    rw [e, hLO]
    have := hp.filter (fun e => decide (iand e.1 (n : Int) = 0))
    rw [List.filter_map] at this
    exact this
  have pHI : (HI.map (tE H K V)).Perm (E.filter fun e => decide (ix m e.1 = j + n)) := by
    have e : E.filter (fun e => decide (ix m e.1 = j + n)) = E.filter (fun e => decide (¬ iand e.1 (n : Int) = 0)) := by
      apply List.filter_congr
      intro e he
      have := hj e.1 (hi e he)
      by_cases q : iand e.1 (n : Int) = 0
      · have w := this.1 q
        simp only [q, not_true_eq_false, decide_false, decide_eq_false_iff_not]
        omega
      · simp [q, this.2 q]
    rw [e, hHI]
    have := hp.filter (fun e => decide (¬ iand e.1 (n : Int) = 0))
    rw [List.filter_map] at this
    exact this
  have nLO : LO.Nodup := by rw [hLO]; exact nd.filter _
  have nHI : HI.Nodup := by rw [hHI]; exact nd.filter _
  have s1 : h1'.2 = h.2 := o1.2
  have TLlo : TL h1' LO (LO.map (tE H K V)) := ⟨H, K, V, R', C, nLO, fun a ha => T1 a (mLO a ha), DL1, rfl, fun a ha => by rw [s1]; exact hlt a (mLO a ha)⟩
  have TLhi : TL h1' HI (HI.map (tE H K V)) := ⟨H, K, V, R', C, nHI, fun a ha => T1 a (mHI a ha), DH1, rfl, fun a ha => by rw [s1]; exact hlt a (mHI a ha)⟩
  have htabL : tab ∉ L := by
    intro q
    have := TT.cl (show tab ∈ L from q)
    unfold arQ at AQ
    unfold hC nn at this
    simp only [AQ] at this
    cases this
  have A1 : arQ h1' 6 m tab f := by unfold arQ; rw [o1.1 tab htabL]; exact AQ
  have hmpL : mp ∉ L := by
    intro q
    have := TT.cl (show mp ∈ L from q)
    rw [hm] at this; cases this
  have hm1 : hC h1' (some mp) = some 11 := by rw [hC_cg (o1.1 mp hmpL)]; exact hm
  have hmp1 : mp < h1'.2.1 := by rw [s1]; exact hmp
  have htab1 : tab < h1'.2.1 := by rw [s1]; exact htab
  -- if one half is empty the other is the tree it was
  have whole : ∀ A : List Nat, A = L → DL R' none none A → BC h1' false A (A.map (tE H K V)) := by
    rintro A rfl DA
    exact ⟨H, K, V, ⟨R', C, nd, T1, DA, r, lo, hi', er, BTr.cgR (fun a j _ hj => k1 a j hj)⟩, List.Perm.refl _, fun a ha => by rw [s1]; exact hlt a ha⟩
  have oLO : hdO HI none = none → BC h1' false LO (LO.map (tE H K V)) := by
    intro e
    refine whole LO ?_ DL1
    have hnil : HI = [] := by cases HI with | nil => rfl | cons a A => cases e
    rw [hLO]
    rw [hHI] at hnil
    apply List.filter_eq_self.mpr
    intro a ha
    have := List.filter_eq_nil_iff.mp hnil a ha
    simpa using this
  have oHI : hdO LO none = none → BC h1' false HI (HI.map (tE H K V)) := by
    intro e
    refine whole HI ?_ DH1
    have hnil : LO = [] := by cases LO with | nil => rfl | cons a A => cases e
    rw [hHI]
    rw [hLO] at hnil
    apply List.filter_eq_self.mpr
    intro a ha
    have := List.filter_eq_nil_iff.mp hnil a ha
    simpa using this
  have lens : LO.length + HI.length = L.length := by
    have := (List.length_eq_countP_add_countP (fun a => decide (iand (H a) (n : Int) = 0)) (l := L))
    rw [hLO, hHI, ← List.countP_eq_length_filter, ← List.countP_eq_length_filter, this]
    congr 1
    apply List.countP_congr
    intro a _
    simp
  have nE : ∀ {A : List Nat}, A.Nodup → (∀ a, a ∈ A → a ∈ L) → ((A.map (tE H K V)).map (·.1)).Nodup := by
    intro A nA hA
    rw [List.map_map]
    have inj := hnd_inj hp ndE
    exact nodup_map_of (fun a b ha hb e => inj a b (hA a ha) (hA b hb) e) nA
  have memLO : ∀ e, e ∈ LO.map (tE H K V) → e ∈ E ∧ ix m e.1 = j := by
    intro e he
    have := pLO.mem_iff.mp he
    exact ⟨(List.mem_filter.mp this).1, by simpa using (List.mem_filter.mp this).2⟩
  have memHI : ∀ e, e ∈ HI.map (tE H K V) → e ∈ E ∧ ix m e.1 = j + n := by
    intro e he
    have := pHI.mem_iff.mp he
    exact ⟨(List.mem_filter.mp this).1, by simpa using (List.mem_filter.mp this).2⟩
  -- the second half
  have second : ∀ (h2 : hS) (f2 : Int → Option Nat), TL h2 HI (HI.map (tE H K V)) → (hdO LO none = none → BC h2 false HI (HI.map (tE H K V))) → arQ h2 6 m tab f2 → hC h2 (some mp) = some 11 → mp < h2.2.1 → tab < h2.2.1 → f2 (j + n) = none →
      ∃ h3 b1 L1 f3, fJ6_split_b171 h2 (some mp) (some tab) j n (hdO LO none) (hdO HI none) (HI.length : Nat) = some h3 ∧ BC h3 b1 L1 (HI.map (tE H K V)) ∧ arQ h3 6 m tab f3 ∧ f3 (j + n) = L1.head? ∧ (∀ x, x ≠ j + n → f3 x = f2 x) ∧ (∀ a, a ∈ L1 → a ∈ HI ∨ h2.2.1 ≤ a) ∧ (∀ b, b ∉ HI → b ≠ tab → b < h2.2.1 → h3.1 b = h2.1 b) ∧ h2.2.1 ≤ h3.2.1 ∧ h3.2.1 ≤ h2.2.1 + HI.length ∧ h3.2.2 ≤ h2.2.2 + 4 * HI.length := by
    intro h2 f2 T2 O2 A2 m2 mp2 tab2 z2
    unfold fJ6_split_b171 fJ6_split_b217
    cases HI with
    | nil =>
      refine ⟨h2, true, [], f2, rfl, BC.nil h2, A2, by rw [z2]; rfl, fun _ _ => rfl, fun a ha => (by cases ha), fun _ _ _ _ => rfl, Nat.le_refl _, by omega, by omega⟩
    | cons y Y =>
      have wj : wr (j + n) = j + n := wr_id (by omega) (by omega)
      have e0 : hdO (y :: Y) none = some y := rfl
      rw [wj, e0]
      obtain ⟨h3, b1, L1, f3, e3, B3, ne3, A3, fi3, fj3, m3, o3, c1, c2, c3⟩ := pH_half (h := h2) (mp := mp) (c := ((y :: Y).length : Nat)) (other := hdO LO none) (fun h => some h) T2 (by simp) rfl (by omega) O2 A2 (i := j + n) (by omega) (by omega) (nE nHI mHI) (fun e he => hr e (memHI e he).1) (fun e he => (memHI e he).2) m2 mp2 tab2
      rw [e0] at e3
      exact ⟨h3, b1, L1, f3, e3, B3, A3, fi3, fj3, m3, o3, c1, c2, c3⟩
  unfold fJ6_split
  have ex : some x = hdO L none := by rw [hdO_head, hx]
  rw [ex]
  have e2 : fJ6_split_L25 FU h (some mp) (some tab) j n none none none none 0 0 (hdO L none) = spF h1' mp tab j n (hdO LO none) (hdO HI none) (LO.length : Nat) (HI.length : Nat) := e1
  rw [e2]
  unfold spF
  cases LO with
  | nil =>
    obtain ⟨h3, b1, L1, f3, e3, B3, A3, fi3, fj3, m3, o3, c1, c2, c3⟩ := second h1' f TLhi oHI A1 hm1 hmp1 htab1 f1
    refine ⟨h3, e3, true, [], b1, L1, f3, (BC.nil h3).perm (by simpa using pLO), B3.perm pHI, A3, ?_, fi3, fun x _ hx2 => fj3 x hx2, ?_, ?_, by rw [s1] at c1; exact c1, by rw [s1] at c2; simp at lens; omega, by rw [s1] at c3; simp at lens; omega⟩
    · rw [fj3 j (by omega), f0]; rfl
    · intro a ha
      rcases ha with ha | ha
      · cases ha
      · rcases m3 a ha with q | q
        · exact Or.inl (mHI a q)
        · right; rw [s1] at q; exact q
    · intro b hb hbt hbl
      rw [o3 b (fun q => hb (mHI b q)) hbt (by rw [s1]; exact hbl), o1.1 b hb]
  | cons y Y =>
    obtain ⟨h2, b0, L0, f2, e3, B2, ne2, A2, fi2, fj2, m2, o2, c1, c2, c3⟩ := pH_half (h := h1') (mp := mp) (c := ((y :: Y).length : Nat)) (other := hdO HI none) (fun h => fJ6_split_b171 h (some mp) (some tab) j n (hdO (y :: Y) none) (hdO HI none) (HI.length : Nat)) TLlo (by simp) rfl (by omega) oLO A1 (i := j) h0 (by omega) (nE nLO mLO) (fun e he => hr e (memLO e he).1) (fun e he => (memLO e he).2) hm1 hmp1 htab1
    have keep : ∀ a, a ∈ HI → h2.1 a = h1'.1 a := fun a ha => o2 a (dis a ha) (fun e => htabL (e ▸ mHI a ha)) (by rw [s1]; exact hlt a (mHI a ha))
    have T2hi : TL h2 HI (HI.map (tE H K V)) := by
      obtain ⟨H9, K9, V9, R9, C9, q1, q2, q3, q4, q5⟩ := TLhi
      exact ⟨H9, K9, V9, R9, C9, q1, q2.cg keep, q3, q4, fun a ha => by have := q5 a ha; omega⟩
    have mpLO : mp ∉ y :: Y := fun q => hmpL (mLO mp q)
    have mpt : mp ≠ tab := by
      rintro rfl
      unfold arQ at AQ
      unfold hC nn at hm
      simp only [AQ] at hm
      cases hm
    have hm2' : hC h2 (some mp) = some 11 := by rw [hC_cg (o2 mp mpLO mpt hmp1)]; exact hm1
    obtain ⟨h3, b1, L1, f3, e4, B3, A3, fi3, fj3, m3, o3, d1, d2, d3⟩ := second h2 f2 T2hi (fun e => by cases e) A2 hm2' (by omega) (by omega) (by rw [fj2 _ (by omega)]; exact f1)
    have e5 := e3.trans e4
    refine ⟨h3, e5, b0, L0, b1, L1, f3, (B2.cg (fun a ha => o3 a ?_ ?_ ?_) d1).perm pLO, B3.perm pHI, A3, ?_, fi3, fun x hx1 hx2 => by rw [fj3 x hx2, fj2 x hx1], ?_, ?_, by rw [s1] at c1; omega, by rw [s1] at c2; omega, by rw [s1] at c3; omega⟩
    · intro q
      rcases m2 a ha with w | w
      · exact dis a q w
      · have := hlt a (mHI a q); rw [s1] at w; omega
    · rintro rfl
      obtain ⟨e, nx, c, he, n9, -⟩ := B2.at ha
      have w := n9.2.2.2.2
      unfold hC nn at w
      unfold arQ at A2
      simp only [A2] at w
      cases w
    · obtain ⟨H9, K9, V9, q1, q2, q3⟩ := B2
      exact q3 a ha
    · rw [fj3 j (by omega), fi2]
    · intro a ha
      rcases ha with ha | ha
      · rcases m2 a ha with q | q
        · exact Or.inl (mLO a q)
        · right; rw [s1] at q; exact q
      · rcases m3 a ha with q | q
        · exact Or.inl (mHI a q)
        · right; rw [s1] at c1; omega
    · intro b hb hbt hbl
      rw [o3 b (fun q => hb (mHI b q)) hbt (by rw [s1] at c1; omega), o2 b (fun q => hb (mLO b q)) hbt (by rw [s1]; exact hbl), o1.1 b hb]

set_option maxRecDepth 100000
/-! PURE: the hash map; a plain bin is split -/
theorem pl_app {h : hS} {H : Nat → Int} {K V : Nat → Option Nat} {q q2 : Option Nat} {A : List Nat} {a : Nat} (P : PB h H K V q A) (nd : A.Nodup) (ha : a ∉ A) (pa : h.1 a = some (.inl (12, [vi (H a), vq (K a), vq (V a), vq q2]))) (K1 K2 : hS → Option (Option Nat × hS)) :
    ∃ h', (ifN (lsO none A) (K1 h) (fun _ => bd (hW h (lsO none A) [(12, 3), (13, 5)] (vq (some a))) fun h8 => K2 h8)) = (if A = [] then K1 h' else K2 h') ∧ PB h' H K V q2 (A ++ [a]) ∧ (∀ b, b ∉ A → h'.1 b = h.1 b) ∧ h'.2 = h.2 := by
  rcases List.eq_nil_or_concat A with rfl | ⟨B, z, rfl⟩
  · refine ⟨h, rfl, ⟨pa, trivial⟩, fun _ _ => rfl, rfl⟩
  · rw [List.concat_eq_append] at *
    have hzB : z ∉ B := fun q => by
      rw [List.nodup_append] at nd
      exact nd.2.2 z q z (by simp) rfl
    have haz : a ≠ z := fun e => ha (by simp [e])
    rw [lsO_app]
    simp only [ifN]
    rw [PB_app] at P
    obtain ⟨pB, pz, -⟩ := P
    obtain ⟨h2, e2, a2, o2, s2⟩ := hW_at (P := [(12, 3), (13, 5)]) (v := vq (some a)) pz rfl (by simp)
    rw [e2, bd_s]
    refine ⟨h2, by simp, ?_, fun b hb => o2 b (fun e => hb (by simp [e])), s2⟩
    rw [PB_app, PB_app]
    refine ⟨⟨PB_cg B (fun b hb => ⟨o2 b (fun e => hzB (e ▸ hb)), rfl, rfl, rfl⟩) pB, ?_, trivial⟩, ?_, trivial⟩
    · rw [a2]; simp [hdO]
    · rw [o2 a haz, pa]; simp [hdO]
theorem nd_mv1 {LO HI R : List Nat} {a : Nat} (nd : (LO ++ (HI ++ a :: R)).Nodup) : (LO ++ [a] ++ (HI ++ R)).Nodup := by
  refine (List.Perm.nodup_iff ?_).mp nd
  rw [List.append_assoc]
  refine List.Perm.append_left LO ?_
  exact List.perm_middle
theorem nd_mv2 {LO HI R : List Nat} {a : Nat} (nd : (LO ++ (HI ++ a :: R)).Nodup) : (LO ++ (HI ++ [a] ++ R)).Nodup := by
  simpa using nd
/-- what follows the walk -/
def plF (K151 : hS → Option Nat → Option Nat → Int → Int → Option Nat → Int → Option (Option Nat × hS)) (h : hS) (mp old tab : Option Nat) (n m j : Int) (lo lt hi ht : Option Nat) : Option (Option Nat × hS) :=
  ifN lt (fJ1_resize_b327 K151 h mp old n m tab j hi ht) (fun _ => bd (hW h lt [(12, 3), (13, 5)] (vq none)) fun h5 => bd (aWQ h5 tab 6 [12, 13] j lo) fun h8 => fJ1_resize_b327 K151 h8 mp old n m tab j hi ht)
theorem pH_235 {K151 : hS → Option Nat → Option Nat → Int → Int → Option Nat → Int → Option (Option Nat × hS)} {H : Nat → Int} {K V : Nat → Option Nat} {mp old tab : Option Nat} {n m j : Int} : ∀ (Rest : List Nat) (a f : Nat) (h : hS) (LO HI : List Nat) (q1 q2 : Option Nat), PB h H K V none (a :: Rest) → PB h H K V q1 LO → PB h H K V q2 HI → (LO ++ (HI ++ a :: Rest)).Nodup → Rest.length < f →
    ∃ h' q1' q2', fJ1_resize_L235 K151 f h mp old n m tab j (some a) (hdO LO none) (lsO none LO) (hdO HI none) (lsO none HI) = plF K151 h' mp old tab n m j (hdO (LO ++ (a :: Rest).filter fun a => decide (iand (H a) n = 0)) none) (lsO none (LO ++ (a :: Rest).filter fun a => decide (iand (H a) n = 0))) (hdO (HI ++ (a :: Rest).filter fun a => decide (¬ iand (H a) n = 0)) none) (lsO none (HI ++ (a :: Rest).filter fun a => decide (¬ iand (H a) n = 0))) ∧
      PB h' H K V q1' (LO ++ (a :: Rest).filter fun a => decide (iand (H a) n = 0)) ∧ PB h' H K V q2' (HI ++ (a :: Rest).filter fun a => decide (¬ iand (H a) n = 0)) ∧ (∀ b, b ∉ LO ++ (HI ++ a :: Rest) → h'.1 b = h.1 b) ∧ h'.2 = h.2 := by
  intro Rest
  induction Rest with
  | nil =>
    intro a f h LO HI q1 q2 P PL PH nd hf
    obtain ⟨f, rfl⟩ : ∃ k, f = k + 1 := ⟨f - 1, by omega⟩
    obtain ⟨r1, r2, r3, r4, r5⟩ := ndA_p P.1
    have nd0 := nd
    simp only [List.nodup_append, List.nodup_cons, List.mem_append, List.mem_cons] at nd0
    have haLO : a ∉ LO := fun q => by grind
    have haHI : a ∉ HI := fun q => by grind
    have r4 : hQ h (some a) [(12, 3), (13, 5)] = some none := r4
    rw [fJ1_resize_L235_s, fJ1_resize_b235, r4, bd_s, r1, bd_s]
    simp only
    by_cases q : iand (H a) n = 0
    · rw [if_neg (by simpa using q)]
      obtain ⟨h2, e2, P2, o2, s2⟩ := pl_app PL (by grind) haLO P.1 (fun h' => fJ1_resize_b271 K151 (fJ1_resize_L235 K151 f) h' mp old n m tab j (some a) (some a) (hdO HI none) (lsO none HI) none) (fun h' => fJ1_resize_b271 K151 (fJ1_resize_L235 K151 f) h' mp old n m tab j (some a) (hdO LO none) (hdO HI none) (lsO none HI) none)
      have fl : [a].filter (fun a => decide (iand (H a) n = 0)) = [a] := by simp [q]
      have fh : [a].filter (fun a => decide (¬ iand (H a) n = 0)) = [] := by simp [q]
      rw [fl, fh, List.append_nil]
      refine ⟨h2, _, q2, ?_, P2, PB_cg HI (fun b hb => ⟨o2 b (by grind), rfl, rfl, rfl⟩) PH, fun b hb => o2 b (by simp only [List.mem_append] at hb; grind), s2⟩
      refine Eq.trans e2 ?_
      have hh : hdO (LO ++ [a]) none = if LO = [] then some a else hdO LO none := by cases LO <;> simp [hdO]
      rw [lsO_app, hh]
      unfold plF fJ1_resize_b271 fJ1_resize_b301
      by_cases qq : LO = []
      · rw [if_pos qq, if_pos qq]; rfl
      · rw [if_neg qq, if_neg qq]; rfl
    · rw [if_pos q]
      obtain ⟨h2, e2, P2, o2, s2⟩ := pl_app PH (by grind) haHI P.1 (fun h' => fJ1_resize_b297 K151 (fJ1_resize_L235 K151 f) h' mp old n m tab j (some a) (hdO LO none) (lsO none LO) (some a) none) (fun h' => fJ1_resize_b297 K151 (fJ1_resize_L235 K151 f) h' mp old n m tab j (some a) (hdO LO none) (lsO none LO) (hdO HI none) none)
      have fl : [a].filter (fun a => decide (iand (H a) n = 0)) = [] := by simp [q]
      have fh : [a].filter (fun a => decide (¬ iand (H a) n = 0)) = [a] := by simp [q]
      rw [fl, fh, List.append_nil]
      refine ⟨h2, q1, _, ?_, PB_cg LO (fun b hb => ⟨o2 b (by grind), rfl, rfl, rfl⟩) PL, P2, fun b hb => o2 b (by simp only [List.mem_append] at hb; grind), s2⟩
      refine Eq.trans e2 ?_
      have hh : hdO (HI ++ [a]) none = if HI = [] then some a else hdO HI none := by cases HI <;> simp [hdO]
      rw [lsO_app, hh]
      unfold plF fJ1_resize_b297 fJ1_resize_b301
      by_cases qq : HI = []
      · rw [if_pos qq, if_pos qq]; rfl
      · rw [if_neg qq, if_neg qq]; rfl
  | cons y Rest ih =>
    intro a f h LO HI q1 q2 P PL PH nd hf
    obtain ⟨f, rfl⟩ : ∃ k, f = k + 1 := ⟨f - 1, by omega⟩
    obtain ⟨r1, r2, r3, r4, r5⟩ := ndA_p P.1
    have nd0 := nd
    simp only [List.nodup_append, List.nodup_cons, List.mem_append, List.mem_cons] at nd0
    have haLO : a ∉ LO := fun q => by grind
    have haHI : a ∉ HI := fun q => by grind
    have r4 : hQ h (some a) [(12, 3), (13, 5)] = some (some y) := r4
    rw [fJ1_resize_L235_s, fJ1_resize_b235, r4, bd_s, r1, bd_s]
    simp only
    by_cases q : iand (H a) n = 0
    · rw [if_neg (by simpa using q)]
      obtain ⟨h2, e2, P2, o2, s2⟩ := pl_app PL (by grind) haLO P.1 (fun h' => fJ1_resize_b271 K151 (fJ1_resize_L235 K151 f) h' mp old n m tab j (some a) (some a) (hdO HI none) (lsO none HI) (some y)) (fun h' => fJ1_resize_b271 K151 (fJ1_resize_L235 K151 f) h' mp old n m tab j (some a) (hdO LO none) (hdO HI none) (lsO none HI) (some y))
      have fl : (a :: y :: Rest).filter (fun a => decide (iand (H a) n = 0)) = a :: (y :: Rest).filter (fun a => decide (iand (H a) n = 0)) := by rw [List.filter_cons, if_pos (by simpa using q)]
      have fh : (a :: y :: Rest).filter (fun a => decide (¬ iand (H a) n = 0)) = (y :: Rest).filter (fun a => decide (¬ iand (H a) n = 0)) := by rw [List.filter_cons, if_neg (by simpa using q)]
      rw [fl, fh]
      obtain ⟨h3, q3, q4, e3, P3, P4, o3, s3⟩ := ih y f h2 (LO ++ [a]) HI _ q2 (PB_cg _ (fun b hb => ⟨o2 b (by grind), rfl, rfl, rfl⟩) P.2) P2 (PB_cg HI (fun b hb => ⟨o2 b (by grind), rfl, rfl, rfl⟩) PH) (nd_mv1 nd) (by simp at hf; omega)
      rw [List.append_assoc] at e3 P3
      refine ⟨h3, q3, q4, ?_, P3, P4, fun b hb => by rw [o3 b (by simp only [List.mem_append, List.mem_cons, List.not_mem_nil, or_false] at hb ⊢; grind), o2 b (by simp only [List.mem_append] at hb; grind)], by rw [s3, s2]⟩
      refine Eq.trans e2 ?_
      have hh : hdO (LO ++ [a]) none = if LO = [] then some a else hdO LO none := by cases LO <;> simp [hdO]
      rw [lsO_app, hh] at e3
      by_cases qq : LO = []
      · rw [if_pos qq] at e3 ⊢; exact e3
      · rw [if_neg qq] at e3 ⊢; exact e3
    · rw [if_pos q]
      obtain ⟨h2, e2, P2, o2, s2⟩ := pl_app PH (by grind) haHI P.1 (fun h' => fJ1_resize_b297 K151 (fJ1_resize_L235 K151 f) h' mp old n m tab j (some a) (hdO LO none) (lsO none LO) (some a) (some y)) (fun h' => fJ1_resize_b297 K151 (fJ1_resize_L235 K151 f) h' mp old n m tab j (some a) (hdO LO none) (lsO none LO) (hdO HI none) (some y))
      have fl : (a :: y :: Rest).filter (fun a => decide (iand (H a) n = 0)) = (y :: Rest).filter (fun a => decide (iand (H a) n = 0)) := by rw [List.filter_cons, if_neg (by simpa using q)]
      have fh : (a :: y :: Rest).filter (fun a => decide (¬ iand (H a) n = 0)) = a :: (y :: Rest).filter (fun a => decide (¬ iand (H a) n = 0)) := by rw [List.filter_cons, if_pos (by simpa using q)]
      rw [fl, fh]
      obtain ⟨h3, q3, q4, e3, P3, P4, o3, s3⟩ := ih y f h2 LO (HI ++ [a]) q1 _ (PB_cg _ (fun b hb => ⟨o2 b (by grind), rfl, rfl, rfl⟩) P.2) (PB_cg LO (fun b hb => ⟨o2 b (by grind), rfl, rfl, rfl⟩) PL) P2 (nd_mv2 nd) (by simp at hf; omega)
      rw [List.append_assoc HI] at e3 P4
      refine ⟨h3, q3, q4, ?_, P3, P4, fun b hb => by rw [o3 b (by simp only [List.mem_append, List.mem_cons, List.not_mem_nil, or_false] at hb ⊢; grind), o2 b (by simp only [List.mem_append] at hb; grind)], by rw [s3, s2]⟩
      refine Eq.trans e2 ?_
      have hh : hdO (HI ++ [a]) none = if HI = [] then some a else hdO HI none := by cases HI <;> simp [hdO]
      rw [lsO_app, hh] at e3
      by_cases qq : HI = []
      · rw [if_pos qq] at e3 ⊢; exact e3
      · rw [if_neg qq] at e3 ⊢; exact e3

