/-! the pure laws: L1 L2 S1 S2 S3 S4 -/
set_option maxRecDepth 100000
/-! PURE: what a call costs of the history: a book is of five letters at least -/
theorem rdC_go {P : List Int} {C k : Nat} (h : (rdC P C k).2.1 = true) : k + 1 ≤ (rdC P C k).1 := by
  unfold rdC at h ⊢
  repeat' split
  all_goals first | omega | (exfalso; revert h; simp_all)
theorem rdCs_go (P : List Int) : ∀ (f k : Nat) (L : List Nat), (rdCs P f k L).2.1 = true → k + 1 ≤ (rdCs P f k L).1 ∧ 1 ≤ (rdCs P f k L).2.2.length := by
  intro f
  induction f with
  | zero => intro k L h; cases h
  | succ f ih =>
    intro k L h
    rw [rdCs] at h ⊢
    by_cases a : (rdC P L.length k).2.1 = false
    · rw [if_pos a] at h; cases h
    · rw [if_neg a] at h ⊢
      have g := rdC_go (P := P) (C := L.length) (k := k) (by cases q : (rdC P L.length k).2.1 <;> simp_all)
      by_cases b : L.length + 1 < 4 ∧ pl P (rdC P L.length k).1 = 44
      · rw [if_pos b] at h ⊢
        have := ih _ _ h
        exact ⟨by omega, this.2⟩
      · rw [if_neg b]
        exact ⟨g, by simp⟩
theorem rdD_go (P : List Int) (C : Nat) (t : Tm) : ∀ (m k : Nat) (D : List (Int × Nat)), k ≤ (rdD P C t m k D).1 := by
  intro m
  induction m with
  | zero => intro k D; exact Nat.le_refl _
  | succ m ih =>
    intro k D
    rw [rdD]
    split
    · exact Nat.le_refl _
    split
    · exact Nat.le_refl _
    split
    · exact Nat.le_succ _
    · have := ih (k + 2) (D ++ [(pl P k - 48, (pl P (k + 1) - 120).toNat)]); omega
theorem rdI_go {P : List Int} {C k : Nat} (h : (rdI P C k).2.1 = true) : k + 3 ≤ (rdI P C k).1 := by
  unfold rdI at h ⊢
  split at h
  · cases h
  rename_i a1
  rw [if_neg a1]
  split at h
  · cases h
  rename_i a2
  rw [if_neg a2]
  split at h
  · cases h
  rename_i a3
  rw [if_neg a3]
  rcases hp : ptr P 6 (k + 2) with _ | ⟨t, k1⟩
  · rw [hp] at h; cases h
  · rw [hp] at h
    have q := (ptr_ok P 6 (k + 2) t k1 hp).2.1
    have q2 := szT_pos t
    have q3 := rdD_go P C t 2 k1 []
    show k + 3 ≤ (rdD P C t 2 k1 []).1
    omega
theorem rdIs_go (P : List Int) (C : Nat) : ∀ (f k : Nat) (I : List Ist), (rdIs P C f k I).2.1 = true → k + 3 ≤ (rdIs P C f k I).1 := by
  intro f
  induction f with
  | zero => intro k I h; cases h
  | succ f ih =>
    intro k I h
    rw [rdIs] at h ⊢
    by_cases a : (rdI P C k).2.1 = false
    · rw [if_pos a] at h; cases h
    · rw [if_neg a] at h ⊢
      have g := rdI_go (P := P) (C := C) (k := k) (by cases q : (rdI P C k).2.1 <;> simp_all)
      by_cases b : I.length + 1 < 6 ∧ pl P (rdI P C k).1 = 44
      · rw [if_pos b] at h ⊢
        have := ih _ _ h
        omega
      · rw [if_neg b]
        exact g
theorem rd_five {P : List Int} {L : List Nat} {I : List Ist} (h : (rd P).2 = some (L, I)) : 5 ≤ P.length ∧ 0 < L.length := by
  unfold rd at h
  by_cases a : (rdCs P 4 0 []).2.1 = false ∨ pl P (rdCs P 4 0 []).1 ≠ 59
  · rw [if_pos a] at h; cases h
  · rw [if_neg a] at h
    dsimp only at h
    have g := rdCs_go P 4 0 [] (by cases q : (rdCs P 4 0 []).2.1 <;> simp_all)
    split at h
    · rename_i c
      cases h
      have g2 := rdIs_go P (rdCs P 4 0 []).2.2.length 6 ((rdCs P 4 0 []).1 + 1) [] c.1
      exact ⟨by omega, g.2⟩
    · cases h
/-! the history: what the objects' types are of, and what the calls gave -/
def LHy (n : Nat) (A : As) (H : List Tm) : Prop := (∀ u, u ∈ H → okT u ∧ szT u ≤ 9) ∧ (∀ k, k < 4 → ∀ t, asS A k = some t → t ∈ H) ∧
  (∀ b Ks S E, asK A = some (b, Ks, S, E) → ∀ k, k < 4 → ∀ t, S k = some t → t ∈ H) ∧
  (asP A).length + (if asB A = 0 then 0 else 6) + sumH H ≤ n ∧ (asB A = 0 → H = []) ∧ asB A ≤ n ∧ (asB A ≠ 0 → 0 < asN A)
theorem LHy.sum {n : Nat} {A : As} {H : List Tm} (h : LHy n A H) (hn : n < 24) : sumH H ≤ 17 := by
  obtain ⟨-, -, -, h4, h5, -⟩ := h
  by_cases q : asB A = 0
  · rw [h5 q]; exact Nat.zero_le _
  · rw [if_neg q] at h4; omega
theorem LHy.next {n : Nat} {A : As} {H : List Tm} (h : LHy n A H) : LHy (n + 1) A H := by
  obtain ⟨h1, h2, h3, h4, h5, h6, h7⟩ := h
  exact ⟨h1, h2, h3, by omega, h5, by omega, h7⟩
theorem LHy.Usl {n : Nat} {A : As} {H : List Tm} (h : LHy n A H) : Usl (UH H) (asS A) := fun k hk t e => UH_h h.1 (h.2.1 k hk t e)
theorem LHy.letter {n : Nat} {A : As} {H : List Tm} (h : LHy n A H) (c : Int) : LHy (n + 1) (sp_letter A c).2 H := by
  obtain ⟨h1, h2, h3, h4, h5, h6, h7⟩ := id h
  unfold sp_letter
  split
  · split
    · exact h.next
    · refine ⟨h1, h2, h3, ?_, h5, Nat.le_succ_of_le h6, h7⟩
      show (asP A ++ [c]).length + (if asB A = 0 then 0 else 6) + sumH H ≤ n + 1
      rw [List.length_append]
      simp only [List.length_cons, List.length_nil]
      omega
  · exact h.next
theorem LHy.blank {n : Nat} {A : As} {H : List Tm} (h : LHy n A H) : LHy (n + 1) (sp_blank A).2 H := by
  obtain ⟨h1, h2, h3, h4, h5, h6, h7⟩ := id h
  refine ⟨h1, h2, h3, ?_, h5, Nat.le_succ_of_le h6, h7⟩
  show ([] : List Int).length + (if asB A = 0 then 0 else 6) + sumH H ≤ n + 1
  simp only [List.length_nil]
  omega
theorem LHy.see {n : Nat} {A : As} {H : List Tm} (h : LHy n A H) (i w so : Int) : LHy (n + 1) (sp_see A i w so).2 H := by
  obtain ⟨h1, h2, h3, h4, h5, h6, h7⟩ := id h
  unfold sp_see
  repeat' split
  all_goals exact ⟨h1, h2, h3, Nat.le_succ_of_le h4, h5, Nat.le_succ_of_le h6, h7⟩
theorem LHy.forget {n : Nat} {A : As} {H : List Tm} (h : LHy n A H) : LHy (n + 1) (sp_forget A).2 H := by
  obtain ⟨h1, h2, h3, h4, h5, h6, h7⟩ := id h
  exact ⟨h1, h2, h3, Nat.le_succ_of_le h4, h5, Nat.le_succ_of_le h6, h7⟩
theorem LHy.change {n : Nat} {A : As} {H : List Tm} (h : LHy n A H) (i k : Int) : LHy (n + 1) (sp_change A i k).2 H := by
  obtain ⟨h1, h2, h3, h4, h5, h6, h7⟩ := id h
  unfold sp_change
  repeat' split
  all_goals exact ⟨h1, h2, h3, Nat.le_succ_of_le h4, h5, Nat.le_succ_of_le h6, h7⟩
theorem LHy.image {n : Nat} {A : As} {H : List Tm} (h : LHy n A H) : LHy (n + 1) (sp_image A).2 H := by
  obtain ⟨h1, h2, h3, h4, h5, h6, h7⟩ := id h
  unfold sp_image
  split
  · exact h.next
  · refine ⟨h1, h2, ?_, Nat.le_succ_of_le h4, h5, Nat.le_succ_of_le h6, h7⟩
    intro b Ks S E e k hk t et
    cases e
    exact h2 k hk t et
theorem LHy.restore {n : Nat} {A : As} {H : List Tm} (h : LHy n A H) : LHy (n + 1) (sp_restore A).2 H := by
  obtain ⟨h1, h2, h3, h4, h5, h6, h7⟩ := id h
  unfold sp_restore
  split
  · exact h.next
  · rename_i b Ks S E e
    split
    · exact ⟨h1, fun k hk t et => h3 _ _ _ _ e k hk t et, h3, Nat.le_succ_of_le h4, h5, Nat.le_succ_of_le h6, h7⟩
    · exact h.next
theorem LHy.book {n : Nat} {A : As} {H : List Tm} (h : LHy n A H) : LHy (n + 1) (sp_book A).2 H := by
  obtain ⟨h1, h2, h3, h4, h5, h6, h7⟩ := id h
  unfold sp_book
  split
  · exact h.next
  · rename_i L I e
    have g := rd_five e
    refine ⟨h1, fun k hk t et => (by cases et), h3, ?_, fun q => ?_, Nat.succ_le_succ h6, fun _ => g.2⟩
    · show ([] : List Int).length + (if asB A + 1 = 0 then 0 else 6) + sumH H ≤ n + 1
      rw [if_neg (Nat.succ_ne_zero _)]
      simp only [List.length_nil]
      by_cases q : asB A = 0
      · rw [if_pos q] at h4; omega
      · rw [if_neg q] at h4; omega
    · exact absurd q (Nat.succ_ne_zero _)
theorem LHy.type {n : Nat} {A : As} {H : List Tm} (h : LHy n A H) (k : Int) : ∃ H', (∀ t, UH H t → UH H' t) ∧ LHy (n + 1) (sp_type A k).2 H' := by
  obtain ⟨h1, h2, h3, h4, h5, h6, h7⟩ := id h
  unfold sp_type
  by_cases a : 0 ≤ k ∧ k ≤ 3
  · rw [if_pos a]
    by_cases b : asB A = 0 ∨ (scS (asP A) 1000 100 0 0 1).2 = false ∨ (scS (asP A) 1000 100 0 0 1).1 ≠ (asP A).length
    · rw [if_pos b]; exact ⟨H, fun _ q => q, h.next⟩
    · rw [if_neg b]
      by_cases c : 9 < (asP A).length
      · rw [if_pos c]; exact ⟨H, fun _ q => q, h.next⟩
      · rw [if_neg c]
        have b0 : ¬ asB A = 0 := fun q => b (Or.inl q)
        have b1 : (scS (asP A) 1000 100 0 0 1) = ((asP A).length, true) := by
          have q1 : (scS (asP A) 1000 100 0 0 1).2 = true := by cases q : (scS (asP A) 1000 100 0 0 1).2 <;> simp_all
          have q2 : (scS (asP A) 1000 100 0 0 1).1 = (asP A).length := Decidable.byContradiction fun q => b (Or.inr (Or.inr q))
          exact Prod.ext q2 q1
        obtain ⟨t, e1, e2, e3⟩ := scS_one b1
        rw [e1]
        have e4 : szT t = (asP A).length := by omega
        refine ⟨t :: H, fun _ q => UH_mono q, ?_, ?_, ?_, ?_, ?_, ?_, ?_⟩
        · intro u hu
          rcases List.mem_cons.mp hu with rfl | hu
          · exact ⟨e2, by omega⟩
          · exact h1 u hu
        · intro j hj u hu
          have hu : (if j = k.toNat then some t else asS A j) = some u := hu
          split at hu
          · cases hu; exact List.mem_cons_self
          · exact List.mem_cons_of_mem _ (h2 j hj u hu)
        · intro b' Ks S E e j hj u hu
          exact List.mem_cons_of_mem _ (h3 b' Ks S E e j hj u hu)
        · show ([] : List Int).length + (if asB A = 0 then 0 else 6) + sumH (t :: H) ≤ n + 1
          have : sumH (t :: H) = szT t + 1 + sumH H := by simp [sumH]
          rw [this]
          simp only [List.length_nil]
          omega
        · exact fun q => absurd q b0
        · exact Nat.le_succ_of_le h6
        · exact h7
  · rw [if_neg a]; exact ⟨H, fun _ q => q, h.next⟩

set_option maxRecDepth 100000
/-! PURE: after so many calls of the law's loop -/
def LI (gs : Option Nat × Option Nat) (ca : Nat → Nat) (mp c0 s0 n : Nat) (sx sm : Sg) (h : hS) : Prop := ∃ (A : As) (w : Wd) (H : List Tm), wh w = h ∧ R6 sm A ∧ R0 sx (wk w) gs ca A ∧ okW (asI A) (UH H) mp w ∧ LHy n A H ∧ (wh w).2.1 + wQ w ≤ c0 + 40000 * n ∧ (wh w).2.2 + 4 * wQ w ≤ s0 + 160000 * n
theorem okA_6 {s : Sg} {A : As} (h : R6 s A) : okA A := h.1
theorem okW.up {I : List Ist} {U U' : Tm → Prop} {mp : Nat} {w : Wd} (h : okW I U mp w) (hU : ∀ t, U t → U' t) : okW I U' mp w :=
  ⟨h.1, h.2.1, fun e he => by obtain ⟨c, t, a, p, hc, hu, r⟩ := h.2.2 e he; exact ⟨c, t, a, p, hc, hU _ hu, r⟩⟩
theorem ls_ite {α : Type} {c : Prop} [Decidable c] {x y : Option α} {P : α → Prop} (h1 : ∃ z, x = some z ∧ P z) (h2 : ∃ z, y = some z ∧ P z) : ∃ z, (if c then x else y) = some z ∧ P z := by
  by_cases q : c
  · rw [if_pos q]; exact h1
  · rw [if_neg q]; exact h2
theorem ls_one {a b c n : Nat} (h : a ≤ b + 40000) (k : b ≤ c + 40000 * n) : a ≤ c + 40000 * (n + 1) := by omega
theorem ls_four {a b c n : Nat} (h : a ≤ b + 4 * 40000) (k : b ≤ c + 160000 * n) : a ≤ c + 160000 * (n + 1) := by
  rw [Nat.mul_succ, ← Nat.add_assoc]
  exact Nat.le_trans h (Nat.add_le_add_right k 160000)
theorem LI.to {gs : Option Nat × Option Nat} {ca : Nat → Nat} {mp c0 s0 n : Nat} {sx sm : Sg} {A : As} {w w' : Wd} {H : List Tm} (h6 : R6 sm A) (h0 : R0 sx (wk w') gs ca A) (hw : okW (asI A) (UH H) mp w') (hp : LHy (n + 1) A H) (hc : cW w w' 40000) (b1 : (wh w).2.1 + wQ w ≤ c0 + 40000 * n) (b2 : (wh w).2.2 + 4 * wQ w ≤ s0 + 160000 * n) : LI gs ca mp c0 s0 (n + 1) sx sm (wh w') :=
  ⟨A, w', H, rfl, h6, h0, hw, hp, ls_one (b := (wh w).2.1 + wQ w) (show (wh w').2.1 + wQ w' ≤ (wh w).2.1 + wQ w + 40000 from hc.1) b1, ls_four (b := (wh w).2.2 + 4 * wQ w) (show (wh w').2.2 + 4 * wQ w' ≤ (wh w).2.2 + 4 * wQ w + 4 * 40000 from hc.2) b2⟩
theorem cW_refl (w : Wd) (c : Nat) : cW w w c := ⟨by omega, by omega⟩
theorem cW_mono {w w' : Wd} {c c' : Nat} (h : cW w w' c) (hc : c ≤ c') : cW w w' c' := ⟨by have := h.1; omega, by have := h.2; omega⟩
theorem stW_c4 {I : List Ist} {U : Tm → Prop} {mp : Nat} {w w' : Wd} {c : Nat} (st : stW w w' c) (h : okW I U mp w') (hB : UBd U) (hc : c ≤ 16000) : cW w w' 40000 := cW_mono (st.cW h hB) (by omega)
section CALLS
variable {G : Gx} {adx : Nat → Nat} {i : Int} {sx sm : Sg} {h : hS} {ca : Nat → Nat} {c0 s0 n : Nat}
abbrev LG (G : Gx) (ca : Nat → Nat) (adx : Nat → Nat) (c0 s0 n : Nat) (z : Sg × Sg × hS) : Prop := LI G.2.2.2 ca (adx 20) c0 s0 n z.1 z.2.1 z.2.2
theorem ls_0 (I : LI G.2.2.2 ca (adx 20) c0 s0 n sx sm h) (g1 : inb (wr (i + 1)) (xL G)) : ∃ z, fL_0 G adx i sx sm h = some z ∧ LG G ca adx c0 s0 (n + 1) z := by
  obtain ⟨A, w, H, e, h6, h0, hw, hp, b1, b2⟩ := I
  subst e
  obtain ⟨s1, e1, k1⟩ := p0_letter h6.1 h0 (xs G (wr (i + 1)))
  obtain ⟨s2, e2, k2⟩ := p6_letter h6 (xs G (wr (i + 1)))
  refine ⟨(s1, s2, wh w), ?_, ?_⟩
  · unfold fL_0
    rw [gd_t g1, e1, bd_s, e2, bd_s]
    exact gd_t rfl
  · have hI : asI (sp_letter A (xs G (wr (i + 1)))).2 = asI A := by unfold sp_letter; split; (split <;> rfl); rfl
    exact LI.to k2 k1 (by rw [hI]; exact hw) (hp.letter _) (cW_refl w _) b1 b2
theorem ls_1 (I : LI G.2.2.2 ca (adx 20) c0 s0 n sx sm h) : ∃ z, fL_1 G adx i sx sm h = some z ∧ LG G ca adx c0 s0 (n + 1) z := by
  obtain ⟨A, w, H, e, h6, h0, hw, hp, b1, b2⟩ := I
  subst e
  obtain ⟨s1, e1, k1⟩ := p0_blank h0
  obtain ⟨s2, e2, k2⟩ := p6_blank h6
  refine ⟨(s1, s2, wh w), ?_, ?_⟩
  · unfold fL_1
    rw [e1, bd_s, e2, bd_s]
    exact gd_t rfl
  · exact LI.to k2 k1 hw hp.blank (cW_refl w _) b1 b2
theorem ls_2 (I : LI G.2.2.2 ca (adx 20) c0 s0 n sx sm h) : ∃ z, fL_2 G adx i sx sm h = some z ∧ LG G ca adx c0 s0 (n + 1) z := by
  obtain ⟨A, w, H, e, h6, h0, hw, hp, b1, b2⟩ := I
  subst e
  obtain ⟨s1, e1, k1⟩ := p0_fault h6.1 h0
  obtain ⟨s2, e2, k2⟩ := p6_fault h6
  refine ⟨(s1, s2, wh w), ?_, ?_⟩
  · unfold fL_2
    rw [e1, bd_s, e2, bd_s]
    exact gd_t rfl
  · exact LI.to k2 k1 hw hp.next (cW_refl w _) b1 b2
theorem ls_3 (hn : n < 24) (I : LI G.2.2.2 ca (adx 20) c0 s0 n sx sm h) : ∃ z, fL_3 G adx i sx sm h = some z ∧ LG G ca adx c0 s0 (n + 1) z := by
  obtain ⟨A, w, H, e, h6, h0, hw, hp, b1, b2⟩ := I
  subst e
  obtain ⟨s2, e2, k2⟩ := p6_book h6 (by have := hp.2.2.2.2.2.1; omega)
  obtain ⟨s1, w', e1, k1, kw, kc⟩ := W_book h6.1 k2.1 hw h0
  refine ⟨(s1, s2, wh w'), ?_, ?_⟩
  · unfold fL_3
    rw [e1, bd_s, e2, bd_s]
    exact gd_t rfl
  · exact LI.to k2 k1 kw hp.book (cW_mono kc (by decide)) b1 b2
theorem ls_4 (hn : n < 24) (I : LI G.2.2.2 ca (adx 20) c0 s0 n sx sm h) (g1 : inb (wr (i + 1)) (xL G)) : ∃ z, fL_4 G adx i sx sm h = some z ∧ LG G ca adx c0 s0 (n + 1) z := by
  obtain ⟨A, w, H, e, h6, h0, hw, hp, b1, b2⟩ := I
  subst e
  obtain ⟨s2, e2, k2⟩ := p6_type h6 (xs G (wr (i + 1)))
  obtain ⟨s1, w', e1, k1, kw, kc⟩ := W_type h6.1 hw h0 (xs G (wr (i + 1)))
  obtain ⟨H', u, p'⟩ := hp.type (xs G (wr (i + 1)))
  refine ⟨(s1, s2, wh w'), ?_, ?_⟩
  · unfold fL_4
    rw [gd_t g1, e1, bd_s, e2, bd_s]
    exact gd_t rfl
  · exact LI.to k2 k1 (kw.up u) p' (stW_c4 kc kw (UH_bd (hp.sum hn)) (by decide)) b1 b2
theorem ls_5 (I : LI G.2.2.2 ca (adx 20) c0 s0 n sx sm h) (g : inb (wr (i + 1)) (xL G) ∧ inb (wr (i + 2)) (xL G)) : ∃ z, fL_5 G adx i sx sm h = some z ∧ LG G ca adx c0 s0 (n + 1) z := by
  obtain ⟨A, w, H, e, h6, h0, hw, hp, b1, b2⟩ := I
  subst e
  refine ⟨(sx, sm, wh w), ?_, ?_⟩
  · unfold fL_5
    rw [gd_t g, p0_about hw.1.ext h0, bd_s, p6_about h6, bd_s]
    exact gd_t rfl
  · exact LI.to h6 h0 hw hp.next (cW_refl w _) b1 b2
theorem ls_6 (hn : n < 24) (I : LI G.2.2.2 ca (adx 20) c0 s0 n sx sm h) (g : inb (wr (i + 1)) (xL G) ∧ inb (wr (i + 2)) (xL G)) : ∃ z, fL_6 G adx i sx sm h = some z ∧ LG G ca adx c0 s0 (n + 1) z := by
  obtain ⟨A, w, H, e, h6, h0, hw, hp, b1, b2⟩ := I
  subst e
  have hs := hp.sum hn
  obtain ⟨s2, e2, k2⟩ := p6_instance h6 (xs G (wr (i + 1))) (xs G (wr (i + 2)))
  obtain ⟨w', e1, kw, kc⟩ := W_instance h6.1 (UH_ok hp.1 hs) (UH_bd hs) UH_5 hw h0 (xs G (wr (i + 1))) (xs G (wr (i + 2)))
  refine ⟨(sx, s2, wh w'), ?_, ?_⟩
  · unfold fL_6
    rw [gd_t g, e1, bd_s, e2, bd_s]
    exact gd_t rfl
  · exact LI.to k2 (h0.mono kc.1) kw hp.next (stW_c4 kc kw (UH_bd hs) (by decide)) b1 b2
theorem ls_7 (hn : n < 24) (I : LI G.2.2.2 ca (adx 20) c0 s0 n sx sm h) (g : inb (wr (i + 1)) (xL G) ∧ inb (wr (i + 2)) (xL G)) : ∃ z, fL_7 G adx i sx sm h = some z ∧ LG G ca adx c0 s0 (n + 1) z := by
  obtain ⟨A, w, H, e, h6, h0, hw, hp, b1, b2⟩ := I
  subst e
  have hs := hp.sum hn
  obtain ⟨h', e1, o⟩ := p0_as hw.1.ext h0 (xs G (wr (i + 1))) (xs G (wr (i + 2)))
  obtain ⟨kw, kc⟩ := hw.olW o
  refine ⟨(sx, sm, h'), ?_, ?_⟩
  · unfold fL_7
    rw [gd_t g, e1, bd_s, p6_as h6, bd_s]
    exact gd_t rfl
  · exact LI.to (w' := (wk w, h', wE w, wF w, wQ w)) h6 h0 kw hp.next (stW_c4 kc kw (UH_bd hs) (by decide)) b1 b2
theorem ls_8 (I : LI G.2.2.2 ca (adx 20) c0 s0 n sx sm h) (g : inb (wr (i + 1)) (xL G) ∧ inb (wr (i + 2)) (xL G)) : ∃ z, fL_8 G adx i sx sm h = some z ∧ LG G ca adx c0 s0 (n + 1) z := by
  obtain ⟨A, w, H, e, h6, h0, hw, hp, b1, b2⟩ := I
  subst e
  obtain ⟨s2, e2, k2⟩ := p6_change h6 (xs G (wr (i + 1))) (xs G (wr (i + 2)))
  obtain ⟨s1, w', e1, k1, kw, kc⟩ := W_change hw h0 (xs G (wr (i + 1))) (xs G (wr (i + 2)))
  refine ⟨(s1, s2, wh w'), ?_, ?_⟩
  · unfold fL_8
    rw [gd_t g, e1, bd_s, e2, bd_s]
    exact gd_t rfl
  · exact LI.to k2 k1 kw (hp.change _ _) (cW_mono kc (by decide)) b1 b2
theorem ls_9 (I : LI G.2.2.2 ca (adx 20) c0 s0 n sx sm h) (g : inb (wr (i + 1)) (xL G) ∧ inb (wr (i + 2)) (xL G) ∧ inb (wr (i + 3)) (xL G)) : ∃ z, fL_9 G adx i sx sm h = some z ∧ LG G ca adx c0 s0 (n + 1) z := by
  obtain ⟨A, w, H, e, h6, h0, hw, hp, b1, b2⟩ := I
  subst e
  obtain ⟨s2, e2, k2⟩ := p6_pair h6 (xs G (wr (i + 1))) (xs G (wr (i + 2))) (xs G (wr (i + 3)))
  refine ⟨(sx, s2, wh w), ?_, ?_⟩
  · unfold fL_9
    rw [gd_t g, p0_pair hw.1.ext h0, bd_s, e2, bd_s]
    exact gd_t rfl
  · exact LI.to k2 h0 hw hp.next (cW_refl w _) b1 b2
theorem ls_10 (hn : n < 24) (I : LI G.2.2.2 ca (adx 20) c0 s0 n sx sm h) (g : inb (wr (i + 1)) (xL G) ∧ inb (wr (i + 2)) (xL G)) : ∃ z, fL_10 G adx i sx sm h = some z ∧ LG G ca adx c0 s0 (n + 1) z := by
  obtain ⟨A, w, H, e, h6, h0, hw, hp, b1, b2⟩ := I
  subst e
  have hs := hp.sum hn
  obtain ⟨s2, e2, k2⟩ := p6_fits_op h6 (xs G (wr (i + 1))) (xs G (wr (i + 2)))
  obtain ⟨h', e1, o⟩ := p0_fits h6.1 hw.1 h0 (xs G (wr (i + 1))) (xs G (wr (i + 2)))
  obtain ⟨kw, kc⟩ := hw.olW o
  refine ⟨(sx, s2, h'), ?_, ?_⟩
  · unfold fL_10
    rw [gd_t g, e1, bd_s, e2, bd_s]
    exact gd_t rfl
  · exact LI.to (w' := (wk w, h', wE w, wF w, wQ w)) k2 h0 kw hp.next (stW_c4 kc kw (UH_bd hs) (by decide)) b1 b2
theorem ls_11 (hn : n < 24) (I : LI G.2.2.2 ca (adx 20) c0 s0 n sx sm h) (g : inb (wr (i + 1)) (xL G) ∧ inb (wr (i + 2)) (xL G) ∧ inb (wr (i + 3)) (xL G)) : ∃ z, fL_11 G adx i sx sm h = some z ∧ LG G ca adx c0 s0 (n + 1) z := by
  obtain ⟨A, w, H, e, h6, h0, hw, hp, b1, b2⟩ := I
  subst e
  have hs := hp.sum hn
  obtain ⟨s2, e2, k2⟩ := p6_goal h6 (xs G (wr (i + 1))) (xs G (wr (i + 2))) (xs G (wr (i + 3)))
  obtain ⟨w', e1, kw, kc⟩ := W_goal_op (UH_ok hp.1 hs) (UH_bd hs) hp.Usl hw h0 (xs G (wr (i + 1))) (xs G (wr (i + 2))) (xs G (wr (i + 3)))
  refine ⟨(sx, s2, wh w'), ?_, ?_⟩
  · unfold fL_11
    rw [gd_t g, e1, bd_s, e2, bd_s]
    exact gd_t rfl
  · exact LI.to k2 (h0.mono kc.1) kw hp.next (stW_c4 kc kw (UH_bd hs) (by decide)) b1 b2
theorem ls_12 (hn : n < 24) (I : LI G.2.2.2 ca (adx 20) c0 s0 n sx sm h) (g : inb (wr (i + 1)) (xL G) ∧ inb (wr (i + 2)) (xL G) ∧ inb (wr (i + 3)) (xL G)) : ∃ z, fL_12 G adx i sx sm h = some z ∧ LG G ca adx c0 s0 (n + 1) z := by
  obtain ⟨A, w, H, e, h6, h0, hw, hp, b1, b2⟩ := I
  subst e
  have hs := hp.sum hn
  obtain ⟨s2, e2, k2⟩ := p6_entry h6 (xs G (wr (i + 1))) (xs G (wr (i + 2))) (xs G (wr (i + 3)))
  obtain ⟨w', e1, kw, kc⟩ := W_entry (UH_ok hp.1 hs) (UH_bd hs) hp.Usl hw h0 (xs G (wr (i + 1))) (xs G (wr (i + 2))) (xs G (wr (i + 3)))
  refine ⟨(sx, s2, wh w'), ?_, ?_⟩
  · unfold fL_12
    rw [gd_t g, e1, bd_s, e2, bd_s]
    exact gd_t rfl
  · exact LI.to k2 (h0.mono kc.1) kw hp.next (stW_c4 kc kw (UH_bd hs) (by decide)) b1 b2
theorem ls_13 (hn : n < 24) (I : LI G.2.2.2 ca (adx 20) c0 s0 n sx sm h) (g : inb (wr (i + 1)) (xL G) ∧ inb (wr (i + 2)) (xL G) ∧ inb (wr (i + 3)) (xL G) ∧ inb (wr (i + 4)) (xL G)) : ∃ z, fL_13 G adx i sx sm h = some z ∧ LG G ca adx c0 s0 (n + 1) z := by
  obtain ⟨A, w, H, e, h6, h0, hw, hp, b1, b2⟩ := I
  subst e
  have hs := hp.sum hn
  obtain ⟨s2, e2, k2⟩ := p6_need h6 (xs G (wr (i + 1))) (xs G (wr (i + 2))) (xs G (wr (i + 3))) (xs G (wr (i + 4)))
  obtain ⟨w', e1, kw, kc⟩ := W_need (UH_ok hp.1 hs) (UH_bd hs) hp.Usl hw h0 (xs G (wr (i + 1))) (xs G (wr (i + 2))) (xs G (wr (i + 3))) (xs G (wr (i + 4)))
  refine ⟨(sx, s2, wh w'), ?_, ?_⟩
  · unfold fL_13
    rw [gd_t g, e1, bd_s, e2, bd_s]
    exact gd_t rfl
  · exact LI.to k2 (h0.mono kc.1) kw hp.next (stW_c4 kc kw (UH_bd hs) (by decide)) b1 b2
theorem ls_14 (I : LI G.2.2.2 ca (adx 20) c0 s0 n sx sm h) (g : inb (wr (i + 1)) (xL G) ∧ inb (wr (i + 2)) (xL G) ∧ inb (wr (i + 3)) (xL G)) : ∃ z, fL_14 G adx i sx sm h = some z ∧ LG G ca adx c0 s0 (n + 1) z := by
  obtain ⟨A, w, H, e, h6, h0, hw, hp, b1, b2⟩ := I
  subst e
  obtain ⟨s1, e1, k1⟩ := p0_see h6.1 h0 (xs G (wr (i + 1))) (xs G (wr (i + 2))) (bz (xs G (wr (i + 3)))) (by unfold bz; split <;> simp)
  obtain ⟨s2, e2, k2⟩ := p6_see h6 (xs G (wr (i + 1))) (xs G (wr (i + 2))) (bz (xs G (wr (i + 3))))
  refine ⟨(s1, s2, wh w), ?_, ?_⟩
  · unfold fL_14
    rw [gd_t g, e1, bd_s, e2, bd_s]
    exact gd_t rfl
  · have hI : asI (sp_see A (xs G (wr (i + 1))) (xs G (wr (i + 2))) (bz (xs G (wr (i + 3))))).2 = asI A := by unfold sp_see; split; (split; (split <;> rfl); rfl); rfl
    exact LI.to k2 k1 (by rw [hI]; exact hw) (hp.see _ _ _) (cW_refl w _) b1 b2
theorem ls_15 (I : LI G.2.2.2 ca (adx 20) c0 s0 n sx sm h) : ∃ z, fL_15 G adx i sx sm h = some z ∧ LG G ca adx c0 s0 (n + 1) z := by
  obtain ⟨A, w, H, e, h6, h0, hw, hp, b1, b2⟩ := I
  subst e
  obtain ⟨s1, e1, k1⟩ := p0_forget h0
  obtain ⟨s2, e2, k2⟩ := p6_forget h6
  refine ⟨(s1, s2, wh w), ?_, ?_⟩
  · unfold fL_15
    rw [e1, bd_s, e2, bd_s]
    exact gd_t rfl
  · exact LI.to k2 k1 hw hp.forget (cW_refl w _) b1 b2
theorem ls_16 (hn : n < 24) (I : LI G.2.2.2 ca (adx 20) c0 s0 n sx sm h) (g : inb (wr (i + 1)) (xL G) ∧ inb (wr (i + 2)) (xL G) ∧ inb (wr (i + 3)) (xL G)) : ∃ z, fL_16 G adx i sx sm h = some z ∧ LG G ca adx c0 s0 (n + 1) z := by
  obtain ⟨A, w, H, e, h6, h0, hw, hp, b1, b2⟩ := I
  subst e
  have hs := hp.sum hn
  have hr : xs G (wr (i + 2)) < 2147483648 := by have := (xs_r G (wr (i + 2))).2; omega
  obtain ⟨s2, e2, k2⟩ := p6_drawn h6 hp.2.2.2.2.2.2 (xs G (wr (i + 1))) (xs G (wr (i + 2))) (xs G (wr (i + 3))) hr
  obtain ⟨s1, w', e1, k1, kw, kc⟩ := W_drawn h6.1 (UH_ok hp.1 hs) (UH_bd hs) UH_d hp.2.2.2.2.2.2 hw h0 (xs G (wr (i + 1))) (xs G (wr (i + 2))) (xs G (wr (i + 3))) hr
  refine ⟨(s1, s2, wh w'), ?_, ?_⟩
  · unfold fL_16
    rw [gd_t g, e1, bd_s, e2, bd_s]
    exact gd_t rfl
  · exact LI.to k2 k1 kw hp.next (stW_c4 kc kw (UH_bd hs) (by decide)) b1 b2
theorem ls_17 (I : LI G.2.2.2 ca (adx 20) c0 s0 n sx sm h) : ∃ z, fL_17 G adx i sx sm h = some z ∧ LG G ca adx c0 s0 (n + 1) z := by
  obtain ⟨A, w, H, e, h6, h0, hw, hp, b1, b2⟩ := I
  subst e
  obtain ⟨s1, e1, k1⟩ := p0_image h6.1 hw.1.ext h0
  obtain ⟨s2, e2, k2⟩ := p6_image h6
  refine ⟨(s1, s2, wh w), ?_, ?_⟩
  · unfold fL_17
    rw [e1, bd_s, e2, bd_s]
    exact gd_t rfl
  · have hI : asI (sp_image A).2 = asI A := by unfold sp_image; split <;> rfl
    exact LI.to k2 k1 (by rw [hI]; exact hw) hp.image (cW_refl w _) b1 b2
theorem ls_18 (I : LI G.2.2.2 ca (adx 20) c0 s0 n sx sm h) : ∃ z, fL_18 G adx i sx sm h = some z ∧ LG G ca adx c0 s0 (n + 1) z := by
  obtain ⟨A, w, H, e, h6, h0, hw, hp, b1, b2⟩ := I
  subst e
  obtain ⟨s2, e2, k2⟩ := p6_restore h6
  obtain ⟨s1, w', e1, k1, kw, kc⟩ := W_restore h6.1 hw h0
  refine ⟨(s1, s2, wh w'), ?_, ?_⟩
  · unfold fL_18
    rw [e1, bd_s, e2, bd_s]
    exact gd_t rfl
  · exact LI.to k2 k1 kw hp.restore (cW_mono kc (by decide)) b1 b2
theorem ls_19 (hn : n < 24) (I : LI G.2.2.2 ca (adx 20) c0 s0 n sx sm h) (g : inb (wr (i + 1)) (xL G)) : ∃ z, fL_19 G adx i sx sm h = some z ∧ LG G ca adx c0 s0 (n + 1) z := by
  obtain ⟨A, w, H, e, h6, h0, hw, hp, b1, b2⟩ := I
  subst e
  have hs := hp.sum hn
  obtain ⟨s2, e2, k2⟩ := p6_count h6 (xs G (wr (i + 1))) (xs_r _ _)
  obtain ⟨w', e1, kw, kc⟩ := W_count (UH_ok hp.1 hs) (UH_bd hs) UH_5 hp.Usl hw h0 (xs G (wr (i + 1)))
  refine ⟨(sx, s2, wh w'), ?_, ?_⟩
  · unfold fL_19
    rw [gd_t g, e1, bd_s, e2, bd_s]
    exact gd_t rfl
  · exact LI.to k2 (h0.mono kc.1) kw hp.next (stW_c4 kc kw (UH_bd hs) (by decide)) b1 b2
theorem ls_20 (hn : n < 24) (I : LI G.2.2.2 ca (adx 20) c0 s0 n sx sm h) : ∃ z, fL_20 G adx i sx sm h = some z ∧ LG G ca adx c0 s0 (n + 1) z := by
  obtain ⟨A, w, H, e, h6, h0, hw, hp, b1, b2⟩ := I
  subst e
  have hs := hp.sum hn
  obtain ⟨s2, e2, k2⟩ := p6_digest h6
  obtain ⟨s1, w', e1, k1, kw, kc⟩ := W_digest h6.1 (UH_ok hp.1 hs) (UH_bd hs) UH_5 hp.Usl hw h0
  refine ⟨(s1, s2, wh w'), ?_, ?_⟩
  · unfold fL_20
    rw [e1, bd_s, e2, bd_s]
    exact gd_t rfl
  · exact LI.to k2 k1 kw hp.next (stW_c4 kc kw (UH_bd hs) (by decide)) b1 b2
theorem ls_call (hn : n < 24) (I : LI G.2.2.2 ca (adx 20) c0 s0 n sx sm h) (g1 : inb (wr (i + 1)) (xL G)) (g2 : inb (wr (i + 2)) (xL G)) (g3 : inb (wr (i + 3)) (xL G)) (g4 : inb (wr (i + 4)) (xL G)) (c : Int) : ∃ z, fL_call G adx i c sx sm h = some z ∧ LG G ca adx c0 s0 (n + 1) z := by
  unfold fL_call
  refine ls_ite (ls_0 I g1) ?_
  refine ls_ite (ls_1 I) ?_
  refine ls_ite (ls_2 I) ?_
  refine ls_ite (ls_3 hn I) ?_
  refine ls_ite (ls_4 hn I g1) ?_
  refine ls_ite (ls_5 I ⟨g1, g2⟩) ?_
  refine ls_ite (ls_6 hn I ⟨g1, g2⟩) ?_
  refine ls_ite (ls_7 hn I ⟨g1, g2⟩) ?_
  refine ls_ite (ls_8 I ⟨g1, g2⟩) ?_
  refine ls_ite (ls_9 I ⟨g1, g2, g3⟩) ?_
  refine ls_ite (ls_10 hn I ⟨g1, g2⟩) ?_
  refine ls_ite (ls_11 hn I ⟨g1, g2, g3⟩) ?_
  refine ls_ite (ls_12 hn I ⟨g1, g2, g3⟩) ?_
  refine ls_ite (ls_13 hn I ⟨g1, g2, g3, g4⟩) ?_
  refine ls_ite (ls_14 I ⟨g1, g2, g3⟩) ?_
  refine ls_ite (ls_15 I) ?_
  refine ls_ite (ls_16 hn I ⟨g1, g2, g3⟩) ?_
  refine ls_ite (ls_17 I) ?_
  refine ls_ite (ls_18 I) ?_
  refine ls_ite (ls_19 hn I g1) ?_
  refine ls_ite (ls_20 hn I) ?_
  obtain ⟨A, w, H, e, h6, h0, hw, hp, b1, b2⟩ := I
  subst e
  exact ⟨_, rfl, LI.to h6 h0 hw hp.next (cW_refl w _) b1 b2⟩
theorem ls_loop (hL : xL G ≤ 120) : ∀ (f n : Nat) (sx sm : Sg) (h : hS), LI G.2.2.2 ca (adx 20) c0 s0 n sx sm h → n ≤ 24 → 24 < f + n → ∃ z m, fL_loop G adx f (5 * (n : Int)) sx sm h = some z ∧ m ≤ 24 ∧ LG G ca adx c0 s0 m z := by
  intro f
  induction f with
  | zero => intro n sx sm h I hn hf; omega
  | succ f ih =>
    intro n sx sm h I hn hf
    rw [fL_loop]
    have w1 : ∀ x : Int, -10 ≤ x → x ≤ 200 → wr x = x := fun x a b => wr_id (by omega) (by omega)
    rw [w1 ((xL G : Int) - 5) (by omega) (by omega)]
    by_cases q : (xL G : Int) - 5 < 5 * (n : Int)
    · rw [if_pos q]
      exact ⟨_, n, rfl, hn, I⟩
    · rw [if_neg q]
      have hn' : n < 24 := by omega
      rw [gd_t ⟨by omega, by omega⟩]
      obtain ⟨z, e, J⟩ := ls_call (i := 5 * (n : Int)) (adx := adx) (ca := ca) (c0 := c0) (s0 := s0) hn' I (by rw [w1 _ (by omega) (by omega)]; exact ⟨by omega, by omega⟩) (by rw [w1 _ (by omega) (by omega)]; exact ⟨by omega, by omega⟩) (by rw [w1 _ (by omega) (by omega)]; exact ⟨by omega, by omega⟩) (by rw [w1 _ (by omega) (by omega)]; exact ⟨by omega, by omega⟩) (iand (xs G (5 * (n : Int))) 31)
      rw [e, bd_s, w1 _ (by omega) (by omega), show 5 * (n : Int) + 5 = 5 * ((n + 1 : Nat) : Int) by omega]
      exact ih (n + 1) z.1 z.2.1 z.2.2 J (by omega) (by omega)
end CALLS

set_option maxRecDepth 100000
/-! PURE: a heap with a list of new cells; the two objects made -/
def hZ (h : hS) (L : List hE) (s : Nat) : hS := (fun a => if a < h.2.1 then h.1 a else L[a - h.2.1]?, h.2.1 + L.length, s)
theorem hZ_0 {h : hS} (hn : ∀ a, h.2.1 ≤ a → h.1 a = none) : hZ h [] h.2.2 = h := by
  unfold hZ
  refine Prod.ext (funext fun a => ?_) (Prod.ext rfl rfl)
  by_cases q : a < h.2.1
  · simp [q]
  · simp [q, hn a (by omega)]
theorem hZ_add (h : hS) (L : List hE) (s : Nat) (e : hE) (s' : Nat) : ((fun b => if b = (hZ h L s).2.1 then some e else (hZ h L s).1 b), (hZ h L s).2.1 + 1, s') = hZ h (L ++ [e]) s' := by
  unfold hZ
  refine Prod.ext (funext fun a => ?_) (Prod.ext (by simp; omega) rfl)
  dsimp only
  by_cases q : a = h.2.1 + L.length
  · subst q
    rw [if_pos rfl, if_neg (by omega), show h.2.1 + L.length - h.2.1 = L.length by omega]
    simp
  · rw [if_neg q]
    by_cases q2 : a < h.2.1
    · rw [if_pos q2, if_pos q2]
    · rw [if_neg q2, if_neg q2]
      by_cases q3 : a - h.2.1 < L.length
      · rw [List.getElem?_append_left q3]
      · rw [List.getElem?_eq_none (by omega), List.getElem?_eq_none (by simp; omega)]
theorem hZ_S {β : Type} (h : hS) (L : List hE) (s c : Nat) (fs : List hV) (K : Nat × hS → Option β) : bd (nwS (hZ h L s) c fs) K = K (h.2.1 + L.length, hZ h (L ++ [.inl (c, fs)]) (s + fs.length)) := by
  unfold nwS
  rw [bd_s]
  unfold nwO
  rw [hZ_add]
  rfl
theorem hZ_A {β : Type} (h : hS) (L : List hE) (s t : Nat) (n : Int) (K : Nat × hS → Option β) (hn : 0 ≤ n ∧ n ≤ 1000000) : bd (nwAS (hZ h L s) t n) K = K (h.2.1 + L.length, hZ h (L ++ [.inr (t, n.toNat, .inl fun _ => 0)]) (s + n.toNat)) := by
  unfold nwAS
  rw [if_pos hn, bd_s]
  unfold nwA
  rw [hZ_add]
  rfl
theorem hZ_Q {β : Type} (h : hS) (L : List hE) (s t : Nat) (n : Int) (K : Nat × hS → Option β) (hn : 0 ≤ n ∧ n ≤ 1000000) : bd (nwQS (hZ h L s) t n) K = K (h.2.1 + L.length, hZ h (L ++ [.inr (t, n.toNat, .inr fun _ => none)]) (s + n.toNat)) := by
  unfold nwQS
  rw [if_pos hn, bd_s]
  unfold nwQ
  rw [hZ_add]
  rfl
theorem hZ_at (h : hS) (L : List hE) (s i : Nat) : (hZ h L s).1 (h.2.1 + i) = L[i]? := by
  show (if h.2.1 + i < h.2.1 then _ else L[h.2.1 + i - h.2.1]?) = _
  rw [if_neg (by omega), show h.2.1 + i - h.2.1 = i by omega]
theorem hZ_up (h : hS) (L : List hE) (s i : Nat) (e : hE) (hi : i < L.length) : hup (hZ h L s) (h.2.1 + i) e = hZ h (L.set i e) s := by
  unfold hup hZ
  refine Prod.ext (funext fun a => ?_) (Prod.ext (by simp) rfl)
  dsimp only
  by_cases q : a = h.2.1 + i
  · subst q
    rw [if_pos rfl, if_neg (by omega), show h.2.1 + i - h.2.1 = i by omega]
    simp [hi]
  · rw [if_neg q]
    by_cases q2 : a < h.2.1
    · rw [if_pos q2, if_pos q2]
    · rw [if_neg q2, if_neg q2, List.getElem?_set, if_neg (by omega)]
theorem hZ_W {β : Type} {h : hS} {L : List hE} {s i c k : Nat} {fs : List hV} {P : List (Nat × Nat)} {v : hV} (K : hS → Option β) (hi : L[i]? = some (.inl (c, fs))) (hP : P.lookup c = some k) (hk : k < fs.length) : bd (hW (hZ h L s) (some (h.2.1 + i)) P v) K = K (hZ h (L.set i (.inl (c, fs.set k v))) s) := by
  have hl : i < L.length := (List.getElem?_eq_some_iff.mp hi).1
  have e : hW (hZ h L s) (some (h.2.1 + i)) P v = some (hZ h (L.set i (.inl (c, fs.set k v))) s) := by
    unfold hW
    show (match (hZ h L s).1 (h.2.1 + i) with | some (.inl (c, fs)) => _ | _ => _) = _
    rw [hZ_at, hi]
    dsimp only
    rw [hP]
    dsimp only
    rw [if_pos hk, hZ_up h L s i _ hl]
  rw [e, bd_s]
theorem hZ_aW {β : Type} {h : hS} {L : List hE} {s i t n c : Nat} {f : Int → Option Nat} {P : List Nat} {x : Int} {a : Nat} (K : hS → Option β) (hi : L[i]? = some (.inr (t, n, .inr f))) (hx : 0 ≤ x ∧ x < (n : Int)) (hc : c ∈ P) (ha : hC (hZ h L s) (some a) = some c) : bd (aWQ (hZ h L s) (some (h.2.1 + i)) t P x (some a)) K = K (hZ h (L.set i (.inr (t, n, .inr (upI f x (some a))))) s) := by
  have hl : i < L.length := (List.getElem?_eq_some_iff.mp hi).1
  have e : aWQ (hZ h L s) (some (h.2.1 + i)) t P x (some a) = some (hZ h (L.set i (.inr (t, n, .inr (upI f x (some a))))) s) := by
    unfold aWQ
    show (match (hZ h L s).1 (h.2.1 + i) with | some (.inr (t', n, .inr f)) => _ | _ => _) = _
    rw [hZ_at, hi]
    dsimp only
    rw [if_pos ⟨rfl, hx.1, hx.2, Or.inr ⟨c, hc, ha⟩⟩, hZ_up h L s i _ hl]
  rw [e, bd_s]
/-- an array made and hung at the object -/
theorem st_A {β : Type} {h : hS} {c : Nat} {fs : List hV} {Ls : List hE} {s t j : Nat} {n : Int} {K : hS → Option β} (hj : j < fs.length) (hn : 0 ≤ n ∧ n ≤ 1000000) :
    bd (nwAS (hZ h (.inl (c, fs) :: Ls) s) t n) (fun p => bd (hW p.2 (some h.2.1) [(c, j)] (vq (some p.1))) K) = K (hZ h (.inl (c, fs.set j (vq (some (h.2.1 + (Ls.length + 1))))) :: (Ls ++ [.inr (t, n.toNat, .inl fun _ => 0)])) (s + n.toNat)) := by
  rw [hZ_A _ _ _ _ _ _ hn]
  exact hZ_W (i := 0) K rfl (by simp [List.lookup]) hj
theorem st_Q {β : Type} {h : hS} {c : Nat} {fs : List hV} {Ls : List hE} {s t j : Nat} {n : Int} {K : hS → Option β} (hj : j < fs.length) (hn : 0 ≤ n ∧ n ≤ 1000000) :
    bd (nwQS (hZ h (.inl (c, fs) :: Ls) s) t n) (fun p => bd (hW p.2 (some h.2.1) [(c, j)] (vq (some p.1))) K) = K (hZ h (.inl (c, fs.set j (vq (some (h.2.1 + (Ls.length + 1))))) :: (Ls ++ [.inr (t, n.toNat, .inr fun _ => none)])) (s + n.toNat)) := by
  rw [hZ_Q _ _ _ _ _ _ hn]
  exact hZ_W (i := 0) K rfl (by simp [List.lookup]) hj
/-- the instance's object, made -/
def inF (o : Nat) : List hV := [vi 0, vi 0, vq none, vq (some (o + 1)), vq (some (o + 2)), vi 0]
def inL (c o : Nat) : List hE := [.inl (c, inF o), .inr (0, 2, .inl fun _ => 0), .inr (0, 2, .inl fun _ => 0)]
theorem in_1 {h : hS} {L : List hE} {s c : Nat} (hc : c = 1 ∨ c = 2 ∨ c = 3 ∨ c = 4 ∨ c = 5) : fX1_init (hZ h (L ++ [.inl (c, [vi 0, vi 0, vq none, vq none, vq none, vi 0])]) s) (some (h.2.1 + L.length)) = some (hZ h (L ++ inL c (h.2.1 + L.length)) (s + 4)) := by
  unfold fX1_init
  rw [gd_t (by simp), hZ_A _ _ _ _ _ _ (by decide)]
  rw [hZ_W (i := L.length) (c := c) (k := 3) (fs := [vi 0, vi 0, vq none, vq none, vq none, vi 0]) _ (by simp) (by rcases hc with q | q | q | q | q <;> subst q <;> rfl) (by decide)]
  rw [hZ_A _ _ _ _ _ _ (by decide)]
  rw [hZ_W (i := L.length) (c := c) (k := 4) (fs := [vi 0, vi 0, vq none, vq (some (h.2.1 + L.length + 1)), vq none, vi 0]) _ (by simp; omega) (by rcases hc with q | q | q | q | q <;> subst q <;> rfl) (by simp)]
  congr 1
  unfold inL inF
  simp [Nat.add_assoc]

set_option maxRecDepth 100000
/-! PURE: the two objects' first fields and arrays -/
def mpF : List hV := [vq none, vq none, vq none, vq none, vi 0, vi 0, vi 0, .inr (.inr (.inl 1061158912))]
def FX (o : Nat) : List hV := [vq (some (o + 1)), vq (some (o + 17)), vq (some (o + 18)), vi 0, vq (some (o + 19)), vi 0, vq (some (o + 20)), vi 0, vq (some (o + 21)), vi 0, vi 0, vi 0, vi 0, vi 0, vi 0, vi 0, vi 0, vi 0, vq (some (o + 22)), vi 0, vq (some (o + 23)), vq (some (o + 24)), vq (some (o + 25)), vq (some (o + 26)), vq (some (o + 27)), vq (some (o + 28)), vi 0, vi 0, vq (some (o + 29)), vq (some (o + 30)), vq (some (o + 31)), vq (some (o + 32)), vq (some (o + 33)), vi 0, vi (-1), (.inr (.inr (.inr 0)))]
def FM (o : Nat) : List hV := [vi 0, vi 0, vq (some (o + 1)), vq (some (o + 2)), vi 0, vq (some (o + 3)), vq (some (o + 4)), vq (some (o + 5)), vq (some (o + 6)), vq (some (o + 7)), vq (some (o + 8)), vq (some (o + 9)), vq (some (o + 10)), vq (some (o + 11)), vq (some (o + 12)), vi 0, vq (some (o + 13)), vq (some (o + 14)), vq (some (o + 15)), vi 0, vq (some (o + 16)), vi 0, vi 0, vi 0, vi 0, vq (some (o + 17)), vq (some (o + 18)), vq (some (o + 19)), vq (some (o + 20)), vq (some (o + 21)), vq (some (o + 22)), vq (some (o + 23)), vq (some (o + 24)), vq (some (o + 25)), vi 0, vq (some (o + 26)), vq (some (o + 27)), vq (some (o + 28)), vq (some (o + 29)), vq (some (o + 30)), vq (some (o + 31)), vq (some (o + 32)), vq (some (o + 33)), vq (some (o + 34)), vq (some (o + 35)), vi 0, vi 0, vq (some (o + 36)), vq (some (o + 37)), vq (some (o + 38)), vi 0, vq (some (o + 39)), (.inr (.inr (.inr 0))), vi 0, vi 0, vi 0, vq (some (o + 40)), vq (some (o + 41)), vq (some (o + 42)), vq (some (o + 43)), vq (some (o + 44)), vq (some (o + 45)), (.inr (.inr (.inr 0)))]
def soF (o : Nat) : Int → Option Nat := upI (upI (upI (upI (upI (fun _ => none) 0 (some (o + 2))) 1 (some (o + 5))) 2 (some (o + 8))) 3 (some (o + 11))) 4 (some (o + 14))
def arX : List hE := [.inr (0, 4, .inl fun _ => 0), .inr (0, 4, .inl fun _ => 0), .inr (3, 6, .inr fun _ => none), .inr (4, 4, .inr fun _ => none), .inr (0, 84, .inl fun _ => 0), .inr (0, 6, .inl fun _ => 0), .inl (11, mpF), .inr (1, 36, .inl fun _ => 0), .inr (1, 36, .inl fun _ => 0), .inr (0, 6, .inl fun _ => 0), .inr (0, 6, .inl fun _ => 0), .inr (1, 6, .inl fun _ => 0), .inr (0, 6, .inl fun _ => 0), .inr (4, 4, .inr fun _ => none), .inr (0, 6, .inl fun _ => 0), .inr (0, 6, .inl fun _ => 0), .inr (1, 6, .inl fun _ => 0)]
def LX (o : Nat) : List hE := .inl (0, FX o) :: .inr (3, 5, .inr (soF o)) :: (inL 1 (o + 2) ++ inL 2 (o + 5) ++ inL 3 (o + 8) ++ inL 4 (o + 11) ++ inL 5 (o + 14) ++ arX)
def arM : List hE := [.inr (0, 4, .inl fun _ => 0), .inr (0, 4, .inl fun _ => 0), .inr (0, 6, .inl fun _ => 0), .inr (0, 6, .inl fun _ => 0), .inr (0, 30, .inl fun _ => 0), .inr (0, 6, .inl fun _ => 0), .inr (0, 6, .inl fun _ => 0), .inr (0, 12, .inl fun _ => 0), .inr (0, 12, .inl fun _ => 0), .inr (0, 36, .inl fun _ => 0), .inr (0, 36, .inl fun _ => 0), .inr (0, 4, .inl fun _ => 0), .inr (0, 6, .inl fun _ => 0), .inr (0, 6, .inl fun _ => 0), .inr (0, 6, .inl fun _ => 0), .inr (2, 84, .inl fun _ => 0), .inr (0, 4, .inl fun _ => 0), .inr (0, 6, .inl fun _ => 0), .inr (0, 6, .inl fun _ => 0), .inr (0, 6, .inl fun _ => 0), .inr (0, 6, .inl fun _ => 0), .inr (0, 6, .inl fun _ => 0), .inr (0, 12, .inl fun _ => 0), .inr (0, 9, .inl fun _ => 0), .inr (0, 9, .inl fun _ => 0), .inr (0, 2, .inl fun _ => 0), .inr (0, 36, .inl fun _ => 0), .inr (0, 36, .inl fun _ => 0), .inr (0, 36, .inl fun _ => 0), .inr (0, 36, .inl fun _ => 0), .inr (0, 36, .inl fun _ => 0), .inr (0, 36, .inl fun _ => 0), .inr (0, 36, .inl fun _ => 0), .inr (0, 36, .inl fun _ => 0), .inr (0, 36, .inl fun _ => 0), .inr (0, 4, .inl fun _ => 0), .inr (0, 64, .inl fun _ => 0), .inr (0, 64, .inl fun _ => 0), .inr (0, 64, .inl fun _ => 0), .inr (0, 6, .inl fun _ => 0), .inr (0, 36, .inl fun _ => 0), .inr (0, 4, .inl fun _ => 0), .inr (0, 6, .inl fun _ => 0), .inr (0, 6, .inl fun _ => 0), .inr (0, 6, .inl fun _ => 0)]
def LM (o : Nat) : List hE := .inl (6, FM o) :: arM
theorem hZ_eq {h : hS} {L L' : List hE} {s s' : Nat} (e : L = L') (q : s = s') : some (hZ h L s) = some (hZ h L' s') := by subst e; subst q; rfl
theorem st_I {β : Type} {h : hS} {e : hE} {f : Int → Option Nat} {Ls : List hE} {s c : Nat} {x : Int} {K : hS → Option β} {ini : hS → Option Nat → Option hS} (hi : ∀ h o, o ≠ none → ini h o = fX1_init h o) (hc : c = 1 ∨ c = 2 ∨ c = 3 ∨ c = 4 ∨ c = 5) (hx : 0 ≤ x ∧ x < 5) :
    bd (nwS (hZ h (e :: .inr (3, 5, .inr f) :: Ls) s) c [vi 0, vi 0, vq none, vq none, vq none, vi 0]) (fun p5 => bd (ini p5.2 (some p5.1)) fun p8 => bd (aWQ p8 (some (h.2.1 + 1)) 3 [1, 2, 3, 4, 5] x (some p5.1)) K) =
    K (hZ h (e :: .inr (3, 5, .inr (upI f x (some (h.2.1 + (Ls.length + 2))))) :: (Ls ++ inL c (h.2.1 + (Ls.length + 2)))) (s + 6 + 4)) := by
  rw [hZ_S]
  dsimp only
  rw [hi _ _ (by simp), in_1 hc, bd_s]
  rw [hZ_aW (i := 1) (n := 5) (f := f) (c := c) K (by simp) hx (by rcases hc with q | q | q | q | q <;> subst q <;> simp) (by unfold hC; simp only [nn]; rw [hZ_at]; simp [inL])]
  congr 1
theorem in_2 : ∀ (h : hS) (o : Option Nat), o ≠ none → fX2_init h o = fX1_init h o := fun h o q => by unfold fX2_init; rw [gd_t q]; cases fX1_init h o <;> rfl
theorem in_3 : ∀ (h : hS) (o : Option Nat), o ≠ none → fX3_init h o = fX1_init h o := fun h o q => by unfold fX3_init; rw [gd_t q]; cases fX1_init h o <;> rfl
theorem in_4 : ∀ (h : hS) (o : Option Nat), o ≠ none → fX4_init h o = fX1_init h o := fun h o q => by unfold fX4_init; rw [gd_t q]; cases fX1_init h o <;> rfl
theorem in_5 : ∀ (h : hS) (o : Option Nat), o ≠ none → fX5_init h o = fX1_init h o := fun h o q => by unfold fX5_init; rw [gd_t q, in_4 h o q]; cases fX1_init h o <;> rfl
/-- the HashMap made and hung at the object -/
theorem st_M {β : Type} {h : hS} {c : Nat} {fs : List hV} {Ls : List hE} {s j : Nat} {K : hS → Option β} (hj : j < fs.length) :
    bd (nwS (hZ h (.inl (c, fs) :: Ls) s) 11 [vq none, vq none, vq none, vq none, vi 0, vi 0, vi 0, .inr (.inr (.inl 0))]) (fun p99 => bd (fJ1_init p99.2 (some p99.1)) fun p102 => bd (hW p102 (some h.2.1) [(c, j)] (vq (some p99.1))) K) =
    K (hZ h (.inl (c, fs.set j (vq (some (h.2.1 + (Ls.length + 1))))) :: (Ls ++ [.inl (11, mpF)])) (s + 8)) := by
  rw [hZ_S]
  dsimp only
  unfold fJ1_init fJ0_init
  rw [gd_t (by simp), gd_t (by simp), bd_s]
  rw [hZ_W (i := (Sum.inl (c, fs) :: Ls : List hE).length) (c := 11) (k := 7) (fs := [vq none, vq none, vq none, vq none, vi 0, vi 0, vi 0, .inr (.inr (.inl 0))]) _ (by simp) (by rfl) (by simp), bd_s]
  refine (hZ_W (i := 0) (c := c) (k := j) (fs := fs) K (by simp) (by simp [List.lookup]) hj).trans ?_
  congr 1
  simp [mpF]
theorem x6_init (h : hS) (s : Nat) : fX6_init (hZ h [.inl (6, D6)] s) (some h.2.1) = some (hZ h (LM h.2.1) (s + 914)) := by
  unfold fX6_init
  rw [gd_t (by simp)]
  rw [st_A (by simp [D6]) (by decide)]
  rw [st_A (by simp [D6]) (by decide)]
  rw [st_A (by simp [D6]) (by decide)]
  rw [st_A (by simp [D6]) (by decide)]
  rw [st_A (by simp [D6]) (by decide)]
  rw [st_A (by simp [D6]) (by decide)]
  rw [st_A (by simp [D6]) (by decide)]
  rw [st_A (by simp [D6]) (by decide)]
  rw [st_A (by simp [D6]) (by decide)]
  rw [st_A (by simp [D6]) (by decide)]
  rw [st_A (by simp [D6]) (by decide)]
  rw [st_A (by simp [D6]) (by decide)]
  rw [st_A (by simp [D6]) (by decide)]
  rw [st_A (by simp [D6]) (by decide)]
  rw [st_A (by simp [D6]) (by decide)]
  rw [st_A (by simp [D6]) (by decide)]
  rw [st_A (by simp [D6]) (by decide)]
  rw [st_A (by simp [D6]) (by decide)]
  rw [st_A (by simp [D6]) (by decide)]
  rw [st_A (by simp [D6]) (by decide)]
  rw [st_A (by simp [D6]) (by decide)]
  rw [st_A (by simp [D6]) (by decide)]
  rw [st_A (by simp [D6]) (by decide)]
  rw [st_A (by simp [D6]) (by decide)]
  rw [st_A (by simp [D6]) (by decide)]
  rw [st_A (by simp [D6]) (by decide)]
  rw [st_A (by simp [D6]) (by decide)]
  rw [st_A (by simp [D6]) (by decide)]
  rw [st_A (by simp [D6]) (by decide)]
  rw [st_A (by simp [D6]) (by decide)]
  rw [st_A (by simp [D6]) (by decide)]
  rw [st_A (by simp [D6]) (by decide)]
  rw [st_A (by simp [D6]) (by decide)]
  rw [st_A (by simp [D6]) (by decide)]
  rw [st_A (by simp [D6]) (by decide)]
  rw [st_A (by simp [D6]) (by decide)]
  rw [st_A (by simp [D6]) (by decide)]
  rw [st_A (by simp [D6]) (by decide)]
  rw [st_A (by simp [D6]) (by decide)]
  rw [st_A (by simp [D6]) (by decide)]
  rw [st_A (by simp [D6]) (by decide)]
  rw [st_A (by simp [D6]) (by decide)]
  rw [st_A (by simp [D6]) (by decide)]
  rw [st_A (by simp [D6]) (by decide)]
  rw [st_A (by simp [D6]) (by decide)]
  refine hZ_eq ?_ (by simp [Nat.add_assoc])
  simp [LM, FM, D6, arM]
theorem x0_init (h : hS) (s : Nat) : fX0_init (hZ h [.inl (0, D0)] s) (some h.2.1) = some (hZ h (LX h.2.1) (s + 289)) := by
  unfold fX0_init
  rw [gd_t (by simp), hZ_Q _ _ _ _ _ _ (by decide)]
  refine (st_I (fun _ _ _ => rfl) (by decide) (by decide)).trans ?_
  refine (st_I in_2 (by decide) (by decide)).trans ?_
  refine (st_I in_3 (by decide) (by decide)).trans ?_
  refine (st_I in_4 (by decide) (by decide)).trans ?_
  refine (st_I in_5 (by decide) (by decide)).trans ?_
  refine (hZ_W (i := 0) (c := 0) (k := 0) (fs := D0) _ (by rfl) (by rfl) (by simp [D0])).trans ?_
  refine (st_A (by simp [D0]) (by decide)).trans ?_
  refine (st_A (by simp [D0]) (by decide)).trans ?_
  refine (st_Q (by simp [D0]) (by decide)).trans ?_
  refine (st_Q (by simp [D0]) (by decide)).trans ?_
  refine (st_A (by simp [D0]) (by decide)).trans ?_
  refine (st_A (by simp [D0]) (by decide)).trans ?_
  refine (st_M (by simp [D0])).trans ?_
  refine (st_A (by simp [D0]) (by decide)).trans ?_
  refine (st_A (by simp [D0]) (by decide)).trans ?_
  refine (st_A (by simp [D0]) (by decide)).trans ?_
  refine (st_A (by simp [D0]) (by decide)).trans ?_
  refine (st_A (by simp [D0]) (by decide)).trans ?_
  refine (st_A (by simp [D0]) (by decide)).trans ?_
  refine (st_Q (by simp [D0]) (by decide)).trans ?_
  refine (st_A (by simp [D0]) (by decide)).trans ?_
  refine (st_A (by simp [D0]) (by decide)).trans ?_
  refine (st_A (by simp [D0]) (by decide)).trans ?_
  refine (hZ_W (i := 0) (c := 0) (k := 34) _ (by rfl) (by rfl) (by simp [D0])).trans ?_
  refine hZ_eq ?_ (by simp [Nat.add_assoc])
  simp [LX, FX, D0, arX, soF, inL]

set_option maxRecDepth 100000
/-! PURE: the two objects are held; what the world is at the loop's start -/
def ixX (k : Nat) : Nat := ([1, 17, 18, 0, 19, 0, 20, 0, 21, 0, 0, 0, 0, 0, 0, 0, 0, 0, 22, 0, 23, 24, 25, 26, 27, 28, 0, 0, 29, 30, 31, 32, 33, 0, 0, 0] : List Nat).getD k 0
def ixM (k : Nat) : Nat := ([0, 0, 1, 2, 0, 3, 4, 5, 6, 7, 8, 9, 10, 11, 12, 0, 13, 14, 15, 0, 16, 0, 0, 0, 0, 17, 18, 19, 20, 21, 22, 23, 24, 25, 0, 26, 27, 28, 29, 30, 31, 32, 33, 34, 35, 0, 0, 36, 37, 38, 0, 39, 0, 0, 0, 0, 40, 41, 42, 43, 44, 45, 0] : List Nat).getD k 0
def sX0 (o : Nat) : Sg := (fun k => if k = 34 then -1 else 0, fun _ _ => 0, fun k => if k = 0 then soF o else fun _ => none)
def sM0 : Sg := (fun _ => 0, fun _ _ => 0, fun _ _ => none)
theorem held_X {z : hS} {o : Nat} (hz : ∀ i, i < 34 → z.1 (o + i) = (LX o)[i]?) : heldIn (0, o, fun k => o + ixX k) (sX0 o) z := by
  refine ⟨FX o, (hz 0 (by decide)).trans rfl, fun k hk => ?_, fun k hk => ?_⟩
  · have hk : k < 36 := hk
    obtain rfl | rfl | rfl | rfl | rfl | rfl | rfl | rfl | rfl | rfl | rfl | rfl | rfl | rfl | rfl | rfl | rfl | rfl | rfl | rfl | rfl | rfl | rfl | rfl | rfl | rfl | rfl | rfl | rfl | rfl | rfl | rfl | rfl | rfl | rfl | rfl : k = 0 ∨ k = 1 ∨ k = 2 ∨ k = 3 ∨ k = 4 ∨ k = 5 ∨ k = 6 ∨ k = 7 ∨ k = 8 ∨ k = 9 ∨ k = 10 ∨ k = 11 ∨ k = 12 ∨ k = 13 ∨ k = 14 ∨ k = 15 ∨ k = 16 ∨ k = 17 ∨ k = 18 ∨ k = 19 ∨ k = 20 ∨ k = 21 ∨ k = 22 ∨ k = 23 ∨ k = 24 ∨ k = 25 ∨ k = 26 ∨ k = 27 ∨ k = 28 ∨ k = 29 ∨ k = 30 ∨ k = 31 ∨ k = 32 ∨ k = 33 ∨ k = 34 ∨ k = 35 := by omega
    all_goals rfl
  · have hk : k < 36 := hk
    obtain rfl | rfl | rfl | rfl | rfl | rfl | rfl | rfl | rfl | rfl | rfl | rfl | rfl | rfl | rfl | rfl | rfl | rfl | rfl | rfl | rfl | rfl | rfl | rfl | rfl | rfl | rfl | rfl | rfl | rfl | rfl | rfl | rfl | rfl | rfl | rfl : k = 0 ∨ k = 1 ∨ k = 2 ∨ k = 3 ∨ k = 4 ∨ k = 5 ∨ k = 6 ∨ k = 7 ∨ k = 8 ∨ k = 9 ∨ k = 10 ∨ k = 11 ∨ k = 12 ∨ k = 13 ∨ k = 14 ∨ k = 15 ∨ k = 16 ∨ k = 17 ∨ k = 18 ∨ k = 19 ∨ k = 20 ∨ k = 21 ∨ k = 22 ∨ k = 23 ∨ k = 24 ∨ k = 25 ∨ k = 26 ∨ k = 27 ∨ k = 28 ∨ k = 29 ∨ k = 30 ∨ k = 31 ∨ k = 32 ∨ k = 33 ∨ k = 34 ∨ k = 35 := by omega
    all_goals first | trivial | exact (hz _ (by decide)).trans rfl
theorem held_M {z : hS} {o : Nat} (hz : ∀ i, i < 46 → z.1 (o + i) = (LM o)[i]?) : heldIn (6, o, fun k => o + ixM k) sM0 z := by
  refine ⟨FM o, (hz 0 (by decide)).trans rfl, fun k hk => ?_, fun k hk => ?_⟩
  · have hk : k < 63 := hk
    obtain rfl | rfl | rfl | rfl | rfl | rfl | rfl | rfl | rfl | rfl | rfl | rfl | rfl | rfl | rfl | rfl | rfl | rfl | rfl | rfl | rfl | rfl | rfl | rfl | rfl | rfl | rfl | rfl | rfl | rfl | rfl | rfl | rfl | rfl | rfl | rfl | rfl | rfl | rfl | rfl | rfl | rfl | rfl | rfl | rfl | rfl | rfl | rfl | rfl | rfl | rfl | rfl | rfl | rfl | rfl | rfl | rfl | rfl | rfl | rfl | rfl | rfl | rfl : k = 0 ∨ k = 1 ∨ k = 2 ∨ k = 3 ∨ k = 4 ∨ k = 5 ∨ k = 6 ∨ k = 7 ∨ k = 8 ∨ k = 9 ∨ k = 10 ∨ k = 11 ∨ k = 12 ∨ k = 13 ∨ k = 14 ∨ k = 15 ∨ k = 16 ∨ k = 17 ∨ k = 18 ∨ k = 19 ∨ k = 20 ∨ k = 21 ∨ k = 22 ∨ k = 23 ∨ k = 24 ∨ k = 25 ∨ k = 26 ∨ k = 27 ∨ k = 28 ∨ k = 29 ∨ k = 30 ∨ k = 31 ∨ k = 32 ∨ k = 33 ∨ k = 34 ∨ k = 35 ∨ k = 36 ∨ k = 37 ∨ k = 38 ∨ k = 39 ∨ k = 40 ∨ k = 41 ∨ k = 42 ∨ k = 43 ∨ k = 44 ∨ k = 45 ∨ k = 46 ∨ k = 47 ∨ k = 48 ∨ k = 49 ∨ k = 50 ∨ k = 51 ∨ k = 52 ∨ k = 53 ∨ k = 54 ∨ k = 55 ∨ k = 56 ∨ k = 57 ∨ k = 58 ∨ k = 59 ∨ k = 60 ∨ k = 61 ∨ k = 62 := by omega
    all_goals rfl
  · have hk : k < 63 := hk
    obtain rfl | rfl | rfl | rfl | rfl | rfl | rfl | rfl | rfl | rfl | rfl | rfl | rfl | rfl | rfl | rfl | rfl | rfl | rfl | rfl | rfl | rfl | rfl | rfl | rfl | rfl | rfl | rfl | rfl | rfl | rfl | rfl | rfl | rfl | rfl | rfl | rfl | rfl | rfl | rfl | rfl | rfl | rfl | rfl | rfl | rfl | rfl | rfl | rfl | rfl | rfl | rfl | rfl | rfl | rfl | rfl | rfl | rfl | rfl | rfl | rfl | rfl | rfl : k = 0 ∨ k = 1 ∨ k = 2 ∨ k = 3 ∨ k = 4 ∨ k = 5 ∨ k = 6 ∨ k = 7 ∨ k = 8 ∨ k = 9 ∨ k = 10 ∨ k = 11 ∨ k = 12 ∨ k = 13 ∨ k = 14 ∨ k = 15 ∨ k = 16 ∨ k = 17 ∨ k = 18 ∨ k = 19 ∨ k = 20 ∨ k = 21 ∨ k = 22 ∨ k = 23 ∨ k = 24 ∨ k = 25 ∨ k = 26 ∨ k = 27 ∨ k = 28 ∨ k = 29 ∨ k = 30 ∨ k = 31 ∨ k = 32 ∨ k = 33 ∨ k = 34 ∨ k = 35 ∨ k = 36 ∨ k = 37 ∨ k = 38 ∨ k = 39 ∨ k = 40 ∨ k = 41 ∨ k = 42 ∨ k = 43 ∨ k = 44 ∨ k = 45 ∨ k = 46 ∨ k = 47 ∨ k = 48 ∨ k = 49 ∨ k = 50 ∨ k = 51 ∨ k = 52 ∨ k = 53 ∨ k = 54 ∨ k = 55 ∨ k = 56 ∨ k = 57 ∨ k = 58 ∨ k = 59 ∨ k = 60 ∨ k = 61 ∨ k = 62 := by omega
    all_goals first | trivial | exact (hz _ (by decide)).trans rfl

set_option maxRecDepth 100000
/-! PURE: the pure law, out of the facts of the first heap -/
def A00 : As := ([], (0, fun _ => 0, fun _ => 0), [], fun _ => none, [], 0, none)
theorem okA_00 : okA A00 := ⟨⟨Nat.zero_le _, fun c hc => (by cases hc)⟩, ⟨Nat.zero_le _, fun c hc => absurd hc (Nat.not_lt_zero c)⟩, ⟨Nat.zero_le _, fun c hc => absurd hc (Nat.not_lt_zero c)⟩, fun k hk t e => (by cases e), ⟨Nat.zero_le _, fun e he => (by cases he)⟩, ⟨by decide, by decide⟩, fun b Ks S E e => (by cases e)⟩
theorem R6_00 : R6 sM0 A00 := by
  refine ⟨okA_00, rfl, ?_, ?_, fun c hc => absurd hc (Nat.not_lt_zero c), ?_, ?_, ⟨rfl, fun j c hj => by cases hj⟩, rfl⟩
  · refine ⟨rfl, Nat.zero_le _, rfl, Nat.zero_le _, ?_⟩
    intro i hi; exact absurd hi (Nat.not_lt_zero _)
  · intro i e hi; exact absurd hi (Nat.not_lt_zero _)
  · intro k hk; exact rfl
  · exact ⟨rfl, fun j e hj => by cases hj⟩
def kpX (i : Nat) : Bool := (decide (2 ≤ i) && decide (i < 17))
/-- the first world's heap: the objects' own cells are out of it; with or without the map -/
def st9 (st0 : hS) (m : Bool) (s : Nat) : hS := (fun a => if a < st0.2.1 then st0.1 a else if (kpX (a - st0.2.1) || (m && (a - st0.2.1 == 23))) = true then (LX st0.2.1)[a - st0.2.1]? else none, st0.2.1 + 80, s)
theorem st9_old {st0 : hS} {m : Bool} {s a : Nat} (h : a < st0.2.1) : (st9 st0 m s).1 a = st0.1 a := if_pos h
theorem st9_new {st0 : hS} {m : Bool} {s i : Nat} : (st9 st0 m s).1 (st0.2.1 + i) = if (kpX i || (m && (i == 23))) = true then (LX st0.2.1)[i]? else none := by
  show (if st0.2.1 + i < st0.2.1 then _ else _) = _
  rw [if_neg (by omega), show st0.2.1 + i - st0.2.1 = i by omega]
theorem LX_len (o : Nat) : (LX o).length = 34 := rfl
theorem LM_len (o : Nat) : (LM o).length = 46 := rfl
theorem new_pair {st0 : hS} (hn : ∀ a, st0.2.1 ≤ a → st0.1 a = none) : ∃ h2, fL_new st0 = some (st0.2.1, st0.2.1 + 34, h2) ∧ h2.2.2 ≤ st0.2.2 + 3000 ∧ h2.2.1 = st0.2.1 + 80 ∧ (∀ a, a < st0.2.1 → h2.1 a = st0.1 a) ∧ (∀ i, i < 34 → h2.1 (st0.2.1 + i) = (LX st0.2.1)[i]?) ∧ ∀ i, i < 46 → h2.1 (st0.2.1 + 34 + i) = (LM (st0.2.1 + 34))[i]? := by
  obtain ⟨h1, hh1⟩ : ∃ h1, h1 = hZ st0 (LX st0.2.1) (st0.2.2 + D0.length + 289) := ⟨_, rfl⟩
  have s1 : h1.2.1 = st0.2.1 + 34 := by rw [hh1]; rfl
  have s2 : h1.2.2 = st0.2.2 + 36 + 289 := by rw [hh1]; rfl
  have c1 : ∀ a, a < st0.2.1 → h1.1 a = st0.1 a := fun a ha => by rw [hh1]; exact if_pos ha
  have c2 : ∀ i, h1.1 (st0.2.1 + i) = (LX st0.2.1)[i]? := fun i => by rw [hh1]; exact hZ_at _ _ _ _
  have e1 : hZ h1 [] h1.2.2 = h1 := hZ_0 (fun a ha => by
    rw [s1] at ha
    obtain ⟨i, rfl⟩ := Nat.le.dest (show st0.2.1 ≤ a by omega)
    rw [c2]
    exact List.getElem?_eq_none (by rw [LX_len]; omega))
  refine ⟨hZ h1 (LM h1.2.1) (h1.2.2 + D6.length + 914), ?_, ?_, ?_, ?_, ?_, ?_⟩
  · rw [show fL_new st0 = fL_new (hZ st0 [] st0.2.2) by rw [hZ_0 hn]]
    unfold fL_new
    rw [hZ_S]
    show bd (fX0_init (hZ st0 [.inl (0, D0)] (st0.2.2 + D0.length)) (some st0.2.1)) _ = _
    rw [x0_init, bd_s, ← hh1]
    rw [show nwS h1 6 D6 = nwS (hZ h1 [] h1.2.2) 6 D6 by rw [e1], hZ_S]
    show bd (fX6_init (hZ h1 [.inl (6, D6)] (h1.2.2 + D6.length)) (some h1.2.1)) _ = _
    rw [x6_init, bd_s]
    show some (st0.2.1, h1.2.1, _) = _
    rw [s1]
  · show h1.2.2 + D6.length + 914 ≤ _
    rw [s2, show D6.length = 63 from rfl]
    omega
  · show h1.2.1 + (LM h1.2.1).length = _
    rw [LM_len, s1]
  · intro a ha
    show (if a < h1.2.1 then h1.1 a else _) = _
    rw [if_pos (by omega)]
    exact c1 a ha
  · intro i hi
    show (if st0.2.1 + i < h1.2.1 then h1.1 _ else _) = _
    rw [if_pos (by omega)]
    exact c2 i
  · intro i hi
    rw [← s1]
    exact hZ_at _ _ _ _
/-- what the objects own, by place -/
theorem own_X : ∀ k, k < 36 → 4 ≤ (kdA 0 k).1 → ixX k ≠ 0 ∧ ixX k < 34 ∧ (kpX (ixX k) || (true && (ixX k == 23))) = false := by decide
theorem own_M : ∀ k, k < 63 → 4 ≤ (kdA 6 k).1 → ixM k ≠ 0 ∧ ixM k < 46 := by decide +kernel
theorem inj_X : ∀ i, i < 36 → ∀ j, j < 36 → 4 ≤ (kdA 0 i).1 → 4 ≤ (kdA 0 j).1 → ixX i = ixX j → i = j := by decide +kernel
theorem inj_M : ∀ i, i < 63 → ∀ j, j < 63 → 4 ≤ (kdA 6 i).1 → 4 ≤ (kdA 6 j).1 → ixM i = ixM j → i = j := by decide +kernel
theorem ownX_at {o a : Nat} (h : ownS (0, o, fun k => o + ixX k) a) : ∃ i, a = o + i ∧ i < 34 ∧ (kpX i || (true && (i == 23))) = false := by
  rcases h with h | ⟨k, hk, h4, h⟩
  · exact ⟨0, h, by decide, by decide⟩
  · exact ⟨ixX k, h, (own_X k hk h4).2⟩
theorem ownM_at {o a : Nat} (h : ownS (6, o, fun k => o + ixM k) a) : ∃ i, a = o + i ∧ i < 46 := by
  rcases h with h | ⟨k, hk, h4, h⟩
  · exact ⟨0, h, by decide⟩
  · exact ⟨ixM k, h, (own_M k hk h4).2⟩
theorem spOK_X (o : Nat) : spOK (0, o, fun k => o + ixX k) := by
  refine ⟨Or.inl rfl, fun k hk h4 e => (own_X k hk h4).1 ?_, fun i j hi hj h4 h4' e => inj_X i hi j hj h4 h4' ?_⟩
  · have e : o + ixX k = o := e
    omega
  · have e : o + ixX i = o + ixX j := e
    omega
theorem spOK_M (o : Nat) : spOK (6, o, fun k => o + ixM k) := by
  refine ⟨Or.inr rfl, fun k hk h4 e => (own_M k hk h4).1 ?_, fun i j hi hj h4 h4' e => inj_M i hi j hj h4 h4' ?_⟩
  · have e : o + ixM k = o := e
    omega
  · have e : o + ixM i = o + ixM j := e
    omega
theorem apart_XM {g o : Nat} (hg : g ≤ o) : apart g (0, o, fun k => o + ixX k) (6, o + 34, fun k => o + 34 + ixM k) := by
  refine ⟨rfl, rfl, spOK_X o, spOK_M (o + 34), fun a ha => ?_, fun a ha => ?_, fun a ha hb => ?_⟩
  · obtain ⟨i, e, -⟩ := ownX_at ha; omega
  · obtain ⟨i, e, -⟩ := ownM_at ha; omega
  · obtain ⟨i, e, hi, -⟩ := ownX_at ha
    obtain ⟨j, e', -⟩ := ownM_at hb
    omega
theorem RRs_X (o : Nat) : RRs 0 (sX0 o) := by
  intro k hk
  have hk : k < 36 := hk
  have ha : ∀ t, aOK t (fun _ => 0) := fun t => ⟨fun _ => (by decide : rI 0), fun _ _ => Or.inl rfl, fun _ _ => (by decide : -128 ≤ (0 : Int) ∧ (0 : Int) ≤ 127)⟩
  obtain rfl | rfl | rfl | rfl | rfl | rfl | rfl | rfl | rfl | rfl | rfl | rfl | rfl | rfl | rfl | rfl | rfl | rfl | rfl | rfl | rfl | rfl | rfl | rfl | rfl | rfl | rfl | rfl | rfl | rfl | rfl | rfl | rfl | rfl | rfl | rfl : k = 0 ∨ k = 1 ∨ k = 2 ∨ k = 3 ∨ k = 4 ∨ k = 5 ∨ k = 6 ∨ k = 7 ∨ k = 8 ∨ k = 9 ∨ k = 10 ∨ k = 11 ∨ k = 12 ∨ k = 13 ∨ k = 14 ∨ k = 15 ∨ k = 16 ∨ k = 17 ∨ k = 18 ∨ k = 19 ∨ k = 20 ∨ k = 21 ∨ k = 22 ∨ k = 23 ∨ k = 24 ∨ k = 25 ∨ k = 26 ∨ k = 27 ∨ k = 28 ∨ k = 29 ∨ k = 30 ∨ k = 31 ∨ k = 32 ∨ k = 33 ∨ k = 34 ∨ k = 35 := by omega
  all_goals first | trivial | exact ha _ | exact (by decide : rI 0) | exact (by decide : rI (-1)) | exact Or.inl rfl | exact (by decide : rL 0)
theorem RRs_M : RRs 6 sM0 := by
  intro k hk
  have hk : k < 63 := hk
  have ha : ∀ t, aOK t (fun _ => 0) := fun t => ⟨fun _ => (by decide : rI 0), fun _ _ => Or.inl rfl, fun _ _ => (by decide : -128 ≤ (0 : Int) ∧ (0 : Int) ≤ 127)⟩
  obtain rfl | rfl | rfl | rfl | rfl | rfl | rfl | rfl | rfl | rfl | rfl | rfl | rfl | rfl | rfl | rfl | rfl | rfl | rfl | rfl | rfl | rfl | rfl | rfl | rfl | rfl | rfl | rfl | rfl | rfl | rfl | rfl | rfl | rfl | rfl | rfl | rfl | rfl | rfl | rfl | rfl | rfl | rfl | rfl | rfl | rfl | rfl | rfl | rfl | rfl | rfl | rfl | rfl | rfl | rfl | rfl | rfl | rfl | rfl | rfl | rfl | rfl | rfl : k = 0 ∨ k = 1 ∨ k = 2 ∨ k = 3 ∨ k = 4 ∨ k = 5 ∨ k = 6 ∨ k = 7 ∨ k = 8 ∨ k = 9 ∨ k = 10 ∨ k = 11 ∨ k = 12 ∨ k = 13 ∨ k = 14 ∨ k = 15 ∨ k = 16 ∨ k = 17 ∨ k = 18 ∨ k = 19 ∨ k = 20 ∨ k = 21 ∨ k = 22 ∨ k = 23 ∨ k = 24 ∨ k = 25 ∨ k = 26 ∨ k = 27 ∨ k = 28 ∨ k = 29 ∨ k = 30 ∨ k = 31 ∨ k = 32 ∨ k = 33 ∨ k = 34 ∨ k = 35 ∨ k = 36 ∨ k = 37 ∨ k = 38 ∨ k = 39 ∨ k = 40 ∨ k = 41 ∨ k = 42 ∨ k = 43 ∨ k = 44 ∨ k = 45 ∨ k = 46 ∨ k = 47 ∨ k = 48 ∨ k = 49 ∨ k = 50 ∨ k = 51 ∨ k = 52 ∨ k = 53 ∨ k = 54 ∨ k = 55 ∨ k = 56 ∨ k = 57 ∨ k = 58 ∨ k = 59 ∨ k = 60 ∨ k = 61 ∨ k = 62 := by omega
  all_goals first | trivial | exact ha _ | exact (by decide : rI 0) | exact Or.inl rfl | exact (by decide : rL 0)

