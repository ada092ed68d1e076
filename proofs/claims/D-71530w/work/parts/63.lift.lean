/-! from the world with nothing held to the world with the two objects held -/
set_option maxRecDepth 100000
def heldIn (sp : Sp) (σ : Sg) (st : hS) : Prop := ∃ fs : List hV, st.1 sp.2.1 = some (.inl (sp.1, fs)) ∧ (∀ k, k < nfA sp.1 → vp_V (fs.map hv) k = sgV sp.1 sp.2.2 σ k) ∧ ∀ k, k < nfA sp.1 → match kdA sp.1 k with
  | (4, n, t) => st.1 (sp.2.2 k) = some (.inr (t, n, .inl (gA σ k)))
  | (5, n, t) => st.1 (sp.2.2 k) = some (.inr (t, n, .inr (gQ σ k)))
  | _ => True
theorem kd5_t {ci k : Nat} (hs : ci = 0 ∨ ci = 6) (hk : k < nfA ci) (h : (kdA ci k).1 = 5) : (kdA ci k).2.2 < 7 := by
  rcases hs with rfl | rfl
  · exact (by decide +kernel : ∀ k, k < 36 → (kdA 0 k).1 = 5 → (kdA 0 k).2.2 < 7) k hk h
  · exact (by decide +kernel : ∀ k, k < 63 → (kdA 6 k).1 = 5 → (kdA 6 k).2.2 < 7) k hk h
theorem sgAt_of {G : Gx} {sp : Sp} {σ : Sg} {st : hS} {H : Heap} (hs : sp.1 = 0 ∨ sp.1 = 6) (w : WM G [] [] st H) (h : heldIn sp σ st) : sgAt G sp σ H := by
  obtain ⟨fs, h1, h2, h3⟩ := h
  obtain ⟨r, hr, hob⟩ : ∃ r : vw_C, clA[sp.1]? = some r ∧ t_OB sp.2.1 ((gD G).1 sp.1) r.2.2 ((gD G).2 sp.1) H (vp_V (fs.map hv)) := by
    obtain ⟨r, g1, g2⟩ := (w.2.2.2.1 _ _ h1).1
    exact ⟨r, g1, g2.s (by rcases hs with q | q <;> rw [q] <;> decide)⟩
  refine ⟨?_, fun k hk => ?_⟩
  · obtain ⟨cell, c1, c2, c3, c4⟩ := hob
    refine ⟨cell, c1, c2, c3, fun k hk => ?_⟩
    rw [← h2 k hk]
    refine c4 k ?_
    rcases hs with e | e <;> · rw [e] at hr hk; cases hr; exact hk
  · have h4 := h3 k hk
    unfold sgArr
    rcases hkd : kdA sp.1 k with ⟨a, n, t⟩
    rw [hkd] at h4
    split
    · rename_i he; cases he; exact (w.2.2.2.1 _ _ h4).1.2
    · rename_i he; cases he; exact (w.2.2.2.1 _ _ h4).1.2.2.s (by have q := kd5_t hs hk (by rw [hkd]); rw [hkd] at q; exact q)
    · trivial
/-- the two objects lie apart, in cells of the law's own -/
def apart (g : Nat) (x m : Sp) : Prop := x.1 = 0 ∧ m.1 = 6 ∧ spOK x ∧ spOK m ∧ (∀ a, ownS x a → g ≤ a) ∧ (∀ a, ownS m a → g ≤ a) ∧ ∀ a, ownS x a → ownS m a → False
theorem WM.hold {G : Gx} {x m : Sp} {σx σm : Sg} {st1 st2 : hS} {H : Heap} (w : WM G [] [] st1 H) (hd : apart (gO G).size x m) (hx : heldIn x σx st1) (hm : heldIn m σm st1) (e2 : st2.2 = st1.2) (hs : ∀ a e, st2.1 a = some e → st1.1 a = some e) (hno : ∀ a, ownS x a ∨ ownS m a → st2.1 a = none) : WM G [x, m] [σx, σm] st2 H := by
  obtain ⟨a1, a2, a3, a4, -, -⟩ := id w
  obtain ⟨d1, d2, d3, d4, d5, d6, d7⟩ := hd
  refine ⟨by rw [a1, e2], a2, a3, fun a e he => a4 a e (hs a e he), fun i sp hi => ?_, fun i j sp sp' a hi hj o1 o2 => ?_⟩
  · have h1 : i < 2 := (List.getElem?_eq_some_iff.mp hi).1
    match i, h1 with
    | 0, _ => cases hi; exact ⟨d3, ⟨σx, rfl, sgAt_of (Or.inl d1) w hx⟩, fun a ha => ⟨d5 a ha, hno a (Or.inl ha)⟩⟩
    | 1, _ => cases hi; exact ⟨d4, ⟨σm, rfl, sgAt_of (Or.inr d2) w hm⟩, fun a ha => ⟨d6 a ha, hno a (Or.inr ha)⟩⟩
  · have h1 : i < 2 := (List.getElem?_eq_some_iff.mp hi).1
    have h2 : j < 2 := (List.getElem?_eq_some_iff.mp hj).1
    match i, j, h1, h2 with
    | 0, 0, _, _ => rfl
    | 1, 1, _, _ => rfl
    | 0, 1, _, _ => cases hi; cases hj; exact (d7 a o1 o2).elim
    | 1, 0, _, _ => cases hi; cases hj; exact (d7 a o2 o1).elim
theorem WM.bare {G : Gx} {sps : List Sp} {σs : List Sg} {st : hS} {H : Heap} (w : WM G sps σs st H) : WM G [] [] st H :=
  ⟨w.1, w.2.1, w.2.2.1, w.2.2.2.1, fun i sp h => (by cases h), fun i j sp sp' a h => by cases h⟩
theorem r_hold {G : Gx} {nl : Nat} {n0 F : hS} {rt : Option FieldType} {r : Option Tv} {nm : String} {x m : Sp} {σx σm : Sg} {σF : List Sg} {st1 st2 : hS} {cc : ByteArray} {own : String} {fR lO pc : Nat} {lv : List (Nat × Tv)} {stk : List Tv}
    (hd : apart (gO G).size x m) (hn0 : ∀ a, ownS x a ∨ ownS m a → n0.2.1 ≤ a) (hx : heldIn x σx st1) (hm : heldIn m σm st1) (e2 : st2.2 = st1.2) (hs : ∀ a e, st2.1 a = some e → st1.1 a = some e) (hno : ∀ a, ownS x a ∨ ownS m a → st2.1 a = none) (hrr : RR [x, m] [σx, σm] st2)
    (h : AtPc cc own fR lO (G, nl, [x, m], n0, σF, F, rt, r, nm) [σx, σm] st2 pc lv stk) : AtPc cc own fR lO (G, nl, [], n0, [], F, rt, r, nm) [] st1 pc lv stk := by
  intro rr1
  obtain ⟨⟨p1, p2, p3, p4⟩, h⟩ := h hrr
  refine ⟨⟨by rw [← e2]; exact p1, by rw [← e2]; exact p2, ⟨fun i sp σ hi => (by cases hi), p3.2⟩, p4⟩, fun K C H locs cells slots ls s w => ?_⟩
  obtain ⟨s1, s2, s3, s4, s5⟩ := s
  have hAA : ∀ a, AA G [x, m] n0 a → AA G [] n0 a := by
    rintro a (⟨i, sp, h1, h2⟩ | h1 | h1)
    · have hi : i < 2 := (List.getElem?_eq_some_iff.mp h1).1
      match i, hi with
      | 0, _ => cases h1; exact Or.inr (Or.inr ⟨hd.2.2.2.2.1 a h2, hn0 a (Or.inl h2)⟩)
      | 1, _ => cases h1; exact Or.inr (Or.inr ⟨hd.2.2.2.2.2.1 a h2, hn0 a (Or.inr h2)⟩)
    · exact Or.inr (Or.inl h1)
    · exact Or.inr (Or.inr h1)
  have hAA' : ∀ a, AA G [] n0 a → AA G [x, m] n0 a := by
    rintro a (⟨i, sp, h1, h2⟩ | h1 | h1)
    · cases h1
    · exact Or.inr (Or.inl h1)
    · exact Or.inr (Or.inr h1)
  have C2 : Cx (mk K (G, nl, [x, m], n0, σF, F, rt, r, nm)) cc own fR lO := ⟨C.x, C.b, C.ml, C.o, C.ts, C.rt, C.lk, C.g, C.sz, rfl, C.rc, C.rs, C.fr, C.lo, C.nm, C.xt⟩
  have S2 : Sit (mk K (G, nl, [x, m], n0, σF, F, rt, r, nm)) [σx, σm] st2 H locs cells slots := by
    refine ⟨WM.hold s1 hd hx hm e2 hs hno, ⟨s2.1, fun q h1 h2 => s2.2.1 q h1 (fun h3 => h2 (hAA' q h3)), fun q hq => hAA' _ (s2.2.2 q hq)⟩, ?_, ?_, fun a e he => s5 a e (hs a e he)⟩
    · rw [e2]; exact s3
    · rw [e2]; exact s4
  have k := h K C2 H locs cells slots ls S2 w
  intro T hT X
  obtain ⟨t, a1, o, b1, b2, ⟨⟨q1, q2, q3⟩, q4, q5⟩, L, l1, l2⟩ := k T hT X
  exact ⟨t, a1, o, b1, b2, ⟨⟨q1, WM.bare q2, q3⟩, q4, fun q z1 z2 => q5 q z1 (fun z3 => z2 (hAA q z3))⟩, L, l1, fun q hq => hAA _ (l2 q hq)⟩
