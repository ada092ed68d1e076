/-! BASE 11: calls -/
set_option maxRecDepth 100000
theorem FB_of {G : Gx} {sps : List Sp} {σs : List Sg} {st : hS} {av : List Value} : FrameBlind (va_Pc av (fun U => WM G sps σs st U.heap ∧ GK G U)) := by
  intro a U g mk q
  obtain ⟨q0, q1, q2⟩ := q
  exact ⟨q0, q1, GK.vm (u := U) (U := U.calling g mk a) rfl q2⟩
section RW
variable {N : Nx} {cc : ByteArray} {own : String} {fR lO : Nat} {σs : List Sg} {st : hS} {pc : Nat} {lv : List (Nat × Tv)} {stk : List Tv}
theorem Sit.pre {K : Kx} {H : Heap} {locs : List Loc} {cells slots : Nat} {sps' : List Sp} {σs' : List Sg} (C : Cx (mk K N) cc own fR lO) (hw : WM (nG N) sps' σs' st H) (av : List Value) : ∀ U : State, U.heap = H → (ks K).WarmedH U.vm → va_Pc av (fun U => WM (nG N) sps' σs' st U.heap ∧ GK (nG N) U) av.toArray U :=
  fun U hU hW => ⟨rfl, by rw [hU]; exact hw, C.g.warm hW⟩
/-- behind a call: the callee's objects are its own part of the caller's -/
theorem Sit.back {K : Kx} {H H1 : Heap} {locs L : List Loc} {cells slots : Nat} {sps' : List Sp} {σs1 σsN : List Sg} {st1 : hS}
    (s : Sit (mk K N) σs st H locs cells slots)
    (hsub : ∀ (i : Nat) (sp : Sp), sps'[i]? = some sp → ∃ j : Nat, (np N)[j]? = some sp)
    (hnew : ∀ (j : Nat) (sp : Sp), (np N)[j]? = some sp → (∃ (i : Nat) (σ : Sg), sps'[i]? = some sp ∧ σs1[i]? = some σ ∧ σsN[j]? = some σ) ∨ σsN[j]? = σs[j]? ∧ ∀ i : Nat, sps'[i]? ≠ some sp)
    (h1 : st.2.1 ≤ st1.2.1) (h2 : st.2.2 ≤ st1.2.2) (w1 : WM (nG N) sps' σs1 st1 H1) (hdom : ∀ (a : Nat) (e : hE), st1.1 a = some e → st.1 a ≠ none ∨ st.2.1 ≤ a)
    (hF : ∀ q : Nat, q < H.size → ¬ AA (nG N) sps' st q → H1[q]? = H[q]?) (hL : ∀ q ∈ L, AA (nG N) sps' st q.base) :
    Sit (mk K N) σsN st1 H1 (locs ++ L) (cells + (st1.2.1 - st.2.1)) (slots + (st1.2.2 - st.2.2)) := by
  obtain ⟨⟨a1, a2, a3, a4, a5, a6⟩, hS, hc, hs, hd⟩ := s
  have hc : (n0 N).2.1 + cells = st.2.1 := hc
  have hs : (n0 N).2.2 + slots = st.2.2 := hs
  have hAA : ∀ q, AA (nG N) sps' st q → AA (nG N) (np N) (n0 N) q := by
    intro q hq
    rcases hq with ⟨i, sp, hi, ho⟩ | ⟨g1, g2⟩ | ⟨g1, g2⟩
    · obtain ⟨j, hj⟩ := hsub i sp hi
      exact Or.inl ⟨j, sp, hj, ho⟩
    · cases he : st.1 q with
      | none => exact absurd he g2
      | some e =>
        rcases hd q e he with g | g
        · exact Or.inr (Or.inl ⟨g1, g⟩)
        · exact Or.inr (Or.inr ⟨g1, g⟩)
    · exact Or.inr (Or.inr ⟨g1, by omega⟩)
  obtain ⟨b1, b2, b3, b4, b5, b6⟩ := w1
  refine ⟨⟨b1, b2, b3, b4, fun j sp hj => ?_, a6⟩, ⟨Nat.le_trans hS.1 (by rw [a1, b1]; exact h1), fun q g1 g2 => ?_, fun q hq => ?_⟩, by show (n0 N).2.1 + _ = _; omega, by show (n0 N).2.2 + _ = _; omega, fun a e he => ?_⟩
  · obtain ⟨v1, ⟨σ, v2, v3⟩, v4⟩ := a5 j sp hj
    rcases hnew j sp hj with ⟨i, σ1, g1, g2, g3⟩ | ⟨g1, g2⟩
    · obtain ⟨u1, ⟨σ2, u2, u3⟩, u4⟩ := b5 i sp g1
      cases g2.symm.trans u2
      exact ⟨v1, ⟨σ1, g3, u3⟩, u4⟩
    · have hno : ∀ q, ownS sp q → ¬ AA (nG N) sps' st q := by
        intro q hq hA
        rcases hA with ⟨i, sp', hi, ho⟩ | ⟨-, g⟩ | ⟨-, g⟩
        · obtain ⟨j', hj'⟩ := hsub i sp' hi
          have e9 := a6 j j' sp sp' q hj hj' hq ho
          subst e9
          cases hj.symm.trans hj'
          exact g2 i hi
        · exact g (v4 q hq).2
        · have := v3.lt hq
          omega
      refine ⟨v1, ⟨σ, by rw [g1]; exact v2, v3.kept fun q hq => hF q (v3.lt hq) (hno q hq)⟩, fun q hq => ⟨(v4 q hq).1, ?_⟩⟩
      cases he : st1.1 q with
      | none => rfl
      | some e =>
        exfalso
        rcases hdom q e he with g | g
        · exact g (v4 q hq).2
        · have := v3.lt hq
          omega
  · rw [hF q (Nat.lt_of_lt_of_le g1 hS.1) (fun h => g2 (hAA q h))]
    exact hS.2.1 q g1 g2
  · rcases List.mem_append.mp hq with h | h
    · exact hS.2.2 q h
    · exact hAA _ (hL q h)
  · rcases hdom a e he with g | g
    · cases he' : st.1 a with
      | none => exact absurd he' g
      | some e' => exact hd a e' he'
    · right; show (n0 N).2.1 ≤ a; omega
/-- a run of a call, and what comes behind it -/
theorem r_go {sps' : List Sp} {σs1 σsN : List Sg} {st1 : hS} {r : Option Tv} {stk0 stk : List Tv} {ava : Array Value} {w : Nat}
    (hsub : ∀ (i : Nat) (sp : Sp), sps'[i]? = some sp → ∃ j : Nat, (np N)[j]? = some sp)
    (hnew : ∀ (j : Nat) (sp : Sp), (np N)[j]? = some sp → (∃ (i : Nat) (σ : Sg), sps'[i]? = some sp ∧ σs1[i]? = some σ ∧ σsN[j]? = some σ) ∨ σsN[j]? = σs[j]? ∧ ∀ i : Nat, sps'[i]? ≠ some sp)
    (hpure : RR (np N) σs st → (st.2.1 ≤ st1.2.1 ∧ st.2.2 ≤ st1.2.2) ∧ RR (np N) σsN st1)
    (hrun : RR (np N) σs st → ∀ (K : Kx), Cx (mk K N) cc own fR lO → ∀ (H : Heap) (locs : List Loc) (cells slots : Nat) (ls : Array Slot), Sit (mk K N) σs st H locs cells slots → lv_has ls (nL N) (Lv lv) → cells + (st1.2.1 - st.2.1) ≤ (kR K).cells ∧ slots + (st1.2.2 - st.2.2) ≤ (kR K).slots →
      ∀ T : State, T.heap = H → Stand (kp K) (kl K) (ke K) (kR K) (ks K) (km K) (ka K) (kb K) (kme K) (kc K) T locs cells slots → ∃ (v : Option Value) (st₀ t T' : State) (L : List Loc), st₀.heap = H ∧ Stand (kp K) (kl K) (ke K) (kR K) (ks K) (km K) (ka K) (kb K) (kme K) (kc K) T' (locs ++ L) (cells + (st1.2.1 - st.2.1)) (slots + (st1.2.2 - st.2.2)) ∧ (∀ q ∈ L, AA (nG N) sps' st q.base) ∧ T'.heap = t.heap ∧ QcX (nG N) sps' st r σs1 st1 ava st₀ (.returned v) t ∧ Goes (kp K) (ke K) (kb K) T (F0 (km K) pc ls (stk0.map tv)) T' (F0 (km K) (pc + w) ls (v.toList ++ stk.map tv)))
    {stk1 : List Tv} (hs1 : r.toList ++ stk = stk1) (h : AtPc cc own fR lO N σsN st1 (pc + w) lv stk1) : AtPc cc own fR lO N σs st pc lv stk0 := by
  subst hs1
  intro rr
  obtain ⟨⟨p1, p2⟩, p3⟩ := hpure rr
  have h := h p3
  have hm1 : st1.2.1 ≤ (nF N).2.1 := h.1.1
  have hm2 : st1.2.2 ≤ (nF N).2.2 := h.1.2.1
  refine ⟨⟨Nat.le_trans p1 h.1.1, Nat.le_trans p2 h.1.2.1, h.1.2.2⟩, fun K C H locs cells slots ls s w9 => ?_⟩
  have hcc : (nF N).2.1 - (n0 N).2.1 ≤ (kR K).cells := C.rc
  have hcs : (nF N).2.2 - (n0 N).2.2 ≤ (kR K).slots := C.rs
  have hc1 : (n0 N).2.1 + cells = st.2.1 := s.2.2.1
  have hc2 : (n0 N).2.2 + slots = st.2.2 := s.2.2.2.1
  intro T hT X
  obtain ⟨v, st₀, t, T', L, h0, X', hL, e1, ⟨⟨q1, q2, q3⟩, q4, q5⟩, go⟩ := hrun rr K C H locs cells slots ls s w9 ⟨by omega, by omega⟩ T hT X
  cases q1
  rw [h0] at q4 q5
  obtain ⟨t2, a1, b1⟩ := h.2 K C t.heap (locs ++ L) _ _ ls (s.back hsub hnew p1 p2 q2 q3 q5 hL) w9 T' e1 X'
  refine ⟨t2, go t2 ?_, b1⟩
  have e9 : (r.map tv).toList ++ stk.map tv = (r.toList ++ stk).map tv := by
    rw [List.map_append]
    cases r <;> rfl
  rw [e9]
  exact a1
theorem av_stk {stk0 : List Tv} (av : List Tv) (h : stk0 = av.reverse ++ stk) : stk0.map tv = (av.map tv).reverse ++ stk.map tv := by
  rw [h, List.map_append, List.map_reverse]
theorem tc_sum {stk : List Tv} (h : (stk.map tc).sum ≤ 8) : ((stk.map tv).map fun v => v.category).sum ≤ 8 := by
  rw [List.map_map]
  have : ((fun v : Value => v.category) ∘ tv) = tc := by funext t; exact tv_cat t
  rw [this]
  exact h
/-- which of the caller's objects the callee holds: none, or the one at j -/
def subO (N : Nx) (j : Option Nat) (sps' : List Sp) : Prop := match j with
  | none => sps' = []
  | some j => ∃ sp, (np N)[j]? = some sp ∧ sps' = [sp]
def setO (j : Option Nat) (σs σs1 σsN : List Sg) : Prop := match j with
  | none => σsN = σs
  | some j => ∃ σ, σs1 = [σ] ∧ σsN = σs.set j σ
def getO (j : Option Nat) (σs σs' : List Sg) : Prop := match j with
  | none => σs' = []
  | some j => ∃ σ, σs[j]? = some σ ∧ σs' = [σ]
theorem subO.sub {N : Nx} {j : Option Nat} {sps' : List Sp} (h : subO N j sps') : ∀ (i : Nat) (sp : Sp), sps'[i]? = some sp → ∃ j : Nat, (np N)[j]? = some sp := by
  intro i sp hi
  cases j with
  | none => rw [show sps' = [] from h] at hi; cases hi
  | some j =>
    obtain ⟨sp', h1, rfl⟩ := h
    have hi0 : i < 1 := (List.getElem?_eq_some_iff.mp hi).1
    obtain rfl : i = 0 := by omega
    cases hi
    exact ⟨j, h1⟩
theorem WM.cut {j : Option Nat} {sps' : List Sp} {σs' : List Sg} {H : Heap} (h : subO N j sps') (hg : getO j σs σs') (w : WM (nG N) (np N) σs st H) : WM (nG N) sps' σs' st H := by
  obtain ⟨a1, a2, a3, a4, a5, a6⟩ := w
  refine ⟨a1, a2, a3, a4, ?_, ?_⟩
  · intro i sp hi
    cases j with
    | none => rw [show sps' = [] from h] at hi; cases hi
    | some j =>
      obtain ⟨sp', h1, rfl⟩ := h
      obtain ⟨σ, g1, rfl⟩ := hg
      have hi0 : i < 1 := (List.getElem?_eq_some_iff.mp hi).1
      obtain rfl : i = 0 := by omega
      cases hi
      obtain ⟨v1, ⟨σ9, v2, v3⟩, v4⟩ := a5 j _ h1
      cases g1.symm.trans v2
      exact ⟨v1, ⟨_, rfl, v3⟩, v4⟩
  · intro i k sp sp' a hi hk o1 o2
    cases j with
    | none => rw [show sps' = [] from h] at hi; cases hi
    | some j =>
      obtain ⟨sp', h1, rfl⟩ := h
      have hi0 : i < 1 := (List.getElem?_eq_some_iff.mp hi).1
      have hk0 : k < 1 := (List.getElem?_eq_some_iff.mp hk).1
      omega
theorem RR.cut {j : Option Nat} {sps' : List Sp} {σs' : List Sg} (h : subO N j sps') (hg : getO j σs σs') (rr : RR (np N) σs st) : RR sps' σs' st := by
  refine ⟨fun i sp σ hi hσ => ?_, rr.2⟩
  cases j with
  | none => rw [show sps' = [] from h] at hi; cases hi
  | some j =>
    obtain ⟨sp', h1, rfl⟩ := h
    obtain ⟨σ', g1, rfl⟩ := hg
    have hi0 : i < 1 := (List.getElem?_eq_some_iff.mp hi).1
    obtain rfl : i = 0 := by omega
    cases hi; cases hσ
    exact rr.1 j _ _ h1 g1
theorem RR.paste {j : Option Nat} {sps' : List Sp} {σs1 σsN : List Sg} {st1 : hS} (h : subO N j sps') (hs : setO j σs σs1 σsN) (rr : RR (np N) σs st) (r1 : RR sps' σs1 st1) : RR (np N) σsN st1 := by
  refine ⟨fun i sp σ hi hσ => ?_, r1.2⟩
  cases j with
  | none => rw [show σsN = σs from hs] at hσ; exact rr.1 i sp σ hi hσ
  | some j =>
    obtain ⟨sp', h1, rfl⟩ := h
    obtain ⟨σ', rfl, rfl⟩ := hs
    by_cases hij : j = i
    · subst hij
      cases h1.symm.trans hi
      rw [List.getElem?_set_self (by have := (List.getElem?_eq_some_iff.mp hσ).1; simpa using this)] at hσ
      cases hσ
      exact r1.1 0 _ _ rfl rfl
    · rw [List.getElem?_set_ne hij] at hσ
      exact rr.1 i sp σ hi hσ
theorem new_of {j : Option Nat} {sps' : List Sp} {σs' σs1 σsN : List Sg} {H : Heap} (h : subO N j sps') (hg : getO j σs σs') (hs : setO j σs σs1 σsN) (hinj : ∀ (i k : Nat) (sp : Sp), (np N)[i]? = some sp → (np N)[k]? = some sp → i = k) :
    ∀ (i : Nat) (sp : Sp), (np N)[i]? = some sp → (∃ (k : Nat) (σ : Sg), sps'[k]? = some sp ∧ σs1[k]? = some σ ∧ σsN[i]? = some σ) ∨ σsN[i]? = σs[i]? ∧ ∀ k : Nat, sps'[k]? ≠ some sp := by
  intro i sp hi
  cases j with
  | none =>
    right
    rw [show σsN = σs from hs, show sps' = [] from h]
    exact ⟨rfl, fun k hk => by cases hk⟩
  | some j =>
    obtain ⟨sp', h1, rfl⟩ := h
    obtain ⟨σ', rfl, rfl⟩ := hs
    obtain ⟨σ9, g1, -⟩ := hg
    by_cases hij : j = i
    · subst hij
      cases h1.symm.trans hi
      exact Or.inl ⟨0, σ', rfl, rfl, by rw [List.getElem?_set_self (List.getElem?_eq_some_iff.mp g1).1]⟩
    · right
      refine ⟨by rw [List.getElem?_set_ne hij], fun k hk => ?_⟩
      have hk0 : k < 1 := (List.getElem?_eq_some_iff.mp hk).1
      obtain rfl : k = 0 := by omega
      cases hk
      exact hij (hinj _ _ _ h1 hi)
/-- the objects that are held whole are different ones -/
def injO (N : Nx) : Prop := ∀ (i k : Nat) (sp : Sp), (np N)[i]? = some sp → (np N)[k]? = some sp → i = k
section CALL
variable {y : MethodName} {code : ByteArray} {maxL f' l' index : Nat} {ret : Option FieldType} {sps' : List Sp} {σs' σs1 σsN : List Sg} {st1 : hS} {r : Option Tv} {stk0 : List Tv} {j : Option Nat}
theorem r_callS (n : Nat) (av : List Tv) (hc : CtX (nG N) y code maxL ret f' l' sps' σs' st av r σs1 st1) (hinj : injO N) (hsub : subO N j sps') (hget : getO j σs σs') (hset : setO j σs σs1 σsN)
    (hg : GoodIn lw_all (va_wsS own index y (ws_ y code maxL ret))) (hd9 : y.cls ≠ "java/lang/invoke/MethodHandle" ∧ y.cls ≠ "java/lang/invoke/VarHandle" ∧ (parseMethodDescriptor y.desc).map (fun d => d.parameters.length) = some n) (hn : av.length = n) (hfr : f' + 1 ≤ fR) (hlo : 8 + (maxL + 11) + l' ≤ lO) (hstk : stk0 = av.reverse ++ stk) (hroom : (stk.map tc).sum ≤ 8) (hd : decode cc pc = .ok (.invokestatic index, 3))
    {stk1 : List Tv} (hs1 : r.toList ++ stk = stk1) (h : AtPc cc own fR lO N σsN st1 (pc + 3) lv stk1) : AtPc cc own fR lO N σs st pc lv stk0 := by
  refine r_go (ava := (av.map tv).toArray) hsub.sub (new_of (H := #[]) hsub hget hset hinj) (fun rr => ?_) (fun rr K C H locs cells slots ls s w hroom9 => ?_) hs1 h
  · obtain ⟨⟨p1, p2, p3, -⟩, -⟩ := hc (rr.cut hsub hget)
    exact ⟨⟨p1, p2⟩, rr.paste hsub hset p3⟩
  · have hM := (hc (rr.cut hsub hget)).2 (kl K)
    have hR1 : (kR K).frames = fR := C.fr
    have hR2 : (kR K).locals = lO := C.lo
    have hrun := va_runS (p := kp K) (e := ke K) (R := kR K) (s := ks K) (m := km K) (args := ka K) (below := kb K) (meth := kme K) (c := kc K) (H := H) (locs := locs) (cells := cells) (slots := slots) (g := F0 (km K) pc ls (stk0.map tv)) (As := av.map tv) (rest := stk.map tv) ⟨C.x, C.b, C.ml, C.o, C.ts⟩ hM (va_cwS n C.ts hg rfl rfl rfl hd9 ⟨by rw [hR1]; exact hfr, by rw [hR2]; exact hlo⟩) ⟨FB_of, Sit.pre (locs := locs) (cells := cells) (slots := slots) C (WM.cut hsub hget s.1) _⟩ rfl (by rw [List.length_map]; exact hn) w.1 (av_stk av hstk) (lv_room (tc_sum hroom)) hd hroom9
    intro T hT X
    obtain ⟨v, st₀, t, T', L, h0, X', hL, e1, e2, hq, go⟩ := hrun T hT X
    exact ⟨v, st₀, t, T', L, h0, X', hL, e1, hq, go⟩
end CALL
end RW
