/-! the law's own rows: the script, two objects, a call of a method with handlers -/
set_option maxRecDepth 100000
abbrev LN : String := "DictProofLaw"
abbrev xA (G : Gx) : Nat := (gX G).1
abbrev xL (G : Gx) : Nat := (gX G).2.1
def xs (G : Gx) (i : Int) : Int := ((gX G).2.2 i.toNat).toInt
theorem xs_r (G : Gx) (i : Int) : rI (xs G i) := rI_to _
def bz (x : Int) : Int := if x = 0 then 0 else 1
theorem bz_r (x : Int) : rI (bz x) := by unfold bz; split <;> decide
theorem injO_2 {N : Nx} {x y : Sp} (h : np N = [x, y]) (hne : x.1 ≠ y.1) : injO N := by
  intro i k sp hi hk
  rw [h] at hi hk
  have h1 : i < 2 := (List.getElem?_eq_some_iff.mp hi).1
  have h2 : k < 2 := (List.getElem?_eq_some_iff.mp hk).1
  match i, k, h1, h2 with
  | 0, 0, _, _ => rfl
  | 1, 1, _, _ => rfl
  | 0, 1, _, _ => cases hi; exact absurd (congrArg Prod.fst (Option.some.inj hk)).symm hne
  | 1, 0, _, _ => cases hi; exact absurd (congrArg Prod.fst (Option.some.inj hk)) hne
theorem subO_a {N : Nx} {x y : Sp} (h : np N = [x, y]) : subO N (some 0) [x] := ⟨x, by rw [h]; rfl, rfl⟩
theorem subO_b {N : Nx} {x y : Sp} (h : np N = [x, y]) : subO N (some 1) [y] := ⟨y, by rw [h]; rfl, rfl⟩
theorem getO_a {s t : Sg} : getO (some 0) [s, t] [s] := ⟨s, rfl, rfl⟩
theorem getO_b {s t : Sg} : getO (some 1) [s, t] [t] := ⟨t, rfl, rfl⟩
theorem setO_a {s t s' : Sg} : setO (some 0) [s, t] [s'] [s', t] := ⟨s', rfl, rfl⟩
theorem setO_b {s t t' : Sg} : setO (some 1) [s, t] [t'] [s, t'] := ⟨t', rfl, rfl⟩
section RW
variable {N : Nx} {cc : ByteArray} {own : String} {fR lO : Nat} {σs : List Sg} {st : hS} {pc : Nat} {lv : List (Nat × Tv)} {stk : List Tv}
theorem x_SA {K : Kx} {H : Heap} {locs : List Loc} {cells slots : Nat} (s : Sit (mk K N) σs st H locs cells slots) : va_S (fun a => (gO (nG N)).size ≤ a) H H locs := by
  refine ⟨Nat.le_refl _, fun q _ _ => rfl, fun q hq => ?_⟩
  rcases s.2.1.2.2 q hq with ⟨i, sp, h1, h2⟩ | ⟨h1, -⟩ | ⟨h1, -⟩
  · exact ((s.1.2.2.2.2.1 i sp h1).2.2 _ h2).1
  · exact h1
  · exact h1
theorem x_X {K : Kx} {H : Heap} {locs : List Loc} {cells slots : Nat} (C : Cx (mk K N) cc own fR lO) (s : Sit (mk K N) σs st H locs cells slots) : va_X (xA (nG N)) (xL (nG N)) (gX (nG N)).2.2 (ks K) H ∧ xA (nG N) < H.size ∧ ¬ (gO (nG N)).size ≤ xA (nG N) := by
  have h1 := C.g.2.2.2.2.2.2.2.1
  have h2 := C.g.2.2.2.2.2.2.2.2.1
  refine ⟨h1.kept (s.1.2.2.1 _ h2), Nat.lt_of_lt_of_le h2 s.1.2.1, Nat.not_le.mpr h2⟩
theorem r_xld {i : Int} (hr : rI i) (hi : inb i (xL (nG N))) (hd : decode cc pc = .ok (.iaload, 1)) (h : AtPc cc own fR lO N σs st (pc + 1) lv (ti (xs (nG N) i) :: stk)) : AtPc cc own fR lO N σs st pc lv (ti i :: tr (some (xA (nG N))) :: stk) := by
  intro rr
  have h := h rr
  refine ⟨h.1, fun K C H locs cells slots ls s w => ?_⟩
  have k := h.2 K C H locs cells slots ls s w
  obtain ⟨hX, hl, hA⟩ := x_X C s
  have e1 : (I32 i).toNatClampNeg = i.toNat := by show (I32 i).toInt.toNat = _; rw [toI hr]
  have e2 : tv (ti (xs (nG N) i)) = .int ((gX (nG N)).2.2 (I32 i).toNatClampNeg) := by
    rw [e1]; show Value.int (I32 ((gX (nG N)).2.2 i.toNat).toInt) = _; rw [show I32 ((gX (nG N)).2.2 i.toNat).toInt = _ from Int32.ofInt_toInt _]
  rw [List.map_cons, e2] at k
  refine va_sld C.x C.b hX hl hA (x_SA s) ?_ hd k
  rintro (h0 | h0)
  · have : (I32 i).toInt < 0 := Int32.lt_iff_toInt_lt.mp h0
    rw [toI hr] at this
    exact absurd this (Int.not_lt.mpr hi.1)
  · rw [e1] at h0
    have := hi.2
    have := hi.1
    omega
theorem r_xlen (hL : xL (nG N) < 2147483648) (hd : decode cc pc = .ok (.arraylength, 1)) (h : AtPc cc own fR lO N σs st (pc + 1) lv (ti (xL (nG N) : Int) :: stk)) : AtPc cc own fR lO N σs st pc lv (tr (some (xA (nG N))) :: stk) := by
  intro rr
  have h := h rr
  refine ⟨h.1, fun K C H locs cells slots ls s w => ?_⟩
  have k := h.2 K C H locs cells slots ls s w
  obtain ⟨hX, hl, hA⟩ := x_X C s
  have e2 : tv (ti (xL (nG N) : Int)) = .int (Int32.ofNat (xL (nG N))) := rfl
  rw [List.map_cons, e2] at k
  exact va_slen C.x C.b hX hl hA (x_SA s) hd k
variable {y : MethodName} {code : ByteArray} {hh : List (Nat × Nat × Nat × Nat)} {maxL f' l' index : Nat} {ret : Option FieldType} {sps' : List Sp} {σs' σs1 σsN : List Sg} {st1 : hS} {r : Option Tv} {stk0 : List Tv} {j : Option Nat}
theorem r_callVW (n : Nat) (av : List Tv) {b : Nat} {Cn : String} (hx9 : xN own (nnm N) = true) (hrec : RecO N cc own fR lO σs st Cn b) (hyc : y.cls = Cn) (hc : CtXW (nG N) y code hh maxL ret f' l' sps' σs' st (tr (some b) :: av) r σs1 st1) (hinj : injO N) (hsub : subO N j sps') (hget : getO j σs σs') (hset : setO j σs σs1 σsN)
    (hg : GoodIn lw_all (wsV own index Cn y (wsW_ y code maxL ret hh))) (hd9 : y.cls ≠ "java/lang/invoke/MethodHandle" ∧ y.cls ≠ "java/lang/invoke/VarHandle" ∧ (parseMethodDescriptor y.desc).map (fun d => d.parameters.length) = some n) (hn : av.length = n) (hfr : f' + 1 ≤ fR) (hlo : 8 + (maxL + 11) + l' ≤ lO) (hstk : stk0 = av.reverse ++ tr (some b) :: stk) (hroom : (stk.map tc).sum ≤ 8) (hd : decode cc pc = .ok (.invokevirtual index, 3))
    {stk1 : List Tv} (hs1 : r.toList ++ stk = stk1) (h : AtPc cc own fR lO N σsN st1 (pc + 3) lv stk1) : AtPc cc own fR lO N σs st pc lv stk0 := by
  refine r_go (ava := ((tr (some b) :: av).map tv).toArray) hsub.sub (new_of (H := #[]) hsub hget hset hinj) (fun rr => ?_) (fun rr K C H locs cells slots ls s w hroom9 => ?_) hs1 h
  · obtain ⟨⟨p1, p2, p3, -⟩, -⟩ := hc (rr.cut hsub hget)
    exact ⟨⟨p1, p2⟩, rr.paste hsub hset p3⟩
  · have hM := (hc (rr.cut hsub hget)).2 (kl K) (C.xt hx9).1
    have hR1 : (kR K).frames = fR := C.fr
    have hR2 : (kR K).locals = lO := C.lo
    have hrun := vx_runVW (p := kp K) (e := ke K) (R := kR K) (s := ks K) (m := km K) (args := ka K) (below := kb K) (meth := kme K) (c := kc K) (H := H) (locs := locs) (cells := cells) (slots := slots) (g := F0 (km K) pc ls (stk0.map tv)) (b := b) (As := av.map tv) (rest := stk.map tv) ⟨C.x, C.b, C.ml, C.o, C.ts⟩ hM (vx_cwVW n C.ts hg rfl rfl rfl ⟨hyc, hd9⟩ ⟨by rw [hR1]; exact hfr, by rw [hR2]; exact hlo⟩) ⟨FB_of, hrec K H locs cells slots C s, Sit.pre (locs := locs) (cells := cells) (slots := slots) C (WM.cut hsub hget s.1) _⟩ rfl (by rw [List.length_map]; exact hn) w.1 (av_stk av hstk) (lv_room (tc_sum hroom)) hd hroom9
    intro T hT X
    obtain ⟨v, st₀, t, T', L, h0, X', hL, e1, e2, hq, go⟩ := hrun T hT X
    exact ⟨v, st₀, t, T', L, h0, X', hL, e1, hq, go⟩
end RW
