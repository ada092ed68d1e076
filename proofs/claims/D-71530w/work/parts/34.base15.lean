/-! BASE 15: new cells by name, casts of arrays, statics, instanceof that fails -/
set_option maxRecDepth 100000
def nwS (st : hS) (c : Nat) (fs : List hV) : Option (Nat × hS) := some (st.2.1, nwO st c fs)
def nwAS (st : hS) (t : Nat) (n : Int) : Option (Nat × hS) := if 0 ≤ n ∧ n ≤ 1000000 then some (st.2.1, nwA st t n.toNat) else none
def nwQS (st : hS) (t : Nat) (n : Int) : Option (Nat × hS) := if 0 ≤ n ∧ n ≤ 1000000 then some (st.2.1, nwQ st t n.toNat) else none
def okL (fs : List hV) : Bool := fs.all fun v => match v with
  | .inl i => decide (rI i)
  | _ => true
theorem okL_o {fs : List hV} (h : okL fs = true) : ∀ i : Int, vi i ∈ fs → rI i := by
  intro i hi
  have h1 := List.all_eq_true.mp h _ hi
  exact of_decide_eq_true h1
section RW
variable {N : Nx} {cc : ByteArray} {own : String} {fR lO : Nat} {σs : List Sg} {st : hS} {pc : Nat} {lv : List (Nat × Tv)} {stk : List Tv}
theorem r_newS {c nN index : Nat} {Cn : String} {T : u_T} (fs : List hV) {p : Nat × hS} (hp : nwS st c fs = some p) (hc : clA[c]? = some (Cn, T, nN)) (hin : ∀ w ∈ u_ws Cn T nN, w ∈ lw_all) {ty : Nat → FieldType} (hty : ∀ k, k < nN → parseFieldDescriptor (T k).2.2.1 = some (ty k)) (hcl : Cond.classLink own index Cn ∈ lw_all) (hins : Cond.instantiable Cn nN ∈ lw_all) (hini : Cond.initialized Cn ∈ lw_all) (hfs : ∀ j, j < nN → defaultValue (ty j) = vp_V (fs.map hv) j) (hlen : fs.length = nN) (hok : okL fs = true) (hd : decode cc pc = .ok (.new index, 3)) (h : AtPc cc own fR lO N σs p.2 (pc + 3) lv (tr (some p.1) :: stk)) : AtPc cc own fR lO N σs st pc lv stk := by
  cases hp
  exact r_new fs hc hin hty hcl hins hini hfs hlen (okL_o hok) hd h
theorem r_newAS {aty : ArrayType} {t : Nat} {p : Nat × hS} {n : Int} (hp : nwAS st t n = some p) (ht : t < 3) (hty : newarray.typeOf aty = tyN t) (hac : Cond.arrayClass (tyN t) ∈ lw_all) (hd : decode cc pc = .ok (.newarray aty, 2)) (h : AtPc cc own fR lO N σs p.2 (pc + 2) lv (tr (some p.1) :: stk)) : AtPc cc own fR lO N σs st pc lv (ti n :: stk) := by
  unfold nwAS at hp
  split at hp
  · rename_i hn
    cases hp
    exact r_newarray ht hty hac hn.1 hn.2 hd h
  · cases hp
theorem r_newQS {index t : Nat} {Cn : String} {p : Nat × hS} {n : Int} (hp : nwQS st t n = some p) (ht : 3 ≤ t) (ht8 : t < 8) (hty : tyN t = .object Cn) (hcl : Cond.classLink own index Cn ∈ lw_all) (hao : Cn ∈ ["DictProof$Instance", "DictProof$Term", "DictProof$Proof", "java/util/HashMap$Node"]) (hd : decode cc pc = .ok (.anewarray index, 3)) (h : AtPc cc own fR lO N σs p.2 (pc + 3) lv (tr (some p.1) :: stk)) : AtPc cc own fR lO N σs st pc lv (ti n :: stk) := by
  unfold nwQS at hp
  split at hp
  · rename_i hn
    cases hp
    exact r_anewarray ht ht8 hty hcl hao hn.1 hn.2 hd h
  · cases hp
theorem r_inst0 {index c : Nat} {nm : String} {r : vw_C} (hc : clA[c]? = some r) (hn : (r.1, nm) ∈ ncL) (hl : Cond.classLink own index nm ∈ lw_all) {o : Option Nat} (ho : hC st o = some c) (hd : decode cc pc = .ok (.instanceof index, 3)) (h : AtPc cc own fR lO N σs st (pc + 3) lv (ti 0 :: stk)) : AtPc cc own fR lO N σs st pc lv (tr o :: stk) := by
  intro rr
  refine ⟨(h rr).1, fun K C H locs cells slots ls s w => ?_⟩
  have k := (h rr).2 K C H locs cells slots ls s w
  obtain ⟨b, fs, rfl, -⟩ := hC_o ho
  have hrec := rec_ob (N := N) (cc := cc) (own := own) (fR := fR) (lO := lO) (σs := σs) hc ho K H locs cells slots C s
  exact va_instNo C.x C.b C.o (C.ts _ hl) (C.g.2.2.2.2.1 _ hn) hrec hd k
/-- the class of an array of references is what it's cast to -/
theorem r_castQ {index t : Nat} {nm Cn : String} (hl : Cond.classLink own index nm ∈ lw_all) (ht : 3 ≤ t) (hty : tyN t = .object Cn) (hnm : nm = "[" ++ (FieldType.object Cn).toString) {o : Option Nat} {n : Int} (ho : hL st o t = some n) (hd : decode cc pc = .ok (.checkcast index, 3)) (h : AtPc cc own fR lO N σs st (pc + 3) lv (tr o :: stk)) (h7 : t ≠ 7 := by decide) : AtPc cc own fR lO N σs st pc lv (tr o :: stk) := by
  obtain ⟨a, n, f, rfl, e, rfl⟩ := hL_o ho
  intro rr
  refine ⟨(h rr).1, fun K C H locs cells slots ls s w => ?_⟩
  have k := (h rr).2 K C H locs cells slots ls s w
  have h9 := (s.1.2.2.2.1 a _ e).1
  rcases f with f | f
  · obtain ⟨ht3, -⟩ := h9
    omega
  · obtain ⟨-, ht8, ha⟩ := h9
    have h10 := (C.k.2 t _ (tysA_at _ (by omega))).2
    simp only [hty] at h10
    obtain ⟨_, _, -, -, -, h11⟩ := h10
    refine va_castA (D := gD (nG N)) (cl := clA) (ws := [(a, .inl (gT (nG N) t, cQ f n))]) C.x C.b C.o (C.ts _ hl) (fun k9 q9 hq9 => ?_) 0 rfl (by rw [hnm]; exact h11) hd k
    have hz : k9 < 1 := (List.getElem?_eq_some_iff.mp hq9).1
    obtain rfl : k9 = 0 := by omega
    cases hq9
    exact ha.s (by omega)
/-! statics -/
theorem Wg_static {K : Kx} {H : Heap} {locs : List Loc} {cells slots : Nat} {ls : Array Slot} {rest : List Value} (C : Cx (mk K N) cc own fR lO) (s : Sit (mk K N) σs st H locs cells slots) {Cn n d ref : String} {v : Value} {index : Nat} (hZ : va_Z Cn n d v (fun a => (gO (nG N)).size ≤ a) (ks K) (gO (nG N))) (hl : Cond.fieldLink own index ref n d ∈ lw_all) (href : Cn = ref) (hd : decode cc pc = .ok (.getstatic index, 3))
    (kk : WK K H locs cells slots (mQ (mk K N)) (F0 (km K) (pc + 3) ls (v :: rest))) : WK K H locs cells slots (mQ (mk K N)) (F0 (km K) pc ls rest) := by
  subst href
  obtain ⟨cf, kf, fi, f, a, cell, h1, h2, h3, h4, h5, h6, h7, h8⟩ := hZ
  exact W.gets C.x C.b C.o (C.ts _ hl) h1 h2 h3 h4 (by rw [s.1.2.2.1 a (Array.getElem?_eq_some_iff.mp h5).1]; exact h5) (fun e => by rw [e] at h6; cases h6) h7 rfl hd kk
theorem r_getsW {Cn n d ref : String} {v : Tv} {index : Nat} (hZ : ∀ K : Kx, SZ (nG N) (ks K) → va_Z Cn n d (tv v) (fun a => (gO (nG N)).size ≤ a) (ks K) (gO (nG N))) (hl : Cond.fieldLink own index ref n d ∈ lw_all) (href : Cn = ref) (hd : decode cc pc = .ok (.getstatic index, 3)) (h : AtPc cc own fR lO N σs st (pc + 3) lv (v :: stk)) : AtPc cc own fR lO N σs st pc lv stk := by
  intro rr
  refine ⟨(h rr).1, fun K C H locs cells slots ls s w => ?_⟩
  exact Wg_static C s (hZ K C.g.2.2.2.1) hl href hd ((h rr).2 K C H locs cells slots ls s w)
theorem r_getsH {ref : String} {index : Nat} (hl : Cond.fieldLink own index ref "high" "I" ∈ lw_all) (href : "java/lang/Integer$IntegerCache" = ref) (hd : decode cc pc = .ok (.getstatic index, 3)) (h : AtPc cc own fR lO N σs st (pc + 3) lv (ti 127 :: stk)) : AtPc cc own fR lO N σs st pc lv stk :=
  r_getsW (v := ti 127) (fun K h => h.1) hl href hd h
theorem r_getsC {ref : String} {index : Nat} (hl : Cond.fieldLink own index ref "cache" "[Ljava/lang/Integer;" ∈ lw_all) (href : "java/lang/Integer$IntegerCache" = ref) (hd : decode cc pc = .ok (.getstatic index, 3)) (h : AtPc cc own fR lO N σs st (pc + 3) lv (tr (nG N).2.2.2.1 :: stk)) : AtPc cc own fR lO N σs st pc lv stk :=
  r_getsW (v := tr (nG N).2.2.2.1) (fun K h => h.2.1) hl href hd h
theorem r_getsP {ref : String} {index : Nat} (hl : Cond.fieldLink own index ref "PRESENT" "Ljava/lang/Object;" ∈ lw_all) (href : "java/util/HashSet" = ref) (hd : decode cc pc = .ok (.getstatic index, 3)) (h : AtPc cc own fR lO N σs st (pc + 3) lv (tr (nG N).2.2.2.2 :: stk)) : AtPc cc own fR lO N σs st pc lv stk :=
  r_getsW (v := tr (nG N).2.2.2.2) (fun K h => h.2.2.1) hl href hd h
theorem r_getsD {ref : String} {index : Nat} (hl : Cond.fieldLink own index ref "$assertionsDisabled" "Z" ∈ lw_all) (href : "java/util/HashMap$TreeNode" = ref) (hd : decode cc pc = .ok (.getstatic index, 3)) (h : AtPc cc own fR lO N σs st (pc + 3) lv (ti 1 :: stk)) : AtPc cc own fR lO N σs st pc lv stk :=
  r_getsW (v := ti 1) (fun K h => h.2.2.2) hl href hd h
end RW
theorem sto_3 : stoOK 3 [1, 2, 3, 4, 5] := ⟨by decide, List.forall_mem_cons.mpr ⟨⟨(RX1, TX1, 6), 1, (RX1, TX1, 6), rfl, rfl, rfl, Or.inl rfl⟩, List.forall_mem_cons.mpr ⟨⟨(RX2, TX2, 6), 1, (RX1, TX1, 6), rfl, rfl, rfl, Or.inr q1989⟩, List.forall_mem_cons.mpr ⟨⟨(RX3, TX3, 6), 1, (RX1, TX1, 6), rfl, rfl, rfl, Or.inr q1987⟩, List.forall_mem_cons.mpr ⟨⟨(RX4, TX4, 6), 1, (RX1, TX1, 6), rfl, rfl, rfl, Or.inr q1986⟩, List.forall_mem_cons.mpr ⟨⟨(RX5, TX5, 6), 1, (RX1, TX1, 6), rfl, rfl, rfl, Or.inr q1988⟩, fun _ h => absurd h List.not_mem_nil⟩⟩⟩⟩⟩⟩
theorem sto_4 : stoOK 4 [7] := ⟨by decide, List.forall_mem_cons.mpr ⟨⟨(RX7, TX7, 3), 7, (RX7, TX7, 3), rfl, rfl, rfl, Or.inl rfl⟩, fun _ h => absurd h List.not_mem_nil⟩⟩
theorem sto_5 : stoOK 5 [10] := ⟨by decide, List.forall_mem_cons.mpr ⟨⟨(RX10, TX10, 4), 10, (RX10, TX10, 4), rfl, rfl, rfl, Or.inl rfl⟩, fun _ h => absurd h List.not_mem_nil⟩⟩
theorem sto_6 : stoOK 6 [12, 13] := ⟨by decide, List.forall_mem_cons.mpr ⟨⟨(RJ4, TJ4, 4), 12, (RJ4, TJ4, 4), rfl, rfl, rfl, Or.inl rfl⟩, List.forall_mem_cons.mpr ⟨⟨(RJ6, TJ6, 11), 12, (RJ4, TJ4, 4), rfl, rfl, rfl, Or.inr q2012⟩, fun _ h => absurd h List.not_mem_nil⟩⟩⟩
