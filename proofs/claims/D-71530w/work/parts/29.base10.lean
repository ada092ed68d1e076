/-! BASE 10: new cells, ends, contracts, calls -/
set_option maxRecDepth 100000
def la : Nat → List Tv → List (Nat × Tv)
  | _, [] => []
  | i, v :: r => (i, v) :: la (if tc v = 2 then i + 2 else i + 1) r
theorem la_eq (av : List Tv) : ∀ i, lv_args i (av.map tv) = Lv (la i av) := by
  induction av with
  | nil => intro i; rfl
  | cons v r ih =>
    intro i
    show (i, tv v) :: lv_args (if (tv v).category = 2 then i + 2 else i + 1) (r.map tv) = (i, tv v) :: Lv (la (if tc v = 2 then i + 2 else i + 1) r)
    rw [tv_cat, ih]
def CtX (G : Gx) (y : MethodName) (code : ByteArray) (maxL : Nat) (ret : Option FieldType) (fR lO : Nat) (sps : List Sp) (σs : List Sg) (st : hS) (av : List Tv) (r : Option Tv) (σs' : List Sg) (st' : hS) : Prop :=
  RR sps σs st → (st.2.1 ≤ st'.2.1 ∧ st.2.2 ≤ st'.2.2 ∧ RR sps σs' st' ∧ rtOK ret r) ∧
    ∀ l : Launch, Met l y (ws_ y code maxL ret) ({ frames := fR, cells := st'.2.1 - st.2.1, slots := st'.2.2 - st.2.2, locals := lO } : Room) (va_Pc (av.map tv) (fun U => WM G sps σs st U.heap ∧ GK G U)) (QcX G sps st r σs' st') (st'.2.1 - st.2.1) (st'.2.2 - st.2.2) (AA G sps st)
theorem AA.self {G : Gx} {sps : List Sp} {σs : List Sg} {st : hS} {H : Heap} (w : WM G sps σs st H) (q : Nat) (hq : H.size ≤ q) : AA G sps st q := by
  refine Or.inr (Or.inr ⟨?_, ?_⟩)
  · exact Nat.le_trans w.2.1 hq
  · rw [← w.1]; exact hq
theorem lg_len (av : List Tv) : (lg_sl (av.map tv)).length = (av.map tc).sum := by
  induction av with
  | nil => rfl
  | cons v r ih =>
    have e : lg_sl ((v :: r).map tv) = (if (tv v).category = 2 then [Slot.val (tv v), Slot.second] else [Slot.val (tv v)]) ++ lg_sl (r.map tv) := rfl
    rw [e, List.length_append, ih, tv_cat, List.map_cons, List.sum_cons]
    congr 1
    rcases v with x | x | o | u <;> rfl
theorem CtX.of {G : Gx} {y : MethodName} {code : ByteArray} {maxL : Nat} {ret : Option FieldType} {fR lO : Nat} {sps : List Sp} {σs : List Sg} {st : hS} {av : List Tv} {r : Option Tv} {σs' : List Sg} {st' : hS} (hy : plainName y.cls = true) (hn : (av.map tc).sum ≤ maxL) (lv : List (Nat × Tv)) (hlv : la 0 av = lv)
    (body : AtPc code y.cls fR lO (G, maxL, sps, st, σs', st', ret, r, y.name) σs st 0 lv []) (hx9 : xN y.cls y.name = false := by rfl) : CtX G y code maxL ret fR lO sps σs st av r σs' st' := by
  intro rr
  have hb := body rr
  refine ⟨hb.1, fun l => ?_⟩
  refine Met.ofW (cc := code) (maxL := maxL) (ret := ret) hy rfl ?_
  intro p e s m args below meth c s₁ B hml hv
  obtain ⟨rfl, hW, hGK⟩ := hv
  have hts := atoms_spec (ws := ws_ y code maxL ret) B.pre
  have hts : ∀ w ∈ lw_all, w.before _ s = true := fun w h => hts w (List.mem_cons_of_mem _ h)
  have hown : s.vm.findClass y.cls = some m.cls := findClass_of_methodNamed B.named
  have hnm : meth.name = y.name := (name_of_methodNamed B.named B.method).1
  let R : Room := { frames := fR, cells := st'.2.1 - st.2.1, slots := st'.2.2 - st.2.2, locals := lO }
  let K : Kx := (p, l, e, R, s, m, (av.map tv).toArray, below, meth, c)
  have C : Cx (mk K (G, maxL, sps, st, σs', st', ret, r, y.name)) code y.cls fR lO := ⟨B.exec, B.bytes, hml, hown, hts, B.returns, B.notSynchronized, hGK, hW.1, rfl, Nat.le_refl _, Nat.le_refl _, rfl, rfl, hnm, fun h => by rw [show mnm (mk K (G, maxL, sps, st, σs', st', ret, r, y.name)) = y.name from rfl, hx9] at h; cases h⟩
  have hl := lv_entry (av.map tv) (n := maxL) (by rw [lg_len]; exact hn)
  rw [lg_entry_eq]
  generalize (lg_sl (av.map tv) ++ List.replicate (maxL - (lg_sl (av.map tv)).length) Slot.unset).toArray = ls at hl ⊢
  refine hb.2 K C s.heap [] 0 0 ls ⟨hW, va_S.rf, by show st.2.1 + 0 = _; omega, by show st.2.2 + 0 = _; omega, fun a e9 he => Or.inl (by show st.1 a ≠ none; rw [he]; exact fun h => by cases h)⟩ ?_
  rw [la_eq, hlv] at hl
  exact hl
section RW
variable {N : Nx} {cc : ByteArray} {own : String} {fR lO : Nat} {σs : List Sg} {st : hS} {pc : Nat} {lv : List (Nat × Tv)} {stk : List Tv}
theorem r_new {c nN index : Nat} {Cn : String} {T : u_T} (fs : List hV) (hc : clA[c]? = some (Cn, T, nN)) (hin : ∀ w ∈ u_ws Cn T nN, w ∈ lw_all) {ty : Nat → FieldType} (hty : ∀ k, k < nN → parseFieldDescriptor (T k).2.2.1 = some (ty k)) (hcl : Cond.classLink own index Cn ∈ lw_all) (hins : Cond.instantiable Cn nN ∈ lw_all) (hini : Cond.initialized Cn ∈ lw_all) (hfs : ∀ j, j < nN → defaultValue (ty j) = vp_V (fs.map hv) j) (hlen : fs.length = nN) (hok : ∀ i : Int, vi i ∈ fs → rI i) (hd : decode cc pc = .ok (.new index, 3)) (h : AtPc cc own fR lO N σs (nwO st c fs) (pc + 3) lv (tr (some st.2.1) :: stk)) : AtPc cc own fR lO N σs st pc lv stk := by
  intro rr
  have h := h (rr.push (e' := .inl (c, fs)) hok)
  have h1 : st.2.1 + 1 ≤ (nF N).2.1 := h.1.1
  have h2 : st.2.2 + fs.length ≤ (nF N).2.2 := h.1.2.1
  refine ⟨⟨by omega, by omega, h.1.2.2⟩, fun K C H locs cells slots ls s w => ?_⟩
  have hcc : (nF N).2.1 - (n0 N).2.1 ≤ (kR K).cells := C.rc
  have hcs : (nF N).2.2 - (n0 N).2.2 ≤ (kR K).slots := C.rs
  have hc1 : (n0 N).2.1 + cells = st.2.1 := s.2.2.1
  have hc2 : (n0 N).2.2 + slots = st.2.2 := s.2.2.2.1
  have hKn := C.k.1 c _ hc
  have hz : H.size = st.2.1 := s.1.1
  refine W.newcK C.x C.b C.o (C.ts _ hcl) (C.ts _ hins) (C.ts _ hini) rfl hd (by omega) (by omega) hKn.2.1 hz fun H1 kC hkC e1 z1 o1 => ?_
  have k9 := h.2 K C H1 locs (cells + 1) (slots + fs.length) ls (s.push (e := .inl (c, fs)) ⟨_, hc, ((u_born ty C.ts hin hKn hkC e1 hty).to hfs).c⟩ (by rw [z1, hz]) (fun q hq => o1 q (by omega))) w
  rw [hlen] at k9
  exact k9
theorem r_newarray {aty : ArrayType} {t : Nat} (ht : t < 3) (hty : newarray.typeOf aty = tyN t) (hac : Cond.arrayClass (tyN t) ∈ lw_all) {n : Int} (h0 : 0 ≤ n) (hn : n ≤ 1000000) (hd : decode cc pc = .ok (.newarray aty, 2)) (h : AtPc cc own fR lO N σs (nwA st t n.toNat) (pc + 2) lv (tr (some st.2.1) :: stk)) : AtPc cc own fR lO N σs st pc lv (ti n :: stk) := by
  intro rr
  have hok : aOK t (fun _ => 0) := ⟨fun _ => (by decide : rI 0), fun _ _ => Or.inl rfl, fun _ _ => (by decide : (-128 : Int) ≤ 0 ∧ (0 : Int) ≤ 127)⟩
  have h := h (rr.push (e' := .inr (t, n.toNat, .inl fun _ => 0)) ⟨hok, by omega⟩)
  have h1 : st.2.1 + 1 ≤ (nF N).2.1 := h.1.1
  have h2 : st.2.2 + n.toNat ≤ (nF N).2.2 := h.1.2.1
  refine ⟨⟨by omega, by omega, h.1.2.2⟩, fun K C H locs cells slots ls s w => ?_⟩
  have hcc : (nF N).2.1 - (n0 N).2.1 ≤ (kR K).cells := C.rc
  have hcs : (nF N).2.2 - (n0 N).2.2 ≤ (kR K).slots := C.rs
  have hc1 : (n0 N).2.1 + cells = st.2.1 := s.2.2.1
  have hc2 : (n0 N).2.2 + slots = st.2.2 := s.2.2.2.1
  have hz : H.size = st.2.1 := s.1.1
  have hr : rI n := ⟨by omega, by omega⟩
  refine va_newaK (N := n.toNat) C.x C.b (atype := aty) (by rw [hty]; exact C.ts _ hac) rfl hd rfl (fun q => by have := (I_lt hr (y := 0) (by decide)).mp q; omega) (I_idx hr h0) ?_ (by omega) (by omega) hz fun H1 cA9 e1 z1 o1 hA hf => ?_
  · rw [hty]
    rcases (by omega : t = 0 ∨ t = 1 ∨ t = 2) with rfl | rfl | rfl
    · show n.toNat * 4 ≤ _; omega
    · show n.toNat * 1 ≤ _; omega
    · show n.toNat * 1 ≤ _; omega
  · have hcA : cA9 = gT (nG N) t := by
      have h9 := (C.k.2 t _ (tysA_at _ (by omega))).2
      rw [hty] at hf
      rcases (by omega : t = 0 ∨ t = 1 ∨ t = 2) with rfl | rfl | rfl
      · exact Option.some.inj (hf.symm.trans h9)
      · exact Option.some.inj (hf.symm.trans h9)
      · exact Option.some.inj (hf.symm.trans h9)
    subst hcA
    refine h.2 K C H1 locs (cells + 1) (slots + n.toNat) ls (s.push (e := .inr (t, n.toNat, .inl fun _ => 0)) ⟨ht, ?_⟩ (by rw [z1, hz]) (fun q hq => o1 q (by omega))) w
    rw [e1, hty]
    rcases (by omega : t = 0 ∨ t = 1 ∨ t = 2) with rfl | rfl | rfl <;> rfl
theorem r_anewarray {index t : Nat} {Cn : String} (ht : 3 ≤ t) (ht8 : t < 8) (hty : tyN t = .object Cn) (hcl : Cond.classLink own index Cn ∈ lw_all) (hao : Cn ∈ ["DictProof$Instance", "DictProof$Term", "DictProof$Proof", "java/util/HashMap$Node"]) {n : Int} (h0 : 0 ≤ n) (hn : n ≤ 1000000) (hd : decode cc pc = .ok (.anewarray index, 3)) (h : AtPc cc own fR lO N σs (nwQ st t n.toNat) (pc + 3) lv (tr (some st.2.1) :: stk)) : AtPc cc own fR lO N σs st pc lv (ti n :: stk) := by
  intro rr
  have h := h (rr.push (e' := .inr (t, n.toNat, .inr fun _ => none)) (show n.toNat < 2147483648 by omega))
  have h1 : st.2.1 + 1 ≤ (nF N).2.1 := h.1.1
  have h2 : st.2.2 + n.toNat ≤ (nF N).2.2 := h.1.2.1
  refine ⟨⟨by omega, by omega, h.1.2.2⟩, fun K C H locs cells slots ls s w => ?_⟩
  have hcc : (nF N).2.1 - (n0 N).2.1 ≤ (kR K).cells := C.rc
  have hcs : (nF N).2.2 - (n0 N).2.2 ≤ (kR K).slots := C.rs
  have hc1 : (n0 N).2.1 + cells = st.2.1 := s.2.2.1
  have hc2 : (n0 N).2.2 + slots = st.2.2 := s.2.2.2.1
  have hz : H.size = st.2.1 := s.1.1
  have hr : rI n := ⟨by omega, by omega⟩
  have hix := I_idx hr h0
  refine W.anew C.x C.b C.o (C.ts _ hcl) (va_AO.use (C.g.2.2.1 _ hao)) rfl hd rfl (fun q => by have := (I_lt hr (y := 0) (by decide)).mp q; omega) (by rw [hix]; omega) (by omega) (by rw [hix]; omega) fun cA9 kA comp f1 f2 f3 f4 => ?_
  rw [hix]
  generalize hH1 : H.push ({ cls := cA9, slots := Array.replicate n.toNat .null, vm := .none } : Cell) = H1
  have z1 : H1.size = H.size + 1 := by rw [← hH1, Array.size_push]
  have e1 : H1[H.size]? = some (arrV cA9 n.toNat (fun _ => .null)) := by rw [← hH1, Array.getElem?_push_size, ← arrV_new]
  have o1 : ∀ q : Nat, q < H.size → H1[q]? = H[q]? := fun q hq => by rw [← hH1, Array.getElem?_push, if_neg (Nat.ne_of_lt hq)]
  have hcA : cA9 = gT (nG N) t := by
    have hn7 : t ≠ 7 := by
      rintro rfl
      cases hty
      revert hao
      decide
    have h9 := (C.k.2 t _ (tysA_at _ (by omega))).2
    simp only [hty] at h9
    obtain ⟨_, _, -, -, -, h10⟩ := h9
    exact Option.some.inj (f1.symm.trans h10)
  subst hcA
  rw [hz] at e1 ⊢
  exact h.2 K C H1 locs (cells + 1) (slots + n.toNat) ls (s.push (e := .inr (t, n.toNat, .inr fun _ => none)) ⟨ht, ht8, arA.mk e1⟩ z1 o1) w
/-! ends -/
theorem r_end (hσ : nσF N = σs) (hst : nF N = st) (hok : rtOK (nrt N) (nr N))
    (f : ∀ (K : Kx), Cx (mk K N) cc own fR lO → ∀ (H : Heap) (locs : List Loc) (ls : Array Slot), (∀ t : State, t.heap = H → (ks K).WarmedH t.vm → QcX (nG N) (np N) (n0 N) (nr N) (nσF N) (nF N) (ka K) (ks K) (.returned ((nr N).map tv)) t) → (∀ q ∈ locs, AA (nG N) (np N) (n0 N) q.base) →
      ∀ cells slots, WK K H locs cells slots (MQ (kb K) (QcX (nG N) (np N) (n0 N) (nr N) (nσF N) (nF N)) (ka K) (ks K) cells slots (AA (nG N) (np N) (n0 N))) (F0 (km K) pc ls (stk.map tv))) : AtPc cc own fR lO N σs st pc lv stk := by
  intro rr
  refine ⟨⟨by rw [hst]; exact Nat.le_refl _, by rw [hst]; exact Nat.le_refl _, by rw [hσ, hst]; exact rr, hok⟩, fun K C H locs cells slots ls s w => ?_⟩
  have hc1 : (n0 N).2.1 + cells = st.2.1 := s.2.2.1
  have hc2 : (n0 N).2.2 + slots = st.2.2 := s.2.2.2.1
  show WK K H locs cells slots (MQ (kb K) (QcX (nG N) (np N) (n0 N) (nr N) (nσF N) (nF N)) (ka K) (ks K) ((nF N).2.1 - (n0 N).2.1) ((nF N).2.2 - (n0 N).2.2) (AA (nG N) (np N) (n0 N))) _
  rw [hst]
  rw [show st.2.1 - (n0 N).2.1 = cells by omega, show st.2.2 - (n0 N).2.2 = slots by omega, ← hst]
  refine f K C H locs ls (fun t ht hW => ⟨⟨rfl, by rw [ht, hσ, hst]; exact s.1, fun a e he => ?_⟩, s.2.1.F ht⟩) s.2.1.2.2 cells slots
  exact s.2.2.2.2 a e (by rw [← hst]; exact he)
theorem r_iret {x : Int} (hσ : nσF N = σs) (hst : nF N = st) (hrt : nrt N = some .int) (hr : nr N = some (ti x)) (hx : rI x) (hd : decode cc pc = .ok (.ireturn, 1)) : AtPc cc own fR lO N σs st pc lv [ti x] := by
  refine r_end hσ hst (by rw [hrt, hr]; exact hx) fun K C H locs ls hq hf cells slots => ?_
  exact W.iret (v := I32 x) C.x C.b (C.rt.trans hrt) (fun t ht hW => by have := hq t ht hW; rw [hr] at this ⊢; exact this) hf hd C.lk
theorem r_zret {x : Int} (hσ : nσF N = σs) (hst : nF N = st) (hrt : nrt N = some .boolean) (hr : nr N = some (ti x)) (hx : x = 0 ∨ x = 1) (hd : decode cc pc = .ok (.ireturn, 1)) : AtPc cc own fR lO N σs st pc lv [ti x] := by
  refine r_end hσ hst (by rw [hrt, hr]; exact hx) fun K C H locs ls hq hf cells slots => ?_
  exact W.zret (v := I32 x) C.x C.b (C.rt.trans hrt) (by rcases hx with rfl | rfl <;> rfl) (fun t ht hW => by have := hq t ht hW; rw [hr] at this ⊢; exact this) hf hd C.lk
theorem r_lret {x : Int} (hσ : nσF N = σs) (hst : nF N = st) (hrt : nrt N = some .long) (hr : nr N = some (tl x)) (hx : rL x) (hd : decode cc pc = .ok (.lreturn, 1)) : AtPc cc own fR lO N σs st pc lv [tl x] := by
  refine r_end hσ hst (by rw [hrt, hr]; exact hx) fun K C H locs ls hq hf cells slots => ?_
  exact W.lret (v := I64 x) C.x C.b (C.rt.trans hrt) (fun t ht hW => by have := hq t ht hW; rw [hr] at this ⊢; exact this) hf hd C.lk
theorem r_aret {x : Option Nat} {rt : FieldType} (hσ : nσF N = σs) (hst : nF N = st) (hrt : nrt N = some rt) (hro : (∃ n, rt = .object n) ∨ ∃ t, rt = .array t) (hr : nr N = some (tr x)) (hd : decode cc pc = .ok (.areturn, 1)) : AtPc cc own fR lO N σs st pc lv [tr x] := by
  refine r_end hσ hst (by rw [hrt, hr]; rcases hro with ⟨n, rfl⟩ | ⟨n, rfl⟩ <;> trivial) fun K C H locs ls hq hf cells slots => ?_
  exact W.aret (v := va_rf x) C.x C.b (C.rt.trans hrt) hro (by cases x; exact Or.inl rfl; exact Or.inr ⟨_, rfl⟩) (fun t ht hW => by have := hq t ht hW; rw [hr] at this ⊢; exact this) hf hd C.lk
theorem r_vret (hσ : nσF N = σs) (hst : nF N = st) (hrt : nrt N = none) (hr : nr N = none) (hd : decode cc pc = .ok (.return_, 1)) : AtPc cc own fR lO N σs st pc lv [] := by
  refine r_end hσ hst (by rw [hrt, hr]; trivial) fun K C H locs ls hq hf cells slots => ?_
  exact W.vret C.x C.b (C.rt.trans hrt) (fun t ht hW => by have := hq t ht hW; rw [hr] at this ⊢; exact this) hf hd C.lk
end RW
