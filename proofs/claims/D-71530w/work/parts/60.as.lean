/-! DictProof.as: it catches the cast that fails -/
set_option maxRecDepth 100000
/-- what a method with handlers does -/
def CtXW (G : Gx) (y : MethodName) (code : ByteArray) (hh : List (Nat × Nat × Nat × Nat)) (maxL : Nat) (ret : Option FieldType) (fR lO : Nat) (sps : List Sp) (σs : List Sg) (st : hS) (av : List Tv) (r : Option Tv) (σs' : List Sg) (st' : hS) : Prop :=
  RR sps σs st → (st.2.1 ≤ st'.2.1 ∧ st.2.2 ≤ st'.2.2 ∧ RR sps σs' st' ∧ rtOK ret r) ∧
    ∀ l : Launch, l.stackTraces = false → Met l y (wsW_ y code maxL ret hh) ({ frames := fR, cells := st'.2.1 - st.2.1, slots := st'.2.2 - st.2.2, locals := lO } : Room) (va_Pc (av.map tv) (fun U => WM G sps σs st U.heap ∧ GK G U)) (QcX G sps st r σs' st') (st'.2.1 - st.2.1) (st'.2.2 - st.2.2) (AA G sps st)
theorem CtXW.of {G : Gx} {y : MethodName} {code : ByteArray} {hh : List (Nat × Nat × Nat × Nat)} {maxL : Nat} {ret : Option FieldType} {fR lO : Nat} {sps : List Sp} {σs : List Sg} {st : hS} {av : List Tv} {r : Option Tv} {σs' : List Sg} {st' : hS} (hy : plainName y.cls = true) (hn : (av.map tc).sum ≤ maxL) (lv : List (Nat × Tv)) (hlv : la 0 av = lv) (hh9 : hh = [(26, 36, 37, 433)])
    (body : AtPc code y.cls fR lO (G, maxL, sps, st, σs', st', ret, r, y.name) σs st 0 lv []) : CtXW G y code hh maxL ret fR lO sps σs st av r σs' st' := by
  intro rr
  have hb := body rr
  refine ⟨hb.1, fun l hl9 => ?_⟩
  refine va_MetW (cc := code) (maxL := maxL) (ret := ret) (hh := hh) hy rfl ?_
  intro p e s m args below meth c s₁ B hml hv
  obtain ⟨rfl, hW, hGK⟩ := hv
  have hts0 := atoms_spec (ws := wsW_ y code maxL ret hh) B.pre
  have hts : ∀ w ∈ lw_all, w.before _ s = true := fun w h => hts0 w (List.mem_cons_of_mem _ h)
  have htab := vx_table (x := y) B (hts0 _ List.mem_cons_self)
  have hown : s.vm.findClass y.cls = some m.cls := findClass_of_methodNamed B.named
  have hnm : meth.name = y.name := (name_of_methodNamed B.named B.method).1
  let R : Room := { frames := fR, cells := st'.2.1 - st.2.1, slots := st'.2.2 - st.2.2, locals := lO }
  let K : Kx := (p, l, e, R, s, m, (av.map tv).toArray, below, meth, c)
  have C : Cx (mk K (G, maxL, sps, st, σs', st', ret, r, y.name)) code y.cls fR lO := ⟨B.exec, B.bytes, hml, hown, hts, B.returns, B.notSynchronized, hGK, hW.1, rfl, Nat.le_refl _, Nat.le_refl _, rfl, rfl, hnm, fun _ => ⟨hl9, fun _ => by rw [← hh9]; exact htab⟩⟩
  have hl := lv_entry (av.map tv) (n := maxL) (by rw [lg_len]; exact hn)
  rw [lg_entry_eq]
  generalize (lg_sl (av.map tv) ++ List.replicate (maxL - (lg_sl (av.map tv)).length) Slot.unset).toArray = ls at hl ⊢
  refine hb.2 K C s.heap [] 0 0 ls ⟨hW, va_S.rf, by show st.2.1 + 0 = _; omega, by show st.2.2 + 0 = _; omega, fun a e9 he => Or.inl (by show st.1 a ≠ none; rw [he]; exact fun h => by cases h)⟩ ?_
  rw [la_eq, hlv] at hl
  exact hl
/-- which casts fail: the object's class, the kind -/
def badC (c : Nat) (kd : Int) : Bool := (decide (kd = 1) && (c == 1 || c == 3 || c == 4 || c == 5)) || (decide (kd = 2) && (c == 1 || c == 2 || c == 4 || c == 5)) || (decide (kd = 3) && (c == 1 || c == 2 || c == 3)) || (decide (kd = 4) && (c == 1 || c == 2 || c == 3 || c == 4))
theorem badC_o {c : Nat} {kd : Int} (h : badC c kd = true) : ∃ (r : vw_C) (nm : String), clA[c]? = some r ∧ (r.1, nm) ∈ ncL ∧ ((kd = 1 ∧ nm = "DictProof$Spare") ∨ (kd = 2 ∧ nm = "DictProof$Hidden") ∨ (kd = 3 ∧ nm = "DictProof$First") ∨ ((kd < 0 ∨ 3 < kd) ∧ nm = "DictProof$Sole")) := by
  simp only [badC, Bool.or_eq_true, Bool.and_eq_true, decide_eq_true_eq, beq_iff_eq] at h
  rcases h with ((⟨hk, hc⟩ | ⟨hk, hc⟩) | ⟨hk, hc⟩) | ⟨hk, hc⟩
  · rcases hc with ((rfl | rfl) | rfl) | rfl <;> exact ⟨_, "DictProof$Spare", rfl, by simp [ncL, RX1, RX3, RX4, RX5], Or.inl ⟨hk, rfl⟩⟩
  · rcases hc with ((rfl | rfl) | rfl) | rfl <;> exact ⟨_, "DictProof$Hidden", rfl, by simp [ncL, RX1, RX2, RX4, RX5], Or.inr (Or.inl ⟨hk, rfl⟩)⟩
  · rcases hc with (rfl | rfl) | rfl <;> exact ⟨_, "DictProof$First", rfl, by simp [ncL, RX1, RX2, RX3], Or.inr (Or.inr (Or.inl ⟨hk, rfl⟩))⟩
  · rcases hc with ((rfl | rfl) | rfl) | rfl <;> exact ⟨_, "DictProof$Sole", rfl, by simp [ncL, RX1, RX2, RX3, RX4], Or.inr (Or.inr (Or.inr ⟨Or.inr (by omega), rfl⟩))⟩
theorem r_castX {N : Nx} {fR lO : Nat} {σs : List Sg} {st : hS} {lv : List (Nat × Tv)} (hnm9 : nnm N = "as") {o : Option Nat} {c : Nat} (ho : hC st o = some c) {kd : Int} (hk : rI kd) (hb : badC c kd = true) (hfr : 11 ≤ fR) (hlo : 10321 ≤ lO)
    (h : ∀ q9 : Nat, AtPc cX0_as RX0 fR lO N σs (st.1, st.2.1 + 3, st.2.2 + 1000) 37 lv [tr (some q9)]) : AtPc cX0_as RX0 fR lO N σs st 33 lv [ti kd, tr o] := by
  obtain ⟨a, fs, rfl, ha⟩ := hC_o ho
  obtain ⟨r, nm, hr, hq, hnm⟩ := badC_o hb
  intro rr
  have rr' : RR (np N) σs (st.1, st.2.1 + 3, st.2.2 + 1000) := rr
  have h1 : st.2.1 + 3 ≤ (nF N).2.1 := (h 0 rr').1.1
  have h2 : st.2.2 + 1000 ≤ (nF N).2.2 := (h 0 rr').1.2.1
  refine ⟨⟨by omega, by omega, (h 0 rr').1.2.2⟩, fun K C H locs cells slots ls s w => ?_⟩
  have hcc : (nF N).2.1 - (n0 N).2.1 ≤ (kR K).cells := C.rc
  have hcs : (nF N).2.2 - (n0 N).2.2 ≤ (kR K).slots := C.rs
  have hc1 : (n0 N).2.1 + cells = st.2.1 := s.2.2.1
  have hc2 : (n0 N).2.2 + slots = st.2.2 := s.2.2.2.1
  have hR1 : (kR K).frames = fR := C.fr
  have hR2 : (kR K).locals = lO := C.lo
  obtain ⟨hx1, hx2⟩ := C.xt (by show xN RX0 (nnm N) = true; rw [hnm9]; rfl)
  have hM := thr_castTo (G := nG N) ha hr kd hk nm hq hnm (kl K) hx1
  have hw0 : WM (nG N) [] [] st H := WM.cut (j := none) (σs' := []) subO_0 getO_0 s.1
  have hrun := vx_runS (p := kp K) (e := ke K) (R := kR K) (s := ks K) (m := km K) (args := ka K) (below := kb K) (meth := kme K) (c := kc K) (H := H) (locs := locs) (cells := cells) (slots := slots) (g := F0 (km K) 33 ls [vI kd, Value.ref a]) (As := [Value.ref a, vI kd]) (rest := []) ⟨C.x, C.b, C.ml, C.o, C.ts⟩ hM (va_cwS 2 C.ts (lw_S q1280 q1281 q115 q1282) rfl rfl rfl (by decide +kernel) ⟨by rw [hR1]; exact hfr, by rw [hR2]; exact hlo⟩) ⟨FB_of (sps := []) (σs := []) (av := [Value.ref a, vI kd]), Sit.pre (locs := locs) (cells := cells) (slots := slots) C hw0 _⟩ rfl rfl w.1 rfl (Nat.zero_le _) dX0_as_33 ⟨by show cells + 3 ≤ _; omega, by show slots + 1000 ≤ _; omega⟩
  show WK K H locs cells slots (mQ (mk K N)) (F0 (km K) 33 ls [vI kd, Value.ref a])
  refine vx_calli hrun s.2.1 (fun q _ h => h.elim) (fun q h => h.elim) (fun q _ h => h.elim) ?_ (fun r u t H1 locs1 _ _ hf => hf.elim)
  intro E ce q9 u t H1 locs1 ht hal _ hB hsz hq1 hS1 hce hv hcl
  obtain ⟨rfl, hWM⟩ := hB
  rw [ht] at hWM
  refine vx_catch (own := RX0) (name := "java/lang/ClassCastException") C.o [] ⟨26, 36, 37, 433⟩ [] (hx2 rfl) (fun z hz => by cases hz) (by rfl) (by decide) (C.ts _ q1210) (va_tabs rfl rfl (C.g.2.1 _ q1256 rfl)) hce hv hcl ?_
  have sb := s.back (L := []) (sps' := []) (σs1 := []) (σsN := σs) (st1 := (st.1, st.2.1 + 3, st.2.2 + 1000)) (fun i sp h => by cases h) (fun j sp h => Or.inr ⟨rfl, fun i h9 => by cases h9⟩) (by show st.2.1 ≤ st.2.1 + 3; omega) (by show st.2.2 ≤ st.2.2 + 1000; omega) hWM (fun a9 e9 h9 => Or.inl (by rw [show st.1 a9 = some e9 from h9]; exact fun h => by cases h)) (fun q h3 h4 => hq1 q h3 (fun h => h)) (fun q h => by cases h)
  have e1 : cells + ((st.1, st.2.1 + 3, st.2.2 + 1000) : hS).2.1 - st.2.1 = cells + 3 := by show cells + (st.2.1 + 3) - st.2.1 = _; omega
  have sit : Sit (mk K N) σs (st.1, st.2.1 + 3, st.2.2 + 1000) H1 locs1 (cells + 3) (slots + 1000) := by
    refine ⟨sb.1, hS1, ?_, ?_, sb.2.2.2.2⟩
    · show (n0 N).2.1 + (cells + 3) = st.2.1 + 3; omega
    · show (n0 N).2.2 + (slots + 1000) = st.2.2 + 1000; omega
  exact (h q9 rr').2 K C H1 locs1 (cells + 3) (slots + 1000) ls sit w
/-- DictProof.as -/
def fX0_as (s : Sg) (h : hS) (a1 a2 : Int) : Option (Int × hS) := bd (fX0_isInstance s a1) fun p1 => if ¬ p1 = 0 then bd (fX0_isIn a2 0 4) fun p6 => if ¬ p6 = 0 then gd (inb a1 6) (bd (hC h (gQ s 4 a1)) fun c => if badC c a2 = true then some (-1, (h.1, h.2.1 + 3, h.2.2 + 1000)) else bd (fX0_castTo h (gQ s 4 a1) a2) fun p => some (p, h)) else some ((-102), h) else some ((-101), h)
theorem kX0_as {G : Gx} {b : Nat} {ad : Nat → Nat} {h' : hS} {r : Int} {s : Sg} {h : hS} {a1 : Int} {a2 : Int} (ha1 : rI a1) (ha2 : rI a2) (e : fX0_as s h a1 a2 = some (r, h')) : CtXW G yX0_as cX0_as [(26, 36, 37, 433)] 4 (some .int) 20 12000 [(0, b, ad)] [s] h [tr (some b), ti a1, ti a2] (some (ti r)) [s] h' := by
  refine CtXW.of (by decide) (Nat.le_of_ble_eq_true rfl) [(0, tr (some b)), (1, ti a1), (2, ti a2)] rfl rfl ?_
  have E : EndX (G, 4, [(0, b, ad)], h, [s], h', (some .int), (some (ti r)), yX0_as.name) [(0, b, ad)] 4 (some .int) (some (ti r)) [s] h' := ⟨rfl, rfl, rfl, rfl, rfl, rfl⟩
  unfold fX0_as at e
  refine r_rrs E.p (fun rr => ?_)
  refine r_aload_n dX0_as_0 rfl 0 rfl ?_
  refine r_iload_n dX0_as_1 rfl 1 rfl ?_
  obtain ⟨p1, q2, e⟩ := bd_o e
  have k3 := kX0_isInstance (G := G) (b := b) (ad := ad) (h := h) ha1 q2
  have z4 := (k3 rr).1.2.2.2
  refine r_callV (j := some 0) 1 [ti a1] (rec_sg (j := 0) (r := (RX0, TX0, 36)) rfl (by rw [E.p]; rfl)) rfl k3 (injO_1 E.p) (subO_1 E.p) getO_1 setO_1 (lw_V q1089 q1091 qs24 q115 q1092) (by decide +kernel) rfl (Nat.le_of_ble_eq_true rfl) (Nat.le_of_ble_eq_true rfl) rfl (Nat.le_of_ble_eq_true rfl) dX0_as_2 rfl ?_
  have eT := (r_ifo e).1
  have eF := (r_ifo e).2
  refine r_if_ne (rI_z z4) 11 dX0_as_5 (by decide) (fun c5 => ?_) (fun c5 => ?_)
  · have e := eT c5
    refine r_iload_n dX0_as_11 rfl 2 rfl ?_
    refine r_i2l ha2 dX0_as_12 ?_
    refine r_lconst 0 dX0_as_13 rfl ?_
    refine r_ldc2 4 q1279 (by decide) dX0_as_14 ?_
    obtain ⟨p6, q7, e⟩ := bd_o e
    have k8 := kX0_isIn (G := G) (h := h) (rI_L ha2) (by decide) (by decide) q7
    have z9 := (k8 rr.none).1.2.2.2
    refine r_callS (j := none) 3 [tl a2, tl 0, tl 4] k8 (injO_1 E.p) subO_0 getO_0 setO_0 (lw_S q397 q398 q115 q399) (by decide +kernel) rfl (Nat.le_of_ble_eq_true rfl) (Nat.le_of_ble_eq_true rfl) rfl (Nat.le_of_ble_eq_true rfl) dX0_as_17 rfl ?_
    have eT := (r_ifo e).1
    have eF := (r_ifo e).2
    refine r_if_ne (rI_z z9) 26 dX0_as_20 (by decide) (fun c10 => ?_) (fun c10 => ?_)
    · have e := eT c10
      refine r_aload_n dX0_as_26 rfl 0 rfl ?_
      refine r_sR E.p 4 fG_X0_114 (by decide) dX0_as_27 ?_
      refine r_iload_n dX0_as_30 rfl 1 rfl ?_
      obtain ⟨g11, e⟩ := gd_o e
      refine r_saQ E.p 4 rfl (by decide) (by decide) (by decide) ha1 g11 dX0_as_31 ?_
      refine r_iload_n dX0_as_32 rfl 2 rfl ?_
      obtain ⟨c, hc, e⟩ := bd_o e
      by_cases hb : badC c a2 = true
      · rw [if_pos hb] at e
        cases e
        refine r_castX rfl hc ha2 hb (by decide) (by decide) fun q9 => ?_
        refine r_astore_n (lv' := [(3, tr (some q9)), (0, tr (some b)), (1, ti a1), (2, ti a2)]) dX0_as_37 rfl (E.lt (by decide)) rfl ?_
        refine r_iconst dX0_as_38 ?_
        exact r_iret E.σ E.st E.rt E.r (by decide) dX0_as_39
      · rw [if_neg hb] at e
        obtain ⟨p12, q13, e⟩ := bd_o e
        have k14 := kX0_castTo (G := G) ha2 q13
        have z14 := (k14 rr.none).1.2.2.2
        refine r_callS (j := none) 2 [tr (gQ s 4 a1), ti a2] k14 (injO_1 E.p) subO_0 getO_0 setO_0 (lw_S q1280 q1281 q115 q1282) (by decide +kernel) rfl (Nat.le_of_ble_eq_true rfl) (Nat.le_of_ble_eq_true rfl) rfl (Nat.le_of_ble_eq_true rfl) dX0_as_33 rfl ?_
        cases e
        exact r_iret E.σ E.st E.rt E.r z14 dX0_as_36
    · have e := eF c10
      refine r_bipush dX0_as_23 (by decide) ?_
      cases e
      exact r_iret E.σ E.st E.rt E.r (by decide) dX0_as_25
  · have e := eF c5
    refine r_bipush dX0_as_8 (by decide) ?_
    cases e
    exact r_iret E.σ E.st E.rt E.r (by decide) dX0_as_10
