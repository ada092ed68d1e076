/-! BASE 19: a cast that fails -/
set_option maxRecDepth 100000
section CZ
variable {p : Program} {l : Launch} {e : Env} {R : Room} {s : State} {m : MethodId} {args : Array Value} {below : List Frame} {meth : Method} {c : Code} {H : Heap} {locs : List Loc} {cells slots : Nat} {Q : State → Prop} {cc : ByteArray} {pc : Nat} {ls : Array Slot} {rest : List Value}
theorem w_castZ (hexec : p.tables.exec = Jvm.exec) (hb : c.code = cc) {own nm C : String} {index : Nat} {a : Addr} {cell : Cell} (hown : s.vm.findClass own = some m.cls) (hlink : (Cond.classLink own index nm).before args s = true) (hcell : H[a]? = some cell) (hobj : ∀ k, cell.vm ≠ .statics k) (hcl : s.vm.findClass C = some cell.cls) (hq : (C, nm) ∈ ncL) (hn : va_Nc C nm s) (hm : msgW s) (hdg : decode cc pc = .ok (.checkcast index, 3))
    (k : ∀ tx : String, (tx == notModelled) = false → (stringBytes (stringToUtf16 tx)).size ≤ 990 → vx_Note p l e R s m args below meth c H locs cells slots Q (F0 m pc ls (.ref a :: rest)) "java/lang/ClassCastException" tx) : W p l e R s m args below meth c H locs cells slots Q (F0 m pc ls (.ref a :: rest)) := by
  intro T hT X
  have hpl : e.platform.magicAccessors = ({} : Platform).magicAccessors := by rw [X.admits.platform]
  obtain ⟨cT, hc', hcl1⟩ := Cond.classLink_spec hown hlink e.platform hpl
  obtain ⟨dk, _, _, kt, hd, _, _, _, _, hkt, _, hopen⟩ := hcl1.here
  have hcl₀ := X.warmed.classLinks hcl1
  have hW' : s.WarmedH (T.vm.noted m.cls index (.cls cT)) := X.warmed.noted hd hopen (State.rightAt_cls hcl1)
  obtain ⟨k0, hk0, -⟩ := Vm.findClass_spec hcl
  obtain ⟨k0', hk0', -⟩ := hW'.alike.2.2 _ _ hk0
  obtain ⟨kt', hkt', -⟩ := hW'.alike.2.2 _ _ hkt
  obtain ⟨a8, b8, h1, h2, h3⟩ := hn
  cases Option.some.inj (h1.symm.trans hcl)
  cases Option.some.inj (h2.symm.trans hc')
  have hmm := hm _ hq _ _ k0 kt hcl hc' hk0 hkt
  rw [← msg_alike hW'.alike hk0 hkt hk0' hkt'] at hmm
  obtain ⟨t, st, q⟩ := k _ hmm.1 hmm.2 (T.setVm (T.vm.noted m.cls index (.cls cT))) hT (X.noted hW')
  refine ⟨t, ?_, q⟩
  have hd' : decode c.code (F0 m pc ls (.ref a :: rest)).pc = .ok (.checkcast index, 3) := by rw [hb]; exact hdg
  jvm_step X.here [hexec, hd', checkcast.wp_cold (e := e) (s := T) (f := F0 m pc ls (.ref a :: rest)) X.here.top (rfl) (resolveClass_links e.toSetting hcl₀) hcl₀.ready,
    checkcast.wp_ready (e := e) (s := T.setVm (T.vm.noted m.cls index (.cls cT))) (f := F0 m pc ls (.ref a :: rest)) X.here.top hcl₀.ready (rfl)]
  refine ⟨cell, by rw [hT]; exact hcell, hobj, k0', hk0', kt', hkt', ?_⟩
  rw [if_neg (by rw [hW'.alike.assignable, h3]; exact Bool.false_ne_true)]
  exact st
end CZ
theorem WM.junk {G : Gx} {st : hS} {H H1 : Heap} (w : WM G [] [] st H) (hz : H1.size = H.size + 3) (hq : ∀ q : Nat, q < H.size → H1[q]? = H[q]?) : WM G [] [] (st.1, st.2.1 + 3, st.2.2 + 1000) H1 := by
  obtain ⟨a1, a2, a3, a4, a5, a6⟩ := w
  refine ⟨by show _ = st.2.1 + 3; rw [hz, a1], by rw [hz]; omega, fun a ha => (hq a (Nat.lt_of_lt_of_le ha a2)).trans (a3 a ha), fun a e he => ⟨(a4 a e he).1.kept (hq a (a4 a e he).1.lt), (a4 a e he).2⟩, fun i sp h => (by cases h), fun i j sp sp' a h => by cases h⟩
def exN : List String := ["java/lang/RuntimeException", "java/lang/Exception"]
abbrev thX (G : Gx) (st : hS) : String → State → State → Prop := vx_X (S := Unit) (fun _ => True) (fun E _ t => E = "java/lang/ClassCastException" ∧ WM G [] [] (st.1, st.2.1 + 3, st.2.2 + 1000) t.heap) (fun _ => False)
abbrev thQ : Array Value → State → Outcome → State → Prop := va_Qi (S := Unit) (fun _ _ => False) (fun _ _ => True) (fun _ => False)
theorem exW_1 : ((vx_atM "java/lang/ClassCastException" exN).filter goodWord).all (fun w => lw_all.contains w) = true := by decide +kernel
theorem exW_2 : ((vx_atM "java/lang/ClassCastException" exN).filter (fun w => !goodWord w)).all (fun w => nwOf w && lw_tbl.contains w) = true := by decide +kernel
theorem exW_in {U : State} {args : Array Value} (h : ∀ w ∈ lw_all, w.before args U = true) (hn : ∀ w ∈ lw_tbl, nwOf w = true → va_Nw w U) : ∀ w ∈ vx_atM "java/lang/ClassCastException" exN, w.before args U = true := by
  intro w hw
  cases hg : goodWord w with
  | true => exact h w (List.contains_iff_mem.mp (List.all_eq_true.mp exW_1 w (List.mem_filter.mpr ⟨hw, hg⟩)))
  | false =>
    have h9 : w ∈ (vx_atM "java/lang/ClassCastException" exN).filter (fun w => !goodWord w) := List.mem_filter.mpr ⟨hw, by rw [hg]; rfl⟩
    have h8 := List.all_eq_true.mp exW_2 w h9
    rw [Bool.and_eq_true] at h8
    have h7 := hn w (List.contains_iff_mem.mp h8.2) h8.1
    cases w with
    | methodLinkNest a b c d => exact va_tabs rfl rfl h7
    | castable a b => exact va_tabs rfl rfl h7
    | declares a => exact va_tabs rfl rfl h7
    | _ => cases h8.1
theorem exW_ot : ∀ w ∈ vx_atM "java/lang/ClassCastException" exN, vx_ot w = true := by
  intro w hw
  have h : (vx_atM "java/lang/ClassCastException" exN).all vx_ot = true := by decide +kernel
  exact List.all_eq_true.mp h w hw
/-- castTo at an object of another class -/
theorem thr_castTo {G : Gx} {st : hS} {a c : Nat} {fs : List hV} {r : vw_C} (ha : st.1 a = some (.inl (c, fs))) (hr : clA[c]? = some r) (kd : Int) (hk : rI kd) (nm : String) (hq : (r.1, nm) ∈ ncL)
    (hnm : (kd = 1 ∧ nm = "DictProof$Spare") ∨ (kd = 2 ∧ nm = "DictProof$Hidden") ∨ (kd = 3 ∧ nm = "DictProof$First") ∨ ((kd < 0 ∨ 3 < kd) ∧ nm = "DictProof$Sole")) (l : Launch) (hl : l.stackTraces = false) :
    vx_Met l yX0_castTo (ws_ yX0_castTo cX0_castTo 2 (some .int)) ({ frames := 10, cells := 3, slots := 1000, locals := 10300 } : Room) (va_Pc [Value.ref a, vI kd] (fun U => WM G [] [] st U.heap ∧ GK G U)) thQ (thX G st) 3 1000 (fun _ => False) := by
  refine vx_ofW (cc := cX0_castTo) (maxL := 2) (ret := some .int) (by decide) rfl ?_
  intro p e s m args below meth c9 s₁ B hml htab hv
  obtain ⟨rfl, hW, hGK⟩ := hv
  have hts := atoms_spec (ws := ws_ yX0_castTo cX0_castTo 2 (some .int)) B.pre
  have hts : ∀ w ∈ lw_all, w.before _ s = true := fun w h => hts w (List.mem_cons_of_mem _ h)
  have hown : s.vm.findClass yX0_castTo.cls = some m.cls := findClass_of_methodNamed B.named
  have hl9 := lv_entry [Value.ref a, vI kd] (n := 2) (Nat.le_refl 2)
  rw [lg_entry_eq]
  have hsz : (lg_sl [Value.ref a, vI kd] ++ List.replicate (2 - (lg_sl [Value.ref a, vI kd]).length) Slot.unset).toArray.size = c9.maxLocals := by rw [hml]; rfl
  generalize (lg_sl [Value.ref a, vI kd] ++ List.replicate (2 - (lg_sl [Value.ref a, vI kd]).length) Slot.unset).toArray = ls at hl9 hsz ⊢
  have g0 : ls[0]? = some (.val (.ref a)) := lv_at hl9 0 rfl
  have g1 : ls[1]? = some (.val (vI kd)) := lv_at hl9 1 rfl
  have hz0 : hat G clA a (.inl (c, fs)) s.heap := (hW.2.2.2.1 a _ ha).1
  obtain ⟨r9, hr9, cell, hcell, g2, -, hst, -⟩ := hz0
  cases Option.some.inj (hr.symm.trans hr9)
  have hcl : s.vm.findClass r.1 = some cell.cls := by rw [g2]; exact (hGK.1.1 c _ hr).2.1
  have fin : ∀ (pc : Nat) (index : Nat), decode cX0_castTo pc = .ok (.checkcast index, 3) → Cond.classLink "DictProof" index nm ∈ lw_all →
      W p l e { frames := 10, cells := 3, slots := 1000, locals := 10300 } s m [Value.ref a, vI kd].toArray below meth c9 s.heap [] 0 0 (vx_MQ below thQ (thX G st) [Value.ref a, vI kd].toArray s 3 1000 (fun _ => False)) (F0 m pc ls [.ref a]) := by
    intro pc index hd hlk
    refine w_castZ B.exec B.bytes hown (hts _ hlk) hcell (fun _ h => by rw [h] at hst; cases hst) hcl hq (hGK.2.2.2.2.1 _ hq) hGK.2.2.2.2.2.2.2.2.2.1 hd fun tx ht hn => ?_
    refine vx_vm (names := exN) (nb := 990) (A := fun a => (gO G).size ≤ a) B.exec hl (by decide +kernel) (by decide +kernel) (by decide +kernel) (by decide +kernel) (exW_in hts hGK.2.1) exW_ot (hGK.2.2.2.2.2.2.2.2.2.2.1.kept ?_) (hGK.2.2.2.2.2.2.2.2.2.2.2.1.kept ?_) va_S.rf hsz ht hn (by decide) (by decide) (by show 1 + 10240 ≤ 10300; omega) (by decide) (by show 0 + 3 ≤ 3; omega) (by show 0 + (990 + 10) ≤ 1000; omega) B.notSynchronized ?_
    · exact fun q h1 h2 => hW.2.2.1 q h1
    · exact fun q h1 h2 => hW.2.2.1 q h1
    intro H1 q9 ce z1 z2 z3 z4 z5 z6
    refine vx_out (fun x hx => (htab x hx).elim) B.notSynchronized z4 z5 z6 (fun t ht hal => ⟨(), trivial, ⟨rfl, ?_⟩, ?_, ?_⟩) (fun z hz => by cases hz) (by omega) (by omega)
    · rw [ht]; exact hW.junk z1 z2
    · rw [ht]; omega
    · intro q hq1 _; rw [ht]; exact z2 q hq1
  refine lv_iload_n B.exec B.bytes dX0_castTo_0 rfl g1 ?_
  rcases hnm with ⟨rfl, rfl⟩ | ⟨rfl, rfl⟩ | ⟨rfl, rfl⟩ | ⟨h9, rfl⟩
  · refine lv_tableIn (tgt := 40) B.exec B.bytes dX0_castTo_1 (by decide) (by decide) (by rfl) (by rfl) ?_
    exact lv_aload_n B.exec B.bytes dX0_castTo_40 rfl g0 (fin 41 88 dX0_castTo_41 q195)
  · refine lv_tableIn (tgt := 48) B.exec B.bytes dX0_castTo_1 (by decide) (by decide) (by rfl) (by rfl) ?_
    exact lv_aload_n B.exec B.bytes dX0_castTo_48 rfl g0 (fin 49 91 dX0_castTo_49 q208)
  · refine lv_tableIn (tgt := 56) B.exec B.bytes dX0_castTo_1 (by decide) (by decide) (by rfl) (by rfl) ?_
    exact lv_aload_n B.exec B.bytes dX0_castTo_56 rfl g0 (fin 57 94 dX0_castTo_57 q221)
  · refine lv_tableOut (tgt := 64) B.exec B.bytes dX0_castTo_1 ?_ (by rfl) ?_
    · rw [toI hk]; exact h9
    · exact lv_aload_n B.exec B.bytes dX0_castTo_64 rfl g0 (fin 65 97 dX0_castTo_65 q234)
