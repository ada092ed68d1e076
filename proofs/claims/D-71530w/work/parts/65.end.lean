/-! the law's run out of its pure law -/
set_option maxRecDepth 100000
/-- what is owed of the pure law, at a start -/
def lawPure (G : Gx) (st0 : hS) : Prop := ∃ (z : Nat × Nat × hS) (adx adm : Nat → Nat) (σx σm : Sg) (st2 : hS) (y : Sg × Sg × hS) (f : Nat),
  fL_new st0 = some z ∧ apart (gO G).size (0, z.1, adx) (6, z.2.1, adm) ∧ (∀ a, ownS (0, z.1, adx) a ∨ ownS (6, z.2.1, adm) a → st0.2.1 ≤ a) ∧
  heldIn (0, z.1, adx) σx z.2.2 ∧ heldIn (6, z.2.1, adm) σm z.2.2 ∧ st2.2 = z.2.2.2 ∧ (∀ a e, st2.1 a = some e → z.2.2.1 a = some e) ∧ (∀ a, ownS (0, z.1, adx) a ∨ ownS (6, z.2.1, adm) a → st2.1 a = none) ∧
  RR [(0, z.1, adx), (6, z.2.1, adm)] [σx, σm] st2 ∧ fL_loop G adx f 0 σx σm st2 = some y ∧ y.2.2.2.1 ≤ st0.2.1 + 1200144 ∧ y.2.2.2.2 ≤ st0.2.2 + 5500378
theorem at_law {G : Gx} {st0 : hS} {nm : String} (hL : xL G < 2147483648) (h : lawPure G st0) : ∃ (F : hS), F.2.1 ≤ st0.2.1 + 1200144 ∧ F.2.2 ≤ st0.2.2 + 5500378 ∧ AtPc cL_law LN 8192 104096 (G, 4, [], st0, [], F, some .boolean, some (ti 1), nm) [] st0 0 [(0, tr (some (xA G)))] [] := by
  obtain ⟨z, adx, adm, σx, σm, st2, y, f, e1, hap, hn, hx, hm, e2, hs, hno, hrr, e3, b1, b2⟩ := h
  refine ⟨y.2.2, b1, b2, wL_new rfl rfl e1 (r_hold (σF := [y.1, y.2.1]) hap hn hx hm e2 hs hno hrr ?_)⟩
  exact wL_loop (N := (G, 4, [(0, z.1, adx), (6, z.2.1, adm)], st0, [y.1, y.2.1], y.2.2, some .boolean, some (ti 1), nm)) rfl rfl rfl rfl hL f 0 σx σm st2 y (by decide) e3 rfl rfl
theorem no_traces {l : Launch} (h : l.flags = flags0) : l.stackTraces = false := by
  unfold Launch.stackTraces; rw [h]; decide +kernel
def R_law : String := "DictProofLaw"
def lw_P (b : Addr) (xs : List Int32) (args : Array Value) (s : State) : Prop := args = #[.ref b] ∧ s.IntsAt b xs ∧ xs.length ≤ 120 ∧ (Jvm.Cond.and given_1 narrow_1).before args s = true ∧ modulesRight_1 s = true
def lw_Q (_ : Array Value) (s : State) (o : Outcome) (t : State) : Prop := o = .returned (some (.int 1)) ∧ Framed s o t [] 1200144 5500378
def lw_Z (below : List Frame) (a : Array Value) (s : State) : State → Prop := fun t => ∃ o, t.status = .running ∧ Ended t below o ∧ lw_Q a s o t
theorem whole_of {p : Program} {e : Env} {s : State} {m : MethodId} {below : List Frame} {meth : Method} {c : Code} (l : Launch) (hflags : l.flags = flags0) {b : Nat} {G : Gx} {st0 : hS}
    (hx : p.tables.exec = Jvm.exec) (hb : c.code = code) (hr : meth.sig.returnType = ret) (hml : c.maxLocals = 4) (hown : s.vm.findClass LN = some m.cls) (hts : ∀ w ∈ lw_tbl, w.before #[Value.ref b] s = true) (hlk : meth.locks = false)
    (hA : xA G = b) (hL : xL G ≤ 120) (hO : gO G = s.heap) (hG : GK G s) (hW : WM G [] [] st0 s.heap) (rr : RR [] [] st0) (h : lawPure G st0) :
    W p l e room_1 s m #[Value.ref b] below meth c s.heap [] 0 0 (lw_Z below #[Value.ref b] s) (entryFrame m ([Value.ref b] : List Value).toArray 4) := by
  obtain ⟨F, b1, b2, A⟩ := at_law (nm := meth.name) (by omega) h
  obtain ⟨-, A⟩ := A rr
  let K : Kx := (p, l, e, room_1, s, m, #[Value.ref b], below, meth, c)
  have hsz : s.heap.size = st0.2.1 := hW.1
  have C : Cx (mk K (G, 4, [], st0, [], F, some .boolean, some (ti 1), meth.name)) cL_law LN 8192 104096 :=
    ⟨hx, hb, hml, hown, fun w hw => hts w (lw_all_tbl hw), hr, hlk, hG, hsz, rfl, by show F.2.1 - st0.2.1 ≤ 1200144; omega, by show F.2.2 - st0.2.2 ≤ 5500378; omega, rfl, rfl, rfl, fun _ => ⟨no_traces hflags, fun h9 => absurd h9 (by decide)⟩⟩
  have hl := lv_entry ([Value.ref b] : List Value) (n := 4) (Nat.le_of_ble_eq_true rfl)
  rw [lg_entry_eq]
  generalize (lg_sl ([Value.ref b] : List Value) ++ List.replicate (4 - (lg_sl ([Value.ref b] : List Value)).length) Slot.unset).toArray = ls at hl ⊢
  have k := A K C s.heap [] 0 0 ls ⟨hW, va_S.rf, by show st0.2.1 + 0 = _; omega, by show st0.2.2 + 0 = _; omega, fun a e9 he => Or.inl (by show st0.1 a ≠ none; rw [he]; exact fun h => by cases h)⟩ (by rw [hA]; exact hl)
  intro T hT X
  obtain ⟨t, a1, o, c1, c2, ⟨⟨q1, -, -⟩, -⟩, L, ⟨l1, l2, l3⟩, l4⟩ := k T hT X
  refine ⟨t, a1, o, c1, c2, q1, l1, l2, ?_⟩
  have l5 := State.sameButNew.drop_fresh (L := []) (J := L) l3 (fun q hq => by
    have := l4 q hq
    rw [← hO]
    rcases this with ⟨i, sp, h1, -⟩ | ⟨h1, -⟩ | ⟨h1, -⟩
    · cases h1
    · exact h1
    · exact h1)
  exact l5.mono (by show F.2.1 - st0.2.1 ≤ 1200144; omega) (by show F.2.2 - st0.2.2 ≤ 5500378; omega)
