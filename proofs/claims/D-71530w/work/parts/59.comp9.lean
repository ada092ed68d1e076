/-! the class with what it needs: functions and walks, printed by gen/run0.py -/
set_option maxRecDepth 100000
def fX0_digest_L95  : Nat → Option Nat × Option Nat → Option Nat → Sg → hS → Int → Option (Int × Sg × hS)
  | 0, _, _, _, _, _ => none
  | n9 + 1, gs, pm, s, h, a1 => fX0_digest_b95 (fX0_digest_L95 n9) gs pm s h a1
theorem wX0_digest_L95 {N : Nx} {b : Nat} {ad : Nat → Nat} {s' : Sg} {h' : hS} {r : Int} (E : EndX N [(0, b, ad)] 3 (some .long) (some (tl r)) [s'] h')  : ∀ (n9 : Nat), ∀ (s : Sg) (h : hS) (a1 : Int) (ha1 : rI a1), fX0_digest_L95 n9 (nG N).2.2.2 (some (ad 20)) s h a1 = some (r, s', h') → AtPc cX0_digest RX0 86 2890 N [s] h 95 [(0, tr (some b)), (1, ti a1)] [] := by
  intro n9
  induction n9 with
  | zero => intro s h a1 ha1 e; cases e
  | succ n9 ih => intro s h a1 ha1 e; exact wX0_digest_b95 E _ ih s h a1 ha1 e
def fX0_digest_b49 (K49 : Option Nat × Option Nat → Option Nat → Sg → hS → Int → Option (Int × Sg × hS)) (gs : Option Nat × Option Nat) (pm : Option Nat) (s : Sg) (h : hS) (a1 : Int) : Option (Int × Sg × hS) := if (gI s 5) ≤ a1 then fX0_digest_L95 FU gs pm s h 0 else fX0_digest_L59 K49 FU gs pm s h a1 0
theorem wX0_digest_b49 {N : Nx} {b : Nat} {ad : Nat → Nat} {s' : Sg} {h' : hS} {r : Int} (E : EndX N [(0, b, ad)] 3 (some .long) (some (tl r)) [s'] h') (K49 : Option Nat × Option Nat → Option Nat → Sg → hS → Int → Option (Int × Sg × hS)) (hK49 : ∀ (s : Sg) (h : hS) (a1 : Int) (ha1 : rI a1), K49 (nG N).2.2.2 (some (ad 20)) s h a1 = some (r, s', h') → AtPc cX0_digest RX0 86 2890 N [s] h 49 [(0, tr (some b)), (1, ti a1)] []) (s : Sg) (h : hS) (a1 : Int) (ha1 : rI a1) (e : fX0_digest_b49 K49 (nG N).2.2.2 (some (ad 20)) s h a1 = some (r, s', h')) : AtPc cX0_digest RX0 86 2890 N [s] h 49 [(0, tr (some b)), (1, ti a1)] [] := by
  unfold fX0_digest_b49 at e
  refine r_rrs E.p (fun rr => ?_)
  refine r_iload_n dX0_digest_49 rfl 1 rfl ?_
  refine r_aload_n dX0_digest_50 rfl 0 rfl ?_
  refine r_sI E.p 5 fG_X0_268 (by decide) dX0_digest_51 ?_
  have eT := (r_ifo e).1
  have eF := (r_ifo e).2
  refine r_icmp_ge ha1 ((rr.mine rfl).i 5 (by decide) (by decide)) 93 dX0_digest_54 (by decide) (fun c1 => ?_) (fun c1 => ?_)
  · have e := eT c1
    refine r_iconst dX0_digest_93 ?_
    refine r_istore_n (lv' := [(1, ti 0), (0, tr (some b))]) dX0_digest_94 rfl (E.lt (by decide)) rfl ?_
    refine r_sub [1, 0] rfl ?_
    exact wX0_digest_L95 E FU s h 0 (by decide) e
  · have e := eF c1
    refine r_iconst dX0_digest_57 ?_
    refine r_istore_n (lv' := [(2, ti 0), (0, tr (some b)), (1, ti a1)]) dX0_digest_58 rfl (E.lt (by decide)) rfl ?_
    refine r_sub [1, 2, 0] rfl ?_
    exact wX0_digest_L59 E K49 hK49 FU s h a1 0 ha1 (by decide) e
def fX0_digest_L49  : Nat → Option Nat × Option Nat → Option Nat → Sg → hS → Int → Option (Int × Sg × hS)
  | 0, _, _, _, _, _ => none
  | n9 + 1, gs, pm, s, h, a1 => fX0_digest_b49 (fX0_digest_L49 n9) gs pm s h a1
theorem wX0_digest_L49 {N : Nx} {b : Nat} {ad : Nat → Nat} {s' : Sg} {h' : hS} {r : Int} (E : EndX N [(0, b, ad)] 3 (some .long) (some (tl r)) [s'] h')  : ∀ (n9 : Nat), ∀ (s : Sg) (h : hS) (a1 : Int) (ha1 : rI a1), fX0_digest_L49 n9 (nG N).2.2.2 (some (ad 20)) s h a1 = some (r, s', h') → AtPc cX0_digest RX0 86 2890 N [s] h 49 [(0, tr (some b)), (1, ti a1)] [] := by
  intro n9
  induction n9 with
  | zero => intro s h a1 ha1 e; cases e
  | succ n9 ih => intro s h a1 ha1 e; exact wX0_digest_b49 E _ ih s h a1 ha1 e
def fX0_digest_b9 (K9 : Option Nat × Option Nat → Option Nat → Sg → hS → Int → Option (Int × Sg × hS)) (gs : Option Nat × Option Nat) (pm : Option Nat) (s : Sg) (h : hS) (a1 : Int) : Option (Int × Sg × hS) := if (gI s 3) ≤ a1 then fX0_digest_L49 FU gs pm s h 0 else fX0_digest_L19 K9 FU gs pm s h a1 0
theorem wX0_digest_b9 {N : Nx} {b : Nat} {ad : Nat → Nat} {s' : Sg} {h' : hS} {r : Int} (E : EndX N [(0, b, ad)] 3 (some .long) (some (tl r)) [s'] h') (K9 : Option Nat × Option Nat → Option Nat → Sg → hS → Int → Option (Int × Sg × hS)) (hK9 : ∀ (s : Sg) (h : hS) (a1 : Int) (ha1 : rI a1), K9 (nG N).2.2.2 (some (ad 20)) s h a1 = some (r, s', h') → AtPc cX0_digest RX0 86 2890 N [s] h 9 [(0, tr (some b)), (1, ti a1)] []) (s : Sg) (h : hS) (a1 : Int) (ha1 : rI a1) (e : fX0_digest_b9 K9 (nG N).2.2.2 (some (ad 20)) s h a1 = some (r, s', h')) : AtPc cX0_digest RX0 86 2890 N [s] h 9 [(0, tr (some b)), (1, ti a1)] [] := by
  unfold fX0_digest_b9 at e
  refine r_rrs E.p (fun rr => ?_)
  refine r_iload_n dX0_digest_9 rfl 1 rfl ?_
  refine r_aload_n dX0_digest_10 rfl 0 rfl ?_
  refine r_sI E.p 3 fG_X0_238 (by decide) dX0_digest_11 ?_
  have eT := (r_ifo e).1
  have eF := (r_ifo e).2
  refine r_icmp_ge ha1 ((rr.mine rfl).i 3 (by decide) (by decide)) 47 dX0_digest_14 (by decide) (fun c1 => ?_) (fun c1 => ?_)
  · have e := eT c1
    refine r_iconst dX0_digest_47 ?_
    refine r_istore_n (lv' := [(1, ti 0), (0, tr (some b))]) dX0_digest_48 rfl (E.lt (by decide)) rfl ?_
    refine r_sub [1, 0] rfl ?_
    exact wX0_digest_L49 E FU s h 0 (by decide) e
  · have e := eF c1
    refine r_iconst dX0_digest_17 ?_
    refine r_istore_n (lv' := [(2, ti 0), (0, tr (some b)), (1, ti a1)]) dX0_digest_18 rfl (E.lt (by decide)) rfl ?_
    refine r_sub [1, 2, 0] rfl ?_
    exact wX0_digest_L19 E K9 hK9 FU s h a1 0 ha1 (by decide) e
def fX0_digest_L9  : Nat → Option Nat × Option Nat → Option Nat → Sg → hS → Int → Option (Int × Sg × hS)
  | 0, _, _, _, _, _ => none
  | n9 + 1, gs, pm, s, h, a1 => fX0_digest_b9 (fX0_digest_L9 n9) gs pm s h a1
theorem wX0_digest_L9 {N : Nx} {b : Nat} {ad : Nat → Nat} {s' : Sg} {h' : hS} {r : Int} (E : EndX N [(0, b, ad)] 3 (some .long) (some (tl r)) [s'] h')  : ∀ (n9 : Nat), ∀ (s : Sg) (h : hS) (a1 : Int) (ha1 : rI a1), fX0_digest_L9 n9 (nG N).2.2.2 (some (ad 20)) s h a1 = some (r, s', h') → AtPc cX0_digest RX0 86 2890 N [s] h 9 [(0, tr (some b)), (1, ti a1)] [] := by
  intro n9
  induction n9 with
  | zero => intro s h a1 ha1 e; cases e
  | succ n9 ih => intro s h a1 ha1 e; exact wX0_digest_b9 E _ ih s h a1 ha1 e
def fX0_digest  (gs : Option Nat × Option Nat) (pm : Option Nat) (s : Sg) (h : hS) : Option (Int × Sg × hS) := fX0_digest_L9 FU gs pm (sI s 35 1367) h 0
theorem kX0_digest {G : Gx}  {b : Nat} {ad : Nat → Nat} {s' : Sg} {h' : hS} {r : Int} {s : Sg} {h : hS}    (e : fX0_digest G.2.2.2 (some (ad 20)) s h = some (r, s', h')) : CtX G yX0_digest cX0_digest 3 (some .long) 86 2890 [(0, b, ad)] [s] h [tr (some b)] (some (tl r)) [s'] h' := by
  refine CtX.of (by decide) (Nat.le_of_ble_eq_true rfl) [(0, tr (some b))] rfl ?_
  have E : EndX (G, 3, [(0, b, ad)], h, [s'], h', (some .long), (some (tl r)), yX0_digest.name) [(0, b, ad)] 3 (some .long) (some (tl r)) [s'] h' := ⟨rfl, rfl, rfl, rfl, rfl, rfl⟩
  unfold fX0_digest at e
  refine r_rrs E.p (fun rr => ?_)
  refine r_aload_n dX0_digest_0 rfl 0 rfl ?_
  refine r_ldc2 1367 q1391 (by decide) dX0_digest_1 ?_
  refine r_sPL E.p 35 fP_X0_527 rfl (by decide) dX0_digest_4 ?_
  refine r_rrs E.p (fun rr1 => ?_)
  refine r_iconst dX0_digest_7 ?_
  refine r_istore_n (lv' := [(1, ti 0), (0, tr (some b))]) dX0_digest_8 rfl (E.lt (by decide)) rfl ?_
  refine r_sub [1, 0] rfl ?_
  exact wX0_digest_L9 E FU (sI s 35 1367) h 0 (by decide) e
