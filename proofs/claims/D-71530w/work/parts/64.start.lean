/-! the law makes its two objects (printed by wip gen/runL.py) -/
set_option maxRecDepth 100000
set_option maxHeartbeats 1000000
def D0 : List hV := [vq none, vq none, vq none, vi 0, vq none, vi 0, vq none, vi 0, vq none, vi 0, vi 0, vi 0, vi 0, vi 0, vi 0, vi 0, vi 0, vi 0, vq none, vi 0, vq none, vq none, vq none, vq none, vq none, vq none, vi 0, vi 0, vq none, vq none, vq none, vq none, vq none, vi 0, vi 0, (.inr (.inr (.inr 0)))]
def D6 : List hV := [vi 0, vi 0, vq none, vq none, vi 0, vq none, vq none, vq none, vq none, vq none, vq none, vq none, vq none, vq none, vq none, vi 0, vq none, vq none, vq none, vi 0, vq none, vi 0, vi 0, vi 0, vi 0, vq none, vq none, vq none, vq none, vq none, vq none, vq none, vq none, vq none, vi 0, vq none, vq none, vq none, vq none, vq none, vq none, vq none, vq none, vq none, vq none, vi 0, vi 0, vq none, vq none, vq none, vi 0, vq none, (.inr (.inr (.inr 0))), vi 0, vi 0, vi 0, vq none, vq none, vq none, vq none, vq none, vq none, (.inr (.inr (.inr 0)))]
/-- both objects made: their cells, the heap -/
def fL_new (h : hS) : Option (Nat × Nat × hS) := bd (nwS h 0 D0) fun p => bd (fX0_init p.2 (some p.1)) fun h1 => bd (nwS h1 6 D6) fun q => bd (fX6_init q.2 (some q.1)) fun h2 => some (p.1, q.1, h2)
theorem wL_new {N : Nx} {h : hS} {z : Nat × Nat × hS} (hp : np N = []) (h4 : nL N = 4) (e : fL_new h = some z) (K : AtPc cL_law LN 8192 104096 N [] z.2.2 18 [(3, ti 0), (2, tr (some z.2.1)), (1, tr (some z.1)), (0, tr (some (xA (nG N))))] []) : AtPc cL_law LN 8192 104096 N [] h 0 [(0, tr (some (xA (nG N))))] [] := by
  unfold fL_new at e
  obtain ⟨p, q1, e⟩ := bd_o e
  obtain ⟨h1, q2, e⟩ := bd_o e
  obtain ⟨q, q3, e⟩ := bd_o e
  obtain ⟨h2, q4, e⟩ := bd_o e
  cases e
  refine r_newS D0 q1 rfl in_X0 tyX0_ok q144 q145 q115 (by decide +kernel) rfl (by decide +kernel) dL_law_0 ?_
  refine r_dup dL_law_3 rfl ?_
  have k0 := kX0_init (G := nG N) q2
  refine r_callI (j := none) 0 [] rfl rfl k0 (injO_0 hp) subO_0 getO_0 setO_0 q148 q115 q146 q147 (by decide +kernel) rfl (Nat.le_of_ble_eq_true rfl) (Nat.le_of_ble_eq_true rfl) rfl (Nat.le_of_ble_eq_true rfl) dL_law_4 rfl ?_
  refine r_astore_n (lv' := [(1, tr (some p.1)), (0, tr (some (xA (nG N))))]) dL_law_7 rfl (by rw [h4]; decide) rfl ?_
  refine r_newS D6 q3 rfl in_X6 tyX6_ok q1399 q1400 q123 (by decide +kernel) rfl (by decide +kernel) dL_law_8 ?_
  refine r_dup dL_law_11 rfl ?_
  have k1 := kX6_init (G := nG N) q4
  refine r_callI (j := none) 0 [] rfl rfl k1 (injO_0 hp) subO_0 getO_0 setO_0 q1403 q123 q1401 q1402 (by decide +kernel) rfl (Nat.le_of_ble_eq_true rfl) (Nat.le_of_ble_eq_true rfl) rfl (Nat.le_of_ble_eq_true rfl) dL_law_12 rfl ?_
  refine r_astore_n (lv' := [(2, tr (some q.1)), (1, tr (some p.1)), (0, tr (some (xA (nG N))))]) dL_law_15 rfl (by rw [h4]; decide) rfl ?_
  refine r_iconst dL_law_16 ?_
  exact r_istore_n dL_law_17 rfl (by rw [h4]; decide) rfl K
