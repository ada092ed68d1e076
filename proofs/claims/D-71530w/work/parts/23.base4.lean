/-! BASE 4: arithmetic, branches, switches -/
set_option maxRecDepth 100000
section RW
variable {N : Nx} {cc : ByteArray} {own : String} {fR lO : Nat} {σs : List Sg} {st : hS} {pc : Nat} {lv : List (Nat × Tv)} {stk : List Tv}
theorem r_ifo {α : Type} {c : Prop} [Decidable c] {a b : Option α} {r : α} (h : (if c then a else b) = some r) : (c → a = some r) ∧ (¬ c → b = some r) := by
  constructor
  · intro hc; rwa [if_pos hc] at h
  · intro hc; rwa [if_neg hc] at h
theorem r_ifno {β : Type} {x : Option Nat} {t : Option β} {f : Nat → Option β} {r : β} (h : ifN x t f = some r) : (x = none → t = some r) ∧ ∀ a, x = some a → f a = some r := by
  cases x with
  | none => exact ⟨fun _ => h, fun a e => (by cases e)⟩
  | some b => exact ⟨fun e => (by cases e), fun a e => (by cases e; exact h)⟩
theorem I_add (x y : Int) : I32 (wr (x + y)) = I32 x + I32 y := (I_wr _).trans (Int32.ofInt_add x y)
theorem I_sub (x y : Int) : I32 (wr (x - y)) = I32 x - I32 y := (I_wr _).trans (Int32.ofInt_sub x y)
theorem I_mul (x y : Int) : I32 (wr (x * y)) = I32 x * I32 y := (I_wr _).trans (Int32.ofInt_mul x y)
theorem L_add (x y : Int) : I64 (wl (x + y)) = I64 x + I64 y := (L_wl _).trans (Int64.ofInt_add x y)
theorem L_sub (x y : Int) : I64 (wl (x - y)) = I64 x - I64 y := (L_wl _).trans (Int64.ofInt_sub x y)
theorem L_mul (x y : Int) : I64 (wl (x * y)) = I64 x * I64 y := (L_wl _).trans (Int64.ofInt_mul x y)
theorem r_iadd {x y : Int} (hd : decode cc pc = .ok (.iadd, 1)) (h : AtPc cc own fR lO N σs st (pc + 1) lv (ti (wr (x + y)) :: stk)) : AtPc cc own fR lO N σs st pc lv (ti y :: ti x :: stk) := by
  refine r_liftS h fun K C H locs cells slots ls _ k => lv_iadd C.x C.b hd ?_
  have k : WK K H locs cells slots (mQ (mk K N)) (F0 (km K) (pc + 1) ls (.int (I32 (wr (x + y))) :: stk.map tv)) := k
  rwa [I_add] at k
theorem r_isub {x y : Int} (hd : decode cc pc = .ok (.isub, 1)) (h : AtPc cc own fR lO N σs st (pc + 1) lv (ti (wr (x - y)) :: stk)) : AtPc cc own fR lO N σs st pc lv (ti y :: ti x :: stk) := by
  refine r_liftS h fun K C H locs cells slots ls _ k => lv_isub C.x C.b hd ?_
  have k : WK K H locs cells slots (mQ (mk K N)) (F0 (km K) (pc + 1) ls (.int (I32 (wr (x - y))) :: stk.map tv)) := k
  rwa [I_sub] at k
theorem r_imul {x y : Int} (hd : decode cc pc = .ok (.imul, 1)) (h : AtPc cc own fR lO N σs st (pc + 1) lv (ti (wr (x * y)) :: stk)) : AtPc cc own fR lO N σs st pc lv (ti y :: ti x :: stk) := by
  refine r_liftS h fun K C H locs cells slots ls _ k => lv_imul C.x C.b hd ?_
  have k : WK K H locs cells slots (mQ (mk K N)) (F0 (km K) (pc + 1) ls (.int (I32 (wr (x * y))) :: stk.map tv)) := k
  rwa [I_mul] at k
theorem r_ladd {x y : Int} (hd : decode cc pc = .ok (.ladd, 1)) (h : AtPc cc own fR lO N σs st (pc + 1) lv (tl (wl (x + y)) :: stk)) : AtPc cc own fR lO N σs st pc lv (tl y :: tl x :: stk) := by
  refine r_liftS h fun K C H locs cells slots ls _ k => lv_ladd C.x C.b hd ?_
  have k : WK K H locs cells slots (mQ (mk K N)) (F0 (km K) (pc + 1) ls (.long (I64 (wl (x + y))) :: stk.map tv)) := k
  rwa [L_add] at k
theorem r_lsub {x y : Int} (hd : decode cc pc = .ok (.lsub, 1)) (h : AtPc cc own fR lO N σs st (pc + 1) lv (tl (wl (x - y)) :: stk)) : AtPc cc own fR lO N σs st pc lv (tl y :: tl x :: stk) := by
  refine r_liftS h fun K C H locs cells slots ls _ k => lv_lsub C.x C.b hd ?_
  have k : WK K H locs cells slots (mQ (mk K N)) (F0 (km K) (pc + 1) ls (.long (I64 (wl (x - y))) :: stk.map tv)) := k
  rwa [L_sub] at k
theorem r_lmul {x y : Int} (hd : decode cc pc = .ok (.lmul, 1)) (h : AtPc cc own fR lO N σs st (pc + 1) lv (tl (wl (x * y)) :: stk)) : AtPc cc own fR lO N σs st pc lv (tl y :: tl x :: stk) := by
  refine r_liftS h fun K C H locs cells slots ls _ k => lv_lmul C.x C.b hd ?_
  have k : WK K H locs cells slots (mQ (mk K N)) (F0 (km K) (pc + 1) ls (.long (I64 (wl (x * y))) :: stk.map tv)) := k
  rwa [L_mul] at k
theorem r_iand {x y : Int} (hd : decode cc pc = .ok (.iand, 1)) (h : AtPc cc own fR lO N σs st (pc + 1) lv (ti (iand x y) :: stk)) : AtPc cc own fR lO N σs st pc lv (ti y :: ti x :: stk) := by
  refine r_liftS h fun K C H locs cells slots ls _ k => lv_iand C.x C.b hd ?_
  have k : WK K H locs cells slots (mQ (mk K N)) (F0 (km K) (pc + 1) ls (.int (I32 (iand x y)) :: stk.map tv)) := k
  unfold iand at k
  rwa [I_of] at k
theorem r_ior {x y : Int} (hd : decode cc pc = .ok (.ior, 1)) (h : AtPc cc own fR lO N σs st (pc + 1) lv (ti (ior x y) :: stk)) : AtPc cc own fR lO N σs st pc lv (ti y :: ti x :: stk) := by
  refine r_liftS h fun K C H locs cells slots ls _ k => lv_ior C.x C.b hd ?_
  have k : WK K H locs cells slots (mQ (mk K N)) (F0 (km K) (pc + 1) ls (.int (I32 (ior x y)) :: stk.map tv)) := k
  unfold ior at k
  rwa [I_of] at k
theorem r_ixor {x y : Int} (hd : decode cc pc = .ok (.ixor, 1)) (h : AtPc cc own fR lO N σs st (pc + 1) lv (ti (ixor x y) :: stk)) : AtPc cc own fR lO N σs st pc lv (ti y :: ti x :: stk) := by
  refine r_liftS h fun K C H locs cells slots ls _ k => lv_ixor C.x C.b hd ?_
  have k : WK K H locs cells slots (mQ (mk K N)) (F0 (km K) (pc + 1) ls (.int (I32 (ixor x y)) :: stk.map tv)) := k
  unfold ixor at k
  rwa [I_of] at k
theorem r_ishl {x y : Int} (hd : decode cc pc = .ok (.ishl, 1)) (h : AtPc cc own fR lO N σs st (pc + 1) lv (ti (ishl x y) :: stk)) : AtPc cc own fR lO N σs st pc lv (ti y :: ti x :: stk) := by
  refine r_liftS h fun K C H locs cells slots ls _ k => lv_ishl C.x C.b hd ?_
  have k : WK K H locs cells slots (mQ (mk K N)) (F0 (km K) (pc + 1) ls (.int (I32 (ishl x y)) :: stk.map tv)) := k
  unfold ishl at k
  rwa [I_of] at k
theorem r_ishr {x y : Int} (hd : decode cc pc = .ok (.ishr, 1)) (h : AtPc cc own fR lO N σs st (pc + 1) lv (ti (ishr x y) :: stk)) : AtPc cc own fR lO N σs st pc lv (ti y :: ti x :: stk) := by
  refine r_liftS h fun K C H locs cells slots ls _ k => lv_ishr C.x C.b hd ?_
  have k : WK K H locs cells slots (mQ (mk K N)) (F0 (km K) (pc + 1) ls (.int (I32 (ishr x y)) :: stk.map tv)) := k
  unfold ishr at k
  rwa [I_of] at k
theorem r_land {x y : Int} (hd : decode cc pc = .ok (.land, 1)) (h : AtPc cc own fR lO N σs st (pc + 1) lv (tl (land x y) :: stk)) : AtPc cc own fR lO N σs st pc lv (tl y :: tl x :: stk) := by
  refine r_liftS h fun K C H locs cells slots ls _ k => lv_land C.x C.b hd ?_
  have k : WK K H locs cells slots (mQ (mk K N)) (F0 (km K) (pc + 1) ls (.long (I64 (land x y)) :: stk.map tv)) := k
  unfold land at k
  rwa [L_of] at k
theorem r_iushr {x y : Int} (hd : decode cc pc = .ok (.iushr, 1)) (h : AtPc cc own fR lO N σs st (pc + 1) lv (ti (iush x y) :: stk)) : AtPc cc own fR lO N σs st pc lv (ti y :: ti x :: stk) :=
  r_liftS h fun K C _ _ _ _ _ _ k => lv_iushr C.x C.b hd (I_of _).symm k
theorem r_idiv {x y : Int} (hy : rI y) (h0 : ¬ y = 0) (hd : decode cc pc = .ok (.idiv, 1)) (h : AtPc cc own fR lO N σs st (pc + 1) lv (ti (idv x y) :: stk)) : AtPc cc own fR lO N σs st pc lv (ti y :: ti x :: stk) := by
  refine r_liftS h fun K C H locs cells slots ls _ k => lv_idiv C.x C.b hd (fun e => h0 (I_0 hy |>.mp e)) ?_
  have k : WK K H locs cells slots (mQ (mk K N)) (F0 (km K) (pc + 1) ls (.int (I32 (idv x y)) :: stk.map tv)) := k
  unfold idv at k
  rwa [I_of] at k
theorem r_irem {x y : Int} (hy : rI y) (h0 : ¬ y = 0) (hd : decode cc pc = .ok (.irem, 1)) (h : AtPc cc own fR lO N σs st (pc + 1) lv (ti (irm x y) :: stk)) : AtPc cc own fR lO N σs st pc lv (ti y :: ti x :: stk) := by
  refine r_liftS h fun K C H locs cells slots ls _ k => lv_irem C.x C.b hd (fun e => h0 (I_0 hy |>.mp e)) ?_
  have k : WK K H locs cells slots (mQ (mk K N)) (F0 (km K) (pc + 1) ls (.int (I32 (irm x y)) :: stk.map tv)) := k
  unfold irm at k
  rwa [I_of] at k
theorem r_ldiv {x y : Int} (hy : rL y) (h0 : ¬ y = 0) (hd : decode cc pc = .ok (.ldiv, 1)) (h : AtPc cc own fR lO N σs st (pc + 1) lv (tl (ldv x y) :: stk)) : AtPc cc own fR lO N σs st pc lv (tl y :: tl x :: stk) := by
  refine r_liftS h fun K C H locs cells slots ls _ k => lv_ldiv C.x C.b hd (fun e => h0 (L_0 hy |>.mp e)) ?_
  have k : WK K H locs cells slots (mQ (mk K N)) (F0 (km K) (pc + 1) ls (.long (I64 (ldv x y)) :: stk.map tv)) := k
  unfold ldv at k
  rwa [L_of] at k
theorem r_lrem {x y : Int} (hy : rL y) (h0 : ¬ y = 0) (hd : decode cc pc = .ok (.lrem, 1)) (h : AtPc cc own fR lO N σs st (pc + 1) lv (tl (lrm x y) :: stk)) : AtPc cc own fR lO N σs st pc lv (tl y :: tl x :: stk) := by
  refine r_liftS h fun K C H locs cells slots ls _ k => lv_lrem C.x C.b hd (fun e => h0 (L_0 hy |>.mp e)) ?_
  have k : WK K H locs cells slots (mQ (mk K N)) (F0 (km K) (pc + 1) ls (.long (I64 (lrm x y)) :: stk.map tv)) := k
  unfold lrm at k
  rwa [L_of] at k
theorem r_i2l {x : Int} (hx : rI x) (hd : decode cc pc = .ok (.i2l, 1)) (h : AtPc cc own fR lO N σs st (pc + 1) lv (tl x :: stk)) : AtPc cc own fR lO N σs st pc lv (ti x :: stk) :=
  r_liftS h fun K C _ _ _ _ _ _ k => lv_i2l C.x C.b hd (Int32.toInt64_ofInt hx.1 (by have := hx.2; show x ≤ 2147483647; omega)) k
theorem r_l2i {x : Int} (hd : decode cc pc = .ok (.l2i, 1)) (h : AtPc cc own fR lO N σs st (pc + 1) lv (ti (wr x) :: stk)) : AtPc cc own fR lO N σs st pc lv (tl x :: stk) :=
  r_liftS h fun K C _ _ _ _ _ _ k => lv_l2i C.x C.b hd (by rw [I_wr]; exact Int64.toInt32_ofInt) k
theorem r_i2b {x : Int} (hd : decode cc pc = .ok (.i2b, 1)) (h : AtPc cc own fR lO N σs st (pc + 1) lv (ti (i2b x) :: stk)) : AtPc cc own fR lO N σs st pc lv (ti x :: stk) :=
  r_liftS h fun K C _ _ _ _ _ _ k => lv_i2b C.x C.b hd (I_of _).symm k
theorem lcm3_ok {x y : Int} (hx : rL x) (hy : rL y) : lg_cmp (I64 x) (I64 y) = I32 (lcm3 x y) := by
  unfold lg_cmp lcm3
  simp only [gt_iff_lt, Int64.lt_iff_toInt_lt, ← Int64.toInt_inj, toL hx, toL hy]
  rcases Int.lt_trichotomy x y with q | q | q
  · rw [if_neg (by omega), if_neg (by omega), if_pos q]; rfl
  · rw [if_neg (by omega), if_pos q, if_neg (by omega), if_pos q]; rfl
  · rw [if_pos q, if_neg (by omega), if_neg (by omega)]; rfl
theorem r_lcmp {x y : Int} (hx : rL x) (hy : rL y) (hd : decode cc pc = .ok (.lcmp, 1)) (h : AtPc cc own fR lO N σs st (pc + 1) lv (ti (lcm3 x y) :: stk)) : AtPc cc own fR lO N σs st pc lv (tl y :: tl x :: stk) := by
  refine r_liftS h fun K C H locs cells slots ls _ k => W.lcmp C.x C.b hd ?_
  have k : WK K H locs cells slots (mQ (mk K N)) (F0 (km K) (pc + 1) ls (.int (I32 (lcm3 x y)) :: stk.map tv)) := k
  rwa [← lcm3_ok hx hy] at k
/-- a branch: both ways -/
theorem r_br {tgt pc2 : Nat} {c : Prop} {stk' : List Tv} (kt : c → AtPc cc own fR lO N σs st tgt lv stk') (kf : ¬ c → AtPc cc own fR lO N σs st pc2 lv stk')
    (f : ∀ (K : Kx), Cx (mk K N) cc own fR lO → ∀ (H : Heap) (locs : List Loc) (cells slots : Nat) (ls : Array Slot), lv_has ls (nL N) (Lv lv) → (c → WK K H locs cells slots (mQ (mk K N)) (F0 (km K) tgt ls (stk'.map tv))) → (¬ c → WK K H locs cells slots (mQ (mk K N)) (F0 (km K) pc2 ls (stk'.map tv))) → WK K H locs cells slots (mQ (mk K N)) (F0 (km K) pc ls (stk.map tv))) : AtPc cc own fR lO N σs st pc lv stk := by
  intro rr
  refine ⟨?_, fun K C H locs cells slots ls s w => f K C H locs cells slots ls w (fun hc => (kt hc rr).2 K C H locs cells slots ls s w) (fun hc => (kf hc rr).2 K C H locs cells slots ls s w)⟩
  by_cases hc : c
  · exact (kt hc rr).1
  · exact (kf hc rr).1
theorem r_icmp_eq {x y : Int} (hx : rI x) (hy : rI y) {off : Int} (tgt : Nat) (hd : decode cc pc = .ok (.if_icmp .eq off, 3)) (ht : (pc : Int) + off = (tgt : Int)) (kt : x = y → AtPc cc own fR lO N σs st tgt lv stk) (kf : ¬ (x = y) → AtPc cc own fR lO N σs st (pc + 3) lv stk) : AtPc cc own fR lO N σs st pc lv (ti y :: ti x :: stk) := by
  refine r_br kt kf fun K C H locs cells slots ls w kt kf => ?_
  have E := I_eq hx hy
  exact lv_icmp_eq C.x C.b hd ht (fun c => kt (E.mp c)) (fun c => kf (fun d => c (E.mpr d)))
theorem r_icmp_ne {x y : Int} (hx : rI x) (hy : rI y) {off : Int} (tgt : Nat) (hd : decode cc pc = .ok (.if_icmp .ne off, 3)) (ht : (pc : Int) + off = (tgt : Int)) (kt : ¬ x = y → AtPc cc own fR lO N σs st tgt lv stk) (kf : ¬ (¬ x = y) → AtPc cc own fR lO N σs st (pc + 3) lv stk) : AtPc cc own fR lO N σs st pc lv (ti y :: ti x :: stk) := by
  refine r_br kt kf fun K C H locs cells slots ls w kt kf => ?_
  have E := I_eq hx hy
  exact lv_icmp_ne C.x C.b hd ht (fun c => kt (fun d => c (E.mpr d))) (fun c => kf (fun d => d (E.mp c)))
theorem r_icmp_lt {x y : Int} (hx : rI x) (hy : rI y) {off : Int} (tgt : Nat) (hd : decode cc pc = .ok (.if_icmp .lt off, 3)) (ht : (pc : Int) + off = (tgt : Int)) (kt : x < y → AtPc cc own fR lO N σs st tgt lv stk) (kf : ¬ (x < y) → AtPc cc own fR lO N σs st (pc + 3) lv stk) : AtPc cc own fR lO N σs st pc lv (ti y :: ti x :: stk) := by
  refine r_br kt kf fun K C H locs cells slots ls w kt kf => ?_
  have E := I_lt hx hy
  exact lv_icmp_lt C.x C.b hd ht (fun c => kt (E.mp c)) (fun c => kf (fun d => c (E.mpr d)))
theorem r_icmp_ge {x y : Int} (hx : rI x) (hy : rI y) {off : Int} (tgt : Nat) (hd : decode cc pc = .ok (.if_icmp .ge off, 3)) (ht : (pc : Int) + off = (tgt : Int)) (kt : y ≤ x → AtPc cc own fR lO N σs st tgt lv stk) (kf : ¬ (y ≤ x) → AtPc cc own fR lO N σs st (pc + 3) lv stk) : AtPc cc own fR lO N σs st pc lv (ti y :: ti x :: stk) := by
  refine r_br kt kf fun K C H locs cells slots ls w kt kf => ?_
  have E := I_le hy hx
  exact lv_icmp_ge C.x C.b hd ht (fun c => kt (E.mp c)) (fun c => kf (fun d => c (E.mpr d)))
theorem r_icmp_gt {x y : Int} (hx : rI x) (hy : rI y) {off : Int} (tgt : Nat) (hd : decode cc pc = .ok (.if_icmp .gt off, 3)) (ht : (pc : Int) + off = (tgt : Int)) (kt : y < x → AtPc cc own fR lO N σs st tgt lv stk) (kf : ¬ (y < x) → AtPc cc own fR lO N σs st (pc + 3) lv stk) : AtPc cc own fR lO N σs st pc lv (ti y :: ti x :: stk) := by
  refine r_br kt kf fun K C H locs cells slots ls w kt kf => ?_
  have E := I_lt hy hx
  exact lv_icmp_gt C.x C.b hd ht (fun c => kt (E.mp c)) (fun c => kf (fun d => c (E.mpr d)))
theorem r_icmp_le {x y : Int} (hx : rI x) (hy : rI y) {off : Int} (tgt : Nat) (hd : decode cc pc = .ok (.if_icmp .le off, 3)) (ht : (pc : Int) + off = (tgt : Int)) (kt : x ≤ y → AtPc cc own fR lO N σs st tgt lv stk) (kf : ¬ (x ≤ y) → AtPc cc own fR lO N σs st (pc + 3) lv stk) : AtPc cc own fR lO N σs st pc lv (ti y :: ti x :: stk) := by
  refine r_br kt kf fun K C H locs cells slots ls w kt kf => ?_
  have E := I_le hx hy
  exact lv_icmp_le C.x C.b hd ht (fun c => kt (E.mp c)) (fun c => kf (fun d => c (E.mpr d)))
theorem r_if_eq {x : Int} (hx : rI x) {off : Int} (tgt : Nat) (hd : decode cc pc = .ok (.ifCond .eq off, 3)) (ht : (pc : Int) + off = (tgt : Int)) (kt : x = 0 → AtPc cc own fR lO N σs st tgt lv stk) (kf : ¬ (x = 0) → AtPc cc own fR lO N σs st (pc + 3) lv stk) : AtPc cc own fR lO N σs st pc lv (ti x :: stk) := by
  refine r_br kt kf fun K C H locs cells slots ls w kt kf => ?_
  have E := I_eq (y := 0) hx (by decide)
  exact lv_if_eq C.x C.b hd ht (fun c => kt (E.mp c)) (fun c => kf (fun d => c (E.mpr d)))
theorem r_if_ne {x : Int} (hx : rI x) {off : Int} (tgt : Nat) (hd : decode cc pc = .ok (.ifCond .ne off, 3)) (ht : (pc : Int) + off = (tgt : Int)) (kt : ¬ x = 0 → AtPc cc own fR lO N σs st tgt lv stk) (kf : ¬ (¬ x = 0) → AtPc cc own fR lO N σs st (pc + 3) lv stk) : AtPc cc own fR lO N σs st pc lv (ti x :: stk) := by
  refine r_br kt kf fun K C H locs cells slots ls w kt kf => ?_
  have E := I_eq (y := 0) hx (by decide)
  exact lv_if_ne C.x C.b hd ht (fun c => kt (fun d => c (E.mpr d))) (fun c => kf (fun d => d (E.mp c)))
theorem r_if_lt {x : Int} (hx : rI x) {off : Int} (tgt : Nat) (hd : decode cc pc = .ok (.ifCond .lt off, 3)) (ht : (pc : Int) + off = (tgt : Int)) (kt : x < 0 → AtPc cc own fR lO N σs st tgt lv stk) (kf : ¬ (x < 0) → AtPc cc own fR lO N σs st (pc + 3) lv stk) : AtPc cc own fR lO N σs st pc lv (ti x :: stk) := by
  refine r_br kt kf fun K C H locs cells slots ls w kt kf => ?_
  have E := I_lt (y := 0) hx (by decide)
  exact lv_if_lt C.x C.b hd ht (fun c => kt (E.mp c)) (fun c => kf (fun d => c (E.mpr d)))
theorem r_if_ge {x : Int} (hx : rI x) {off : Int} (tgt : Nat) (hd : decode cc pc = .ok (.ifCond .ge off, 3)) (ht : (pc : Int) + off = (tgt : Int)) (kt : 0 ≤ x → AtPc cc own fR lO N σs st tgt lv stk) (kf : ¬ (0 ≤ x) → AtPc cc own fR lO N σs st (pc + 3) lv stk) : AtPc cc own fR lO N σs st pc lv (ti x :: stk) := by
  refine r_br kt kf fun K C H locs cells slots ls w kt kf => ?_
  have E := I_le (x := 0) (by decide) hx
  exact lv_if_ge C.x C.b hd ht (fun c => kt (E.mp c)) (fun c => kf (fun d => c (E.mpr d)))
theorem r_if_gt {x : Int} (hx : rI x) {off : Int} (tgt : Nat) (hd : decode cc pc = .ok (.ifCond .gt off, 3)) (ht : (pc : Int) + off = (tgt : Int)) (kt : 0 < x → AtPc cc own fR lO N σs st tgt lv stk) (kf : ¬ (0 < x) → AtPc cc own fR lO N σs st (pc + 3) lv stk) : AtPc cc own fR lO N σs st pc lv (ti x :: stk) := by
  refine r_br kt kf fun K C H locs cells slots ls w kt kf => ?_
  have E := I_lt (x := 0) (by decide) hx
  exact lv_if_gt C.x C.b hd ht (fun c => kt (E.mp c)) (fun c => kf (fun d => c (E.mpr d)))
theorem r_if_le {x : Int} (hx : rI x) {off : Int} (tgt : Nat) (hd : decode cc pc = .ok (.ifCond .le off, 3)) (ht : (pc : Int) + off = (tgt : Int)) (kt : x ≤ 0 → AtPc cc own fR lO N σs st tgt lv stk) (kf : ¬ (x ≤ 0) → AtPc cc own fR lO N σs st (pc + 3) lv stk) : AtPc cc own fR lO N σs st pc lv (ti x :: stk) := by
  refine r_br kt kf fun K C H locs cells slots ls w kt kf => ?_
  have E := I_le (y := 0) hx (by decide)
  exact lv_if_le C.x C.b hd ht (fun c => kt (E.mp c)) (fun c => kf (fun d => c (E.mpr d)))
theorem r_acmp_eq {x y : Option Nat} {off : Int} (tgt : Nat) (hd : decode cc pc = .ok (.if_acmp .eq off, 3)) (ht : (pc : Int) + off = (tgt : Int)) (kt : x = y → AtPc cc own fR lO N σs st tgt lv stk) (kf : ¬ x = y → AtPc cc own fR lO N σs st (pc + 3) lv stk) : AtPc cc own fR lO N σs st pc lv (tr y :: tr x :: stk) :=
  r_br kt kf fun K C _ _ _ _ _ _ kt kf => lv_acmp_eq C.x C.b hd ht kt kf
theorem r_acmp_ne {x y : Option Nat} {off : Int} (tgt : Nat) (hd : decode cc pc = .ok (.if_acmp .ne off, 3)) (ht : (pc : Int) + off = (tgt : Int)) (kt : ¬ x = y → AtPc cc own fR lO N σs st tgt lv stk) (kf : ¬ ¬ x = y → AtPc cc own fR lO N σs st (pc + 3) lv stk) : AtPc cc own fR lO N σs st pc lv (tr y :: tr x :: stk) :=
  r_br kt kf fun K C _ _ _ _ _ _ kt kf => lv_acmp_ne C.x C.b hd ht kt (fun e => kf (fun d => d e))
theorem r_ifnull {x : Option Nat} {off : Int} (tgt : Nat) (hd : decode cc pc = .ok (.ifnull off, 3)) (ht : (pc : Int) + off = (tgt : Int)) (kt : x = none → AtPc cc own fR lO N σs st tgt lv stk) (kf : ∀ a, x = some a → AtPc cc own fR lO N σs st (pc + 3) lv stk) : AtPc cc own fR lO N σs st pc lv (tr x :: stk) := by
  cases x with
  | none => exact r_liftS (kt rfl) fun K C _ _ _ _ _ _ k => lv_ifnullN C.x C.b hd ht k
  | some a => exact r_liftS (kf a rfl) fun K C _ _ _ _ _ _ k => lv_ifnull C.x C.b hd k
theorem r_ifnonnull {x : Option Nat} {off : Int} (tgt : Nat) (hd : decode cc pc = .ok (.ifnonnull off, 3)) (ht : (pc : Int) + off = (tgt : Int)) (kt : x = none → AtPc cc own fR lO N σs st (pc + 3) lv stk) (kf : ∀ a, x = some a → AtPc cc own fR lO N σs st tgt lv stk) : AtPc cc own fR lO N σs st pc lv (tr x :: stk) := by
  cases x with
  | none => exact r_liftS (kt rfl) fun K C _ _ _ _ _ _ k => lv_ifnonnullN C.x C.b hd k
  | some a => exact r_liftS (kf a rfl) fun K C _ _ _ _ _ _ k => lv_ifnonnull C.x C.b hd ht k
/-- a switch over a run of numbers: one of its places, or none -/
theorem r_tswI {x : Int} (hx : rI x) {dflt lo hi : Int} {offs : Array Int} {len : Nat} (hd : decode cc pc = .ok (.tableswitch dflt lo hi offs, len)) (v : Int) (e : x = v) {off : Int} (tgt : Nat) (h1 : lo ≤ v) (h2 : v ≤ hi) (ho : offs[(v - lo).toNat]? = some off) (ht : (pc : Int) + off = (tgt : Int)) (h : AtPc cc own fR lO N σs st tgt lv stk) : AtPc cc own fR lO N σs st pc lv (ti x :: stk) := by
  subst e
  refine r_liftS h fun K C _ _ _ _ _ _ k => lv_tableIn C.x C.b hd ?_ ?_ ?_ ht k
  · rw [toI hx]; omega
  · rw [toI hx]; omega
  · rw [toI hx]; exact ho
theorem r_tswO {x : Int} (hx : rI x) {dflt lo hi : Int} {offs : Array Int} {len : Nat} (hd : decode cc pc = .ok (.tableswitch dflt lo hi offs, len)) (tgt : Nat) (e : x < lo ∨ hi < x) (ht : (pc : Int) + dflt = (tgt : Int)) (h : AtPc cc own fR lO N σs st tgt lv stk) : AtPc cc own fR lO N σs st pc lv (ti x :: stk) := by
  refine r_liftS h fun K C _ _ _ _ _ _ k => lv_tableOut C.x C.b hd ?_ ht k
  rw [toI hx]; exact e
theorem r_lsw {x : Int} (hx : rI x) {dflt : Int} {ps : Array (Int × Int)} {len : Nat} (hd : decode cc pc = .ok (.lookupswitch dflt ps, len)) (hp : (ps.toList.zip (ps.toList.drop 1)).all (fun (a, next) => a.1 < next.1) = true) {off : Int} (tgt : Nat) (ho : Op.lookupswitch.offset ps.toList dflt x = off) (ht : (pc : Int) + off = (tgt : Int)) (h : AtPc cc own fR lO N σs st tgt lv stk) : AtPc cc own fR lO N σs st pc lv (ti x :: stk) := by
  refine r_liftS h fun K C _ _ _ _ _ _ k => lv_lookup C.x C.b hd hp ?_ ht k
  rw [toI hx]; exact ho
theorem lsw_ne {x k o d : Int} {r : List (Int × Int)} (h : ¬ x = k) : Op.lookupswitch.offset ((k, o) :: r) d x = Op.lookupswitch.offset r d x := by
  show (if k = x then o else Op.lookupswitch.offset r d x) = _
  rw [if_neg (fun e => h e.symm)]
end RW
