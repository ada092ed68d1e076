/-! the pure laws: X25 X26 X27 X28 -/
set_option maxRecDepth 100000
/-! PURE: class DictProof: the digest -/
theorem itN_add (G : Nat → Int → Int) (a : Nat) : ∀ (b : Nat) (h : Int), itN G (a + b) h = itN (fun i => G (a + i)) b (itN G a h) := by
  intro b
  induction b with
  | zero => intro h; rfl
  | succ b ih => intro h; show G (a + b) (itN G (a + b) h) = G (a + b) (itN (fun i => G (a + i)) b (itN G a h)); rw [ih]
theorem itN_ext {G G' : Nat → Int → Int} : ∀ (n : Nat) (h : Int), (∀ i, i < n → ∀ x, G i x = G' i x) → itN G n h = itN G' n h := by
  intro n
  induction n with
  | zero => intro h _; rfl
  | succ n ih => intro h e; show G n (itN G n h) = G' n (itN G' n h); rw [ih h (fun i hi => e i (by omega)), e n (by omega)]
def gSl (A : As) (q : Nat) (h : Int) : Int := match asS A (q / asN A) with
  | none => h
  | some t => dgT2 A t (q % asN A) h
theorem itN_id : ∀ (n : Nat) (h : Int), itN (fun _ x => x) n h = h := by
  intro n
  induction n with
  | zero => intro h; rfl
  | succ n ih => intro h; exact ih h
theorem dgS_lin (A : As) (h : Int) : itN (gSl A) (4 * asN A) h = dgS A h := by
  have key : ∀ k, itN (gSl A) (k * asN A) h = itN (fun k h => match asS A k with
      | none => h
      | some t => dgT A t h) k h := by
    intro k
    induction k with
    | zero => rw [Nat.zero_mul]; rfl
    | succ k ih =>
      rw [Nat.succ_mul, itN_add, ih]
      show itN (fun i => gSl A (k * asN A + i)) (asN A) _ = (match asS A k with
        | none => _
        | some t => dgT A t _)
      have e : ∀ i, i < asN A → ∀ x, gSl A (k * asN A + i) x = match asS A k with
          | none => x
          | some t => dgT2 A t i x := by
        intro i hi x
        unfold gSl
        have n0 : 0 < asN A := by omega
        rw [show (k * asN A + i) / asN A = k by rw [Nat.mul_comm, Nat.mul_add_div n0, Nat.div_eq_of_lt hi, Nat.add_zero], show (k * asN A + i) % asN A = i by rw [Nat.mul_comm, Nat.mul_add_mod, Nat.mod_eq_of_lt hi]]
      rw [itN_ext _ _ e]
      cases asS A k with
      | none => exact itN_id _ _
      | some t => rfl
  exact key 4
section DG
variable {gs : Option Nat × Option Nat} {ca : Nat → Nat} {A : As} {U : Tm → Prop} {mp : Nat} {w0 : Wd}
/-- the digest so far -/
def Dg (gs : Option Nat × Option Nat) (ca : Nat → Nat) (A : As) (U : Tm → Prop) (mp : Nat) (w0 : Wd) (c : Nat) (v : Int) (x : Sg × Wd) : Prop := R0 x.1 (wk x.2) gs ca A ∧ gI x.1 35 = v ∧ okW (asI A) U mp x.2 ∧ stW w0 x.2 c
theorem Dg.note {c c' : Nat} {v : Int} {s : Sg} {w w' : Wd} (D : Dg gs ca A U mp w0 c v (s, w)) (o : okW (asI A) U mp w') (st : stW w w' c') (z : Int) : ∃ s', fX0_note s z = some s' ∧ Dg gs ca A U mp w0 (c + c') (mx v z) (s', w') := by
  obtain ⟨r, e, o0, s0⟩ := D
  have r : R0 s (wk w) gs ca A := r
  have e : gI s 35 = v := e
  refine ⟨_, rfl, (r.mono st.1).keep (keepI [35] s (by decide) _) (by decide), ?_, o, s0.trans st (by omega)⟩
  rw [gI_sI, if_pos rfl, e]
  rfl
theorem dg_about {s : Sg} {w : Wd} {c v} (D : Dg gs ca A U mp w0 c v (s, w)) : ∃ x', Dg gs ca A U mp w0 c (dgA A v) x' ∧ fX0_digest_L9 FU gs (some mp) s (wh w) 0 = fX0_digest_L49 FU gs (some mp) x'.1 (wh x'.2) 0 := by
  have hn := D.1.1.2.1
  have inn : ∀ (K9 : Option Nat × Option Nat → Option Nat → Sg → hS → Int → Option (Int × Sg × hS)) (cl : Nat), cl < asN A → ∀ (u : Int) (x : Sg × Wd), Dg gs ca A U mp w0 c u x → ∃ x', Dg gs ca A U mp w0 c (itN (fun w h => mx h (aboutV A (cl : Int) (w : Int))) 3 u) x' ∧ fX0_digest_L19 K9 FU gs (some mp) x.1 (wh x.2) (cl : Int) 0 = K9 gs (some mp) x'.1 (wh x'.2) ((cl : Int) + 1) := by
    intro K9 cl hcl u x Dx
    obtain ⟨x', i', e'⟩ := loopN (fun f k (x : Sg × Wd) => fX0_digest_L19 K9 f gs (some mp) x.1 (wh x.2) (cl : Int) (k : Int)) 3 (fun k x => Dg gs ca A U mp w0 c (itN (fun w h => mx h (aboutV A (cl : Int) (w : Int))) k u) x) (fun x => K9 gs (some mp) x.1 (wh x.2) ((cl : Int) + 1)) (fun f k x hk hx => by
      obtain ⟨s, w⟩ := x
      obtain ⟨s', e, D'⟩ := hx.note hx.2.2.1 (stW.refl w) (aboutV A (cl : Int) (k : Int))
      refine ⟨(s', w), D', ?_⟩
      show fX0_digest_L19 K9 (f + 1) gs (some mp) s (wh w) (cl : Int) (k : Int) = fX0_digest_L19 K9 f gs (some mp) s' (wh w) (cl : Int) ((k + 1 : Nat) : Int)
      rw [fX0_digest_L19_s]
      unfold fX0_digest_b19
      rw [if_neg (by omega), p0_about hx.2.2.1.1.ext hx.1, bd_s]
      unfold sp_about
      rw [if_pos (show isCl A (cl : Int) from ⟨by omega, by omega⟩), if_pos (by omega), e, bd_s, wr_id (by omega) (by omega)]
      rfl) (fun f x hx => by
      show fX0_digest_L19 K9 (f + 1) gs (some mp) x.1 (wh x.2) (cl : Int) 3 = _
      rw [fX0_digest_L19_s]
      unfold fX0_digest_b19
      rw [if_pos (by decide), wr_id (by omega) (by omega)]) FU 0 x (by unfold FU; omega) (by omega) Dx
    exact ⟨x', i', e'⟩
  obtain ⟨x', i', e'⟩ := loopN (fun f k (x : Sg × Wd) => fX0_digest_L9 f gs (some mp) x.1 (wh x.2) (k : Int)) (asN A) (fun k x => Dg gs ca A U mp w0 c (itN (fun c h => itN (fun w h => mx h (aboutV A c w)) 3 h) k v) x) (fun x => fX0_digest_L49 FU gs (some mp) x.1 (wh x.2) 0) (fun f k x hk hx => by
    obtain ⟨x', i', e'⟩ := inn (fX0_digest_L9 f) k hk _ x hx
    refine ⟨x', i', ?_⟩
    show fX0_digest_L9 (f + 1) gs (some mp) x.1 (wh x.2) (k : Int) = fX0_digest_L9 f gs (some mp) x'.1 (wh x'.2) ((k + 1 : Nat) : Int)
    rw [fX0_digest_L9_s]
    unfold fX0_digest_b9
    rw [if_neg (by rw [hx.1.1.1]; omega), e']
    rfl) (fun f x hx => by
    show fX0_digest_L9 (f + 1) gs (some mp) x.1 (wh x.2) (asN A : Int) = _
    rw [fX0_digest_L9_s]
    unfold fX0_digest_b9
    rw [if_pos (by rw [hx.1.1.1]; omega)]) FU 0 (s, w) (by unfold FU; omega) (by omega) D
  exact ⟨x', i', e'⟩
theorem dg_inst (hA : okA A) (hU : UOK U) (hB : UBd U) (hU5 : ∀ t, okT t → szT t ≤ 5 → U t) {s : Sg} {w : Wd} {c v} (D : Dg gs ca A U mp w0 c v (s, w)) : ∃ x', Dg gs ca A U mp w0 (c + 192) (dgI A v) x' ∧ fX0_digest_L49 FU gs (some mp) s (wh w) 0 = fX0_digest_L95 FU gs (some mp) x'.1 (wh x'.2) 0 := by
  have h6 := D.1.2.1.2.1
  have inn : ∀ (K49 : Option Nat × Option Nat → Option Nat → Sg → hS → Int → Option (Int × Sg × hS)) (i : Nat), i < (asI A).length → ∀ (c : Nat) (u : Int) (x : Sg × Wd), Dg gs ca A U mp w0 c u x → ∃ x', Dg gs ca A U mp w0 (c + 32) (itN (fun w h => mx h (instV A i (w : Int))) 8 u) x' ∧ fX0_digest_L59 K49 FU gs (some mp) x.1 (wh x.2) (i : Int) 0 = K49 gs (some mp) x'.1 (wh x'.2) ((i : Int) + 1) := by
    intro K49 i hi c u x Dx
    obtain ⟨x', ⟨i1, i2, i3, i4⟩, e'⟩ := loopN (fun f k (x : Sg × Wd) => fX0_digest_L59 K49 f gs (some mp) x.1 (wh x.2) (i : Int) (k : Int)) 8 (fun k x => Dg gs ca A U mp w0 (c + k * 4) (itN (fun w h => mx h (instV A i (w : Int))) k u) x) (fun x => K49 gs (some mp) x.1 (wh x.2) ((i : Int) + 1)) (fun f k x hk hx => by
      obtain ⟨s, w⟩ := x
      obtain ⟨ok, a, ea, -⟩ := hx.1.2.1.2.2 i hi
      obtain ⟨w', e, o', st⟩ := W_tellInstance hA hU hB hU5 hx.2.2.1 hx.1 hi ea (x := (k : Int)) (by omega)
      obtain ⟨s', e2, D'⟩ := hx.note o' st (instV A i (k : Int))
      have D2 : Dg gs ca A U mp w0 (c + (k + 1) * 4) (itN (fun w h => mx h (instV A i (w : Int))) (k + 1) u) (s', w') := by
        obtain ⟨q1, q2, q3, q4⟩ := D'
        exact ⟨q1, q2, q3, q4.mono (by omega)⟩
      refine ⟨(s', w'), D2, ?_⟩
      show fX0_digest_L59 K49 (f + 1) gs (some mp) s (wh w) (i : Int) (k : Int) = fX0_digest_L59 K49 f gs (some mp) s' (wh w') (i : Int) ((k + 1 : Nat) : Int)
      have ea : gQ s 4 (i : Int) = some a := ea
      have e : fX0_tellInstance (some mp) s (wh w) (some a) (k : Int) = some (instV A i (k : Int), wh w') := e
      rw [fX0_digest_L59_s]
      unfold fX0_digest_b59
      rw [if_neg (by omega), gd_t (by omega), ea, e, bd_s]
      dsimp only
      rw [e2, bd_s, wr_id (by omega) (by omega)]
      rfl) (fun f x hx => by
      show fX0_digest_L59 K49 (f + 1) gs (some mp) x.1 (wh x.2) (i : Int) 8 = _
      rw [fX0_digest_L59_s]
      unfold fX0_digest_b59
      rw [if_pos (by decide), wr_id (by omega) (by omega)]) FU 0 x (by unfold FU; omega) (by omega) (by
        obtain ⟨q1, q2, q3, q4⟩ := Dx
        exact ⟨q1, q2, q3, q4.mono (by omega)⟩)
    exact ⟨x', ⟨i1, i2, i3, i4.mono (by omega)⟩, e'⟩
  obtain ⟨x', ⟨i1, i2, i3, i4⟩, e'⟩ := loopN (fun f k (x : Sg × Wd) => fX0_digest_L49 f gs (some mp) x.1 (wh x.2) (k : Int)) (asI A).length (fun k x => Dg gs ca A U mp w0 (c + k * 32) (itN (fun i h => itN (fun w h => mx h (instV A i w)) 8 h) k v) x) (fun x => fX0_digest_L95 FU gs (some mp) x.1 (wh x.2) 0) (fun f k x hk hx => by
    obtain ⟨x', ⟨j1, j2, j3, j4⟩, e'⟩ := inn (fX0_digest_L49 f) k hk _ _ x hx
    have D2 : Dg gs ca A U mp w0 (c + (k + 1) * 32) (itN (fun i h => itN (fun w h => mx h (instV A i w)) 8 h) (k + 1) v) x' := ⟨j1, by rw [itN_s]; exact j2, j3, j4.mono (by omega)⟩
    refine ⟨x', D2, ?_⟩
    show fX0_digest_L49 (f + 1) gs (some mp) x.1 (wh x.2) (k : Int) = fX0_digest_L49 f gs (some mp) x'.1 (wh x'.2) ((k + 1 : Nat) : Int)
    rw [fX0_digest_L49_s]
    unfold fX0_digest_b49
    have h5 : gI x.1 5 = ((asI A).length : Int) := hx.1.2.1.1
    rw [if_neg (by rw [h5]; omega), e']
    rfl) (fun f x hx => by
    show fX0_digest_L49 (f + 1) gs (some mp) x.1 (wh x.2) ((asI A).length : Int) = _
    have h5 : gI x.1 5 = ((asI A).length : Int) := hx.1.2.1.1
    rw [fX0_digest_L49_s]
    unfold fX0_digest_b49
    rw [if_pos (by rw [h5]; omega)]) FU 0 (s, w) (by unfold FU; omega) (by omega) (by
      obtain ⟨q1, q2, q3, q4⟩ := D
      exact ⟨q1, q2, q3, q4.mono (by omega)⟩)
  exact ⟨x', ⟨i1, i2, i3, i4.mono (by omega)⟩, e'⟩
def cst3 (k : Nat) : Nat := if k ≤ 3 then k else k + 404
theorem dg_slot (hU : UOK U) (hB : UBd U) (hSl : Usl U (asS A)) {s : Sg} {w : Wd} {c v} (D : Dg gs ca A U mp w0 c v (s, w)) : ∃ x', Dg gs ca A U mp w0 (c + 6576) (dgS A v) x' ∧ fX0_digest_L95 FU gs (some mp) s (wh w) 0 = fX0_digest_L163 FU gs (some mp) x'.1 (wh x'.2) 0 := by
  have hn := D.1.1.2.1
  have inn : ∀ (K95 : Option Nat × Option Nat → Option Nat → Sg → hS → Int → Option (Int × Sg × hS)) (q : Nat), q < 4 * asN A → ∀ (c : Nat) (u : Int) (x : Sg × Wd), Dg gs ca A U mp w0 c u x → ∃ x', Dg gs ca A U mp w0 (c + 411) (gSl A q u) x' ∧ fX0_digest_L107 K95 FU gs (some mp) x.1 (wh x.2) (q : Int) 0 = K95 gs (some mp) x'.1 (wh x'.2) ((q : Int) + 1) := by
    intro K95 q hq c u x Dx
    have n0 : 0 < asN A := by omega
    have hd : idv (q : Int) (asN A : Int) = ((q / asN A : Nat) : Int) := by rw [p_idv (by omega) (by omega) (by omega) (by omega)]; rfl
    have hm : irm (q : Int) (asN A : Int) = ((q % asN A : Nat) : Int) := by rw [p_irm (by omega) (by omega) (by omega) (by omega)]; rfl
    have q4 : q / asN A < 4 := (Nat.div_lt_iff_lt_mul n0).mpr hq
    have qn : q % asN A < asN A := Nat.mod_lt _ n0
    cases es : asS A (q / asN A) with
    | none =>
      obtain ⟨s, w⟩ := x
      have Ls := Dx.1.2.2.2.2.1 (q / asN A) q4
      rw [es] at Ls
      have Ls : gQ s 6 ((q / asN A : Nat) : Int) = none := Ls
      have h3 : gI s 3 = (asN A : Int) := Dx.1.1.1
      refine ⟨(s, w), ?_, ?_⟩
      · unfold gSl; rw [es]
        obtain ⟨q1, q2, q3, q4⟩ := Dx
        exact ⟨q1, q2, q3, q4.mono (by omega)⟩
      · obtain ⟨m, hm3⟩ := FU_3
        rw [hm3, fX0_digest_L107_s]
        unfold fX0_digest_b107 fX0_digest_b155
        rw [if_neg (by decide)]
        dsimp only
        rw [h3, gd_t (by omega), hd, gd_t ⟨Int.natCast_nonneg _, by exact_mod_cast q4⟩, Ls]
        simp only [ifN]
        rw [wr_id (by omega) (by omega)]
    | some t =>
      obtain ⟨x', i', e'⟩ := loopN (fun f k (x : Sg × Wd) => fX0_digest_L107 K95 f gs (some mp) x.1 (wh x.2) (q : Int) (k : Int)) 7 (fun k x => Dg gs ca A U mp w0 (c + cst3 k) (itN (dgT1 A t (q % asN A)) k u) x) (fun x => K95 gs (some mp) x.1 (wh x.2) ((q : Int) + 1)) (fun f k x hk hx => by
        obtain ⟨s, w⟩ := x
        have Ls := hx.1.2.2.2.2.1 (q / asN A) q4
        rw [es] at Ls
        obtain ⟨a, ea, Ta⟩ := Ls
        have ea : gQ s 6 ((q / asN A : Nat) : Int) = some a := ea
        have h3 : gI s 3 = (asN A : Int) := hx.1.1.1
        obtain ⟨w', e, o', st⟩ := W_tellGoal gs hU hB hx.1.1 hx.1.2.2.1 hx.2.2.1 hx.1.2.1 q4 ea Ta (hSl _ q4 t es) (c := ((q % asN A : Nat) : Int)) (by omega) (x := (k : Int)) (by omega)
        obtain ⟨s', e2, D'⟩ := hx.note o' st (gVal (asN A) (asA A) (res (asI A) ((q % asN A : Nat) : Int) t) (k : Int))
        have D2 : Dg gs ca A U mp w0 (c + cst3 (k + 1)) (itN (dgT1 A t (q % asN A)) (k + 1) u) (s', w') := by
          obtain ⟨q1, q2, q3, q4⟩ := D'
          refine ⟨q1, q2, q3, q4.mono ?_⟩
          unfold cst3
          split <;> split <;> split <;> omega
        refine ⟨(s', w'), D2, ?_⟩
        show fX0_digest_L107 K95 (f + 1) gs (some mp) s (wh w) (q : Int) (k : Int) = fX0_digest_L107 K95 f gs (some mp) s' (wh w') (q : Int) ((k + 1 : Nat) : Int)
        have e : fX0_tellGoal gs (some mp) s (wh w) ((q % asN A : Nat) : Int) ((q / asN A : Nat) : Int) (k : Int) = some (gVal (asN A) (asA A) (res (asI A) ((q % asN A : Nat) : Int) t) (k : Int), wh w') := e
        rw [fX0_digest_L107_s]
        unfold fX0_digest_b107
        rw [if_neg (by omega), h3, gd_t (by omega), hd, gd_t ⟨Int.natCast_nonneg _, by exact_mod_cast q4⟩, ea]
        simp only [ifN]
        rw [gd_t (show ¬ (asN A : Int) = 0 by omega), gd_t (show ¬ (asN A : Int) = 0 by omega), hm, e, bd_s]
        dsimp only
        rw [e2, bd_s, wr_id (by omega) (by omega)]
        rfl) (fun f x hx => by
        show fX0_digest_L107 K95 (f + 1) gs (some mp) x.1 (wh x.2) (q : Int) 7 = _
        rw [fX0_digest_L107_s]
        unfold fX0_digest_b107 fX0_digest_b155
        rw [if_pos (by decide), wr_id (by omega) (by omega)]) FU 0 x (by unfold FU; omega) (by omega) Dx
      refine ⟨x', ?_, e'⟩
      unfold gSl; rw [es]
      exact i'
  obtain ⟨x', i', e'⟩ := loopN (fun f k (x : Sg × Wd) => fX0_digest_L95 f gs (some mp) x.1 (wh x.2) (k : Int)) (4 * asN A) (fun k x => Dg gs ca A U mp w0 (c + 411 * k) (itN (gSl A) k v) x) (fun x => fX0_digest_L163 FU gs (some mp) x.1 (wh x.2) 0) (fun f k x hk hx => by
    obtain ⟨x', i', e'⟩ := inn (fX0_digest_L95 f) k hk _ _ x hx
    refine ⟨x', i', ?_⟩
    show fX0_digest_L95 (f + 1) gs (some mp) x.1 (wh x.2) (k : Int) = fX0_digest_L95 f gs (some mp) x'.1 (wh x'.2) ((k + 1 : Nat) : Int)
    rw [fX0_digest_L95_s]
    unfold fX0_digest_b95
    rw [if_neg (by rw [hx.1.1.1, wr_id (by omega) (by omega)]; omega), e']
    rfl) (fun f x hx => by
    show fX0_digest_L95 (f + 1) gs (some mp) x.1 (wh x.2) ((4 * asN A : Nat) : Int) = _
    rw [fX0_digest_L95_s]
    unfold fX0_digest_b95
    rw [if_pos (by rw [hx.1.1.1, wr_id (by omega) (by omega)]; omega)]) FU 0 (s, w) (by unfold FU; omega) (by omega) D
  obtain ⟨q1, q2, q3, q4⟩ := i'
  exact ⟨x', ⟨q1, by rw [q2, dgS_lin], q3, q4.mono (by omega)⟩, e'⟩
theorem dg_page (hA : okA A) {s : Sg} {w : Wd} {c v} (D : Dg gs ca A U mp w0 c v (s, w)) : ∃ x', Dg gs ca A U mp w0 c (dgP A v) x' ∧ fX0_digest_L163 FU gs (some mp) s (wh w) 0 = fX0_digest_L190 FU gs (some mp) x'.1 (wh x'.2) 0 := by
  have h84 := hA.1.1
  obtain ⟨x', i', e'⟩ := loopN (fun f k (x : Sg × Wd) => fX0_digest_L163 f gs (some mp) x.1 (wh x.2) (k : Int)) (asP A).length (fun k x => Dg gs ca A U mp w0 c (itN (fun k h => mx h ((asP A).getD k 0)) k v) x) (fun x => fX0_digest_L190 FU gs (some mp) x.1 (wh x.2) 0) (fun f k x hk hx => by
    obtain ⟨s, w⟩ := x
    obtain ⟨s', e, D'⟩ := hx.note hx.2.2.1 (stW.refl w) ((asP A).getD k 0)
    refine ⟨(s', w), D', ?_⟩
    show fX0_digest_L163 (f + 1) gs (some mp) s (wh w) (k : Int) = fX0_digest_L163 f gs (some mp) s' (wh w) ((k + 1 : Nat) : Int)
    obtain ⟨h9, h8⟩ := hx.1.2.2.2.2.2.2.1
    have h9 : gI s 9 = ((asP A).length : Int) := h9
    obtain ⟨z, hz⟩ := ltL hk
    have h8 : gA s 8 (k : Int) = z := h8 k z hz
    have : (asP A).getD k 0 = z := by rw [List.getD_eq_getElem?_getD, hz]; rfl
    rw [this] at e
    rw [fX0_digest_L163_s]
    unfold fX0_digest_b163
    rw [if_neg (by rw [h9]; omega), gd_t (by omega), h8, e, bd_s, wr_id (by omega) (by omega)]
    rfl) (fun f x hx => by
    show fX0_digest_L163 (f + 1) gs (some mp) x.1 (wh x.2) ((asP A).length : Int) = _
    rw [fX0_digest_L163_s]
    unfold fX0_digest_b163
    rw [if_pos (by rw [hx.1.2.2.2.2.2.2.1.1]; omega)]) FU 0 (s, w) (by unfold FU; omega) (by omega) D
  exact ⟨x', i', e'⟩
theorem dg_cnt (hU : UOK U) (hB : UBd U) (hU5 : ∀ t, okT t → szT t ≤ 5 → U t) (hSl : Usl U (asS A)) {s : Sg} {w : Wd} {c v} (D : Dg gs ca A U mp w0 c v (s, w)) : ∃ x', Dg gs ca A U mp w0 (c + 3080) (dgC A v) x' ∧ fX0_digest_L190 FU gs (some mp) s (wh w) 0 = some (gI x'.1 35, x'.1, wh x'.2) := by
  obtain ⟨x', i', e'⟩ := loopN (fun f k (x : Sg × Wd) => fX0_digest_L190 f gs (some mp) x.1 (wh x.2) (k : Int)) 11 (fun k x => Dg gs ca A U mp w0 (c + 280 * k) (itN (fun w h => mx h (countV A w)) k v) x) (fun x => some (gI x.1 35, x.1, wh x.2)) (fun f k x hk hx => by
    obtain ⟨s, w⟩ := x
    obtain ⟨w', e, o', st⟩ := W_count hU hB hU5 hSl hx.2.2.1 hx.1 (k : Int)
    obtain ⟨s', e2, D'⟩ := hx.note o' st (countV A (k : Int))
    refine ⟨(s', w'), D', ?_⟩
    show fX0_digest_L190 (f + 1) gs (some mp) s (wh w) (k : Int) = fX0_digest_L190 f gs (some mp) s' (wh w') ((k + 1 : Nat) : Int)
    have e : fX0_count gs (some mp) s (wh w) (k : Int) = some (countV A (k : Int), wh w') := e
    rw [fX0_digest_L190_s]
    unfold fX0_digest_b190
    rw [if_neg (by omega), e, bd_s]
    dsimp only
    rw [e2, bd_s, wr_id (by omega) (by omega)]
    rfl) (fun f x hx => by
    show fX0_digest_L190 (f + 1) gs (some mp) x.1 (wh x.2) 11 = _
    rw [fX0_digest_L190_s]
    unfold fX0_digest_b190
    rw [if_pos (by decide)]) FU 0 (s, w) (by unfold FU; omega) (by omega) D
  exact ⟨x', i', e'⟩
end DG
theorem W_digest {s : Sg} {gs : Option Nat × Option Nat} {ca : Nat → Nat} {A : As} {U : Tm → Prop} {mp : Nat} {w : Wd} (hA : okA A) (hU : UOK U) (hB : UBd U) (hU5 : ∀ t, okT t → szT t ≤ 5 → U t) (hSl : Usl U (asS A)) (h : okW (asI A) U mp w) (r : R0 s (wk w) gs ca A) :
    ∃ s' w', fX0_digest gs (some mp) s (wh w) = some (sp_digest A, s', wh w') ∧ R0 s' (wk w') gs ca A ∧ okW (asI A) U mp w' ∧ stW w w' 9848 := by
  have D0 : Dg gs ca A U mp w 0 1367 (sI s 35 1367, w) := ⟨r.keep (keepI [35] s (by decide) _) (by decide), rfl, h, stW.refl w⟩
  obtain ⟨x1, D1, e1⟩ := dg_about D0
  obtain ⟨x2, D2, e2⟩ := dg_inst hA hU hB hU5 (s := x1.1) (w := x1.2) D1
  obtain ⟨x3, D3, e3⟩ := dg_slot hU hB hSl (s := x2.1) (w := x2.2) D2
  obtain ⟨x4, D4, e4⟩ := dg_page hA (s := x3.1) (w := x3.2) D3
  obtain ⟨x5, D5, e5⟩ := dg_cnt hU hB hU5 hSl (s := x4.1) (w := x4.2) D4
  obtain ⟨q1, q2, q3, q4⟩ := D5
  refine ⟨x5.1, x5.2, ?_, q1, q3, q4.mono (by omega)⟩
  unfold fX0_digest
  have e1 : fX0_digest_L9 FU gs (some mp) (sI s 35 1367) (wh w) 0 = _ := e1
  rw [e1, e2, e3, e4, e5, q2]
  rfl

set_option maxRecDepth 100000
/-! PURE: class DictProof: an instance is made, takes another's place -/
theorem lk5 {c j : Nat} (hc : c = 1 ∨ c = 2 ∨ c = 3 ∨ c = 4 ∨ c = 5) : List.lookup c [(1, j), (2, j), (3, j), (4, j), (5, j)] = some j := by
  rcases hc with rfl | rfl | rfl | rfl | rfl <;> rfl
/-- a new instance and its two rows -/
def newI (h h' : hS) (c : Nat) : Prop := h'.1 h.2.1 = some (.inl (c, [vi 0, vi 0, vq none, vq (some (h.2.1 + 1)), vq (some (h.2.1 + 2)), vi 0])) ∧ h'.1 (h.2.1 + 1) = some (.inr (0, 2, .inl fun _ => 0)) ∧ h'.1 (h.2.1 + 2) = some (.inr (0, 2, .inl fun _ => 0)) ∧ (∀ b, b < h.2.1 → h'.1 b = h.1 b) ∧ h'.2.1 = h.2.1 + 3 ∧ h'.2.2 = h.2.2 + 10
theorem nwA_e (h : hS) (t : Nat) {n : Int} (h0 : 0 ≤ n) (h1 : n ≤ 1000000) : nwAS h t n = some (h.2.1, nwA h t n.toNat) := by
  unfold nwAS; rw [if_pos ⟨h0, h1⟩]
theorem nwA_at (h : hS) (t n : Nat) : (nwA h t n).1 h.2.1 = some (.inr (t, n, .inl fun _ => 0)) := by unfold nwA; simp
theorem nwA_ne (h : hS) (t n : Nat) {b : Nat} (hb : b ≠ h.2.1) : (nwA h t n).1 b = h.1 b := by unfold nwA; simp [hb]
theorem p_initI {h : hS} {c : Nat} (hc : c = 1 ∨ c = 2 ∨ c = 3 ∨ c = 4 ∨ c = 5) : ∃ h', fX1_init (nwO h c [vi 0, vi 0, vq none, vq none, vq none, vi 0]) (some h.2.1) = some h' ∧ newI h h' c := by
  unfold fX1_init
  have l0 : (nwO h c [vi 0, vi 0, vq none, vq none, vq none, vi 0]).2.1 = h.2.1 + 1 := rfl
  have a0 := nwO_at h c [vi 0, vi 0, vq none, vq none, vq none, vi 0]
  obtain ⟨h1, e1, a1, o1, s1⟩ := hW_at (P := [(1, 3), (2, 3), (3, 3), (4, 3), (5, 3)]) (k := 3) (v := vq (some (h.2.1 + 1))) (h := nwA (nwO h c [vi 0, vi 0, vq none, vq none, vq none, vi 0]) 0 2) (a := h.2.1) (by rw [nwA_ne _ _ _ (by rw [l0]; omega)]; exact a0) (lk5 hc) (by simp)
  have l1 : h1.2.1 = h.2.1 + 2 := by rw [s1]; rfl
  obtain ⟨h2, e2, a2, o2, s2⟩ := hW_at (P := [(1, 4), (2, 4), (3, 4), (4, 4), (5, 4)]) (k := 4) (v := vq (some (h.2.1 + 2))) (h := nwA h1 0 2) (a := h.2.1) (by rw [nwA_ne _ _ _ (by rw [l1]; omega)]; exact a1) (lk5 hc) (by simp)
  refine ⟨h2, ?_, ?_, ?_, ?_, fun b hb => ?_, ?_, ?_⟩
  · rw [gd_t (by simp), nwA_e _ 0 (by omega) (by omega), bd_s]
    simp only [Int.reduceToNat, l0]
    rw [e1, bd_s, nwA_e _ 0 (by omega) (by omega), bd_s]
    simp only [Int.reduceToNat, l1]
    rw [e2, bd_s]
  · rw [a2]; rfl
  · rw [o2 _ (by omega), nwA_ne _ _ _ (by rw [l1]; omega), o1 _ (by omega)]
    exact nwA_at (nwO h c [vi 0, vi 0, vq none, vq none, vq none, vi 0]) 0 2
  · rw [o2 _ (by omega)]
    have := nwA_at h1 0 2
    rw [l1] at this
    exact this
  · rw [o2 b (by omega), nwA_ne _ _ _ (by rw [l1]; omega), o1 b (by omega), nwA_ne _ _ _ (by rw [l0]; omega), nwO_ne _ _ _ (by omega)]
  · rw [s2]
    show h1.2.1 + 1 = _
    rw [l1]
  · rw [s2]
    show h1.2.2 + 2 = _
    rw [s1]
    rfl
theorem p_madeI (h : hS) {kd : Int} (hk : 0 ≤ kd ∧ kd ≤ 4) : ∃ h', fX0_made h kd = some (some h.2.1, h') ∧ newI h h' (kd.toNat + 1) := by
  unfold fX0_made fX2_init fX3_init fX5_init fX4_init
  have hx : kd = 0 ∨ kd = 1 ∨ kd = 2 ∨ kd = 3 ∨ kd = 4 := by omega
  rcases hx with rfl | rfl | rfl | rfl | rfl
  · obtain ⟨h', e, N⟩ := p_initI (h := h) (c := 1) (by omega)
    rw [if_pos rfl, nwS_e, bd_s]; dsimp only
    rw [e, bd_s]; exact ⟨h', rfl, N⟩
  · obtain ⟨h', e, N⟩ := p_initI (h := h) (c := 2) (by omega)
    rw [if_neg (by decide), if_pos rfl, nwS_e, bd_s]; dsimp only
    rw [gd_t (by simp), e, bd_s, bd_s]; exact ⟨h', rfl, N⟩
  · obtain ⟨h', e, N⟩ := p_initI (h := h) (c := 3) (by omega)
    rw [if_neg (by decide), if_neg (by decide), if_pos rfl, nwS_e, bd_s]; dsimp only
    rw [gd_t (by simp), e, bd_s, bd_s]; exact ⟨h', rfl, N⟩
  · obtain ⟨h', e, N⟩ := p_initI (h := h) (c := 4) (by omega)
    rw [if_neg (by decide), if_neg (by decide), if_neg (by decide), if_pos rfl, nwS_e, bd_s]; dsimp only
    rw [gd_t (by simp), e, bd_s, bd_s]; exact ⟨h', rfl, N⟩
  · obtain ⟨h', e, N⟩ := p_initI (h := h) (c := 5) (by omega)
    rw [if_neg (by decide), if_neg (by decide), if_neg (by decide), if_neg (by decide), nwS_e, bd_s]; dsimp only
    rw [gd_t (by simp), gd_t (by simp), e, bd_s, bd_s, bd_s]; exact ⟨h', rfl, N⟩
/-- a row of numbers is copied -/
theorem hCp_at {h : hS} {a b : Nat} {f g : Int → Int} (ea : h.1 a = some (.inr (0, 2, .inl f))) (eb : h.1 b = some (.inr (0, 2, .inl g))) : ∃ h', hCp h (some a) (some b) 2 = some h' ∧ h'.1 b = some (.inr (0, 2, .inl (cpI f g 2))) ∧ (∀ c, c ≠ b → h'.1 c = h.1 c) ∧ h'.2 = h.2 := by
  unfold hCp nn
  simp only [ea, eb]
  rw [if_pos ⟨trivial, trivial, by decide, by decide, by decide⟩]
  refine ⟨_, rfl, ?_, fun c hc => ?_, rfl⟩
  · unfold hup; simp
  · unfold hup; simp [hc]
/-- an instance of another kind takes its place -/
theorem p_be {s : Sg} {k h : hS} {F : Nat → Prop} (K : Kp k h F) {i a : Nat} {x : Ist} (hi : i < 6) (ea : gQ s 4 (i : Int) = some a) (P : isI k a i x) (ok : okK x) (l2 : (iC x).length ≤ 2) {kd : Int} (hk : 0 ≤ kd ∧ kd ≤ 4) :
    ∃ h' k' a', fX0_be s h (i : Int) kd = some (sQ s 4 (i : Int) (some a'), h') ∧ ext k k' ∧ Kp k' h' F ∧ isI k' a' i (kd, x.2) ∧ ol h h' 3 := by
  obtain ⟨h1, e1, N0, N1, N2, N3, N4, N5⟩ := p_madeI h hk
  have hc : kd.toNat + 1 = 1 ∨ kd.toNat + 1 = 2 ∨ kd.toNat + 1 = 3 ∨ kd.toNat + 1 = 4 ∨ kd.toNat + 1 = 5 := by omega
  obtain ⟨hd, ca, va, fc, fv, e, T, ec, ev, cc⟩ := P
  -- what is older stays
  have old : ∀ h9 : hS, (∀ b, b < h.2.1 → h9.1 b = h.1 b) → ∀ b z, k.1 b = some z → h9.1 b = some z := fun h9 o b z hz => by
    obtain ⟨x1, x2, -⟩ := K.1 b z hz
    rw [o b x2, x1]
  have lt : ∀ b z, k.1 b = some z → b < h.2.1 := fun b z hz => (K.1 b z hz).2.1
  have la := lt a _ e
  have lca := lt ca _ ec
  have lva := lt va _ ev
  have rd : ∀ h9 : hS, (∀ b, b < h.2.1 → h9.1 b = h.1 b) → rdIn h9 a ((iK x).toNat + 1) (i : Int) (iO x) ((iC x).length : Int) (some hd) (some ca) (some va) := fun h9 o => rdI_c ok.c (old h9 o _ _ e)
  obtain ⟨r0, -⟩ := rd h1 N3
  obtain ⟨h2, w2, a2, o2, s2⟩ := hW_at (P := [(1, 0), (2, 0), (3, 0), (4, 0), (5, 0)]) (v := vi (i : Int)) N0 (lk5 hc) (by simp)
  have q2 : ∀ b, b < h.2.1 → h2.1 b = h.1 b := fun b hb => by rw [o2 b (by omega), N3 b hb]
  obtain ⟨-, r1, -⟩ := rd h2 q2
  obtain ⟨h3, w3, a3, o3, s3⟩ := hW_at (P := [(1, 1), (2, 1), (3, 1), (4, 1), (5, 1)]) (v := vi (iO x)) a2 (lk5 hc) (by simp)
  have q3 : ∀ b, b < h.2.1 → h3.1 b = h.1 b := fun b hb => by rw [o3 b (by omega), q2 b hb]
  obtain ⟨-, -, r2, -⟩ := rd h3 q3
  obtain ⟨h4, w4, a4, o4, s4⟩ := hW_at (P := [(1, 2), (2, 2), (3, 2), (4, 2), (5, 2)]) (v := vq (some hd)) a3 (lk5 hc) (by simp)
  have q4 : ∀ b, b < h.2.1 → h4.1 b = h.1 b := fun b hb => by rw [o4 b (by omega), q3 b hb]
  obtain ⟨-, -, -, -, -, r5, -⟩ := rd h4 q4
  obtain ⟨h5, w5, a5, o5, s5⟩ := hW_at (P := [(1, 5), (2, 5), (3, 5), (4, 5), (5, 5)]) (v := vi ((iC x).length : Int)) a4 (lk5 hc) (by simp)
  have q5 : ∀ b, b < h.2.1 → h5.1 b = h.1 b := fun b hb => by rw [o5 b (by omega), q4 b hb]
  obtain ⟨-, -, -, r3, -⟩ := rd h5 q5
  have b1 : h5.1 (h.2.1 + 1) = some (.inr (0, 2, .inl fun _ => 0)) := by rw [o5 _ (by omega), o4 _ (by omega), o3 _ (by omega), o2 _ (by omega)]; exact N1
  have b2 : h5.1 (h.2.1 + 2) = some (.inr (0, 2, .inl fun _ => 0)) := by rw [o5 _ (by omega), o4 _ (by omega), o3 _ (by omega), o2 _ (by omega)]; exact N2
  have a5' : h5.1 h.2.1 = some (.inl (kd.toNat + 1, [vi (i : Int), vi (iO x), vq (some hd), vq (some (h.2.1 + 1)), vq (some (h.2.1 + 2)), vi ((iC x).length : Int)])) := a5
  obtain ⟨-, -, -, t3, -⟩ := rdI_c hc a5'
  obtain ⟨h6, w6, a6, o6, s6⟩ := hCp_at (old h5 q5 _ _ ec) b1
  have q6 : ∀ b, b < h.2.1 → h6.1 b = h.1 b := fun b hb => by rw [o6 b (by omega), q5 b hb]
  obtain ⟨-, -, -, -, r4, -⟩ := rd h6 q6
  have a6' := a5'
  rw [← o6 h.2.1 (by omega)] at a6'
  obtain ⟨-, -, -, -, t4, -⟩ := rdI_c hc a6'
  obtain ⟨h7, w7, a7, o7, s7⟩ := hCp_at (b := h.2.1 + 2) (old h6 q6 _ _ ev) (by rw [o6 (h.2.1 + 2) (by omega)]; exact b2)
  have q7 : ∀ b, b < h.2.1 → h7.1 b = h.1 b := fun b hb => by rw [o7 b (by omega), q6 b hb]
  have a7' := a6'
  rw [← o7 h.2.1 (by omega)] at a7'
  have a6c : h7.1 (h.2.1 + 1) = some (.inr (0, 2, .inl (cpI fc (fun _ => 0) 2))) := by rw [o7 _ (by omega)]; exact a6
  obtain ⟨-, -, -, -, -, -, u6, u7⟩ := rdI_c hc N0
  obtain ⟨-, -, -, -, -, -, u6', u7'⟩ := rdI_c hc a7'
  have sz : h7.2 = h1.2 := by rw [s7, s6, s5, s4, s3, s2]
  have lt7 : h.2.1 + 3 = h7.2.1 := by rw [sz, N4]
  have O : ol h h7 3 := ⟨by omega, q7, by omega, by rw [sz, N5]; omega⟩
  have nF : ∀ j, ¬ F (h.2.1 + j) := fun j q => by have := K.2 _ q; omega
  obtain ⟨K1, X1⟩ := (K.ol O).add (a := h.2.1) (K.nk (Nat.le_refl _)) a7' (by omega) (nF 0)
  have X1 : ext k (hup k h.2.1 (.inl (kd.toNat + 1, [vi (i : Int), vi (iO x), vq (some hd), vq (some (h.2.1 + 1)), vq (some (h.2.1 + 2)), vi ((iC x).length : Int)]))) := X1
  obtain ⟨K2, X2⟩ := K1.add (a := h.2.1 + 1) (by rw [hup_ne _ _ (by omega)]; exact K.nk (by omega)) a6c (by omega) (nF 1)
  obtain ⟨K3, X3⟩ := K2.add (a := h.2.1 + 2) (by rw [hup_ne _ _ (by omega), hup_ne _ _ (by omega)]; exact K.nk (by omega)) a7 (by omega) (nF 2)
  have XX : ext k _ := X1.trans (ext.trans X2 X3)
  refine ⟨h7, _, h.2.1, ?_, XX, K3, ⟨hd, h.2.1 + 1, h.2.1 + 2, cpI fc (fun _ => 0) 2, cpI fv (fun _ => 0) 2, ?_, T.mono XX, ?_, hup_at _ _ _, fun j hj => ?_⟩, O⟩
  · unfold fX0_be fX1_be
    rw [e1, bd_s]
    dsimp only
    rw [gd_t (by omega), gd_t u7, ea, r0, bd_s, w2, bd_s, r1, bd_s, w3, bd_s, r2, bd_s, w4, bd_s, r5, bd_s, w5, bd_s, r3, bd_s, t3, bd_s, w6, bd_s, r4, bd_s, t4, bd_s, w7, bd_s, bd_s, gd_t (by omega), gd_t (Or.inr u7')]
  · rw [hup_ne _ _ (by omega), hup_ne _ _ (by omega), hup_at]
  · rw [hup_ne _ _ (by omega), hup_at]
  · have hj : j < (iC x).length := hj
    have jj : 0 ≤ (j : Int) ∧ (j : Int) < 2 := by omega
    unfold cpI
    rw [if_pos jj, if_pos jj]
    exact cc j hj

set_option maxRecDepth 100000
/-! PURE: class DictProof: change, image, restore -/
def cW (w w' : Wd) (c : Nat) : Prop := (wh w').2.1 + wQ w' ≤ (wh w).2.1 + wQ w + c ∧ (wh w').2.2 + 4 * wQ w' ≤ (wh w).2.2 + 4 * wQ w + 4 * c
theorem stW.cW {I : List Ist} {U : Tm → Prop} {mp : Nat} {w w' : Wd} {c : Nat} (st : stW w w' c) (h : okW I U mp w') (hB : UBd U) : cW w w' (24000 + c) := by
  have := h.len hB
  exact ⟨by have := st.2.1; omega, by have := st.2.2; omega⟩
theorem okW.clear {I I' : List Ist} {U : Tm → Prop} {mp : Nat} {w : Wd} (h : okW I U mp w) : ∃ h', fJ1_clear (wh w) (some mp) = some h' ∧ okW I' U mp (wk w, h', [], wF w, wQ w) ∧ h'.2 = (wh w).2 ∧ hC (wh w) (some mp) = some 11 := by
  obtain ⟨K, M, E⟩ := h
  have cM : hC (wh w) (some mp) = some 11 := by obtain ⟨_, _, _, _, M1, -⟩ := M; exact MO.c M1
  obtain ⟨h', e, M', o, s⟩ := pH_clear (by omega) M
  refine ⟨h', e, ⟨K.go (fun b hb => o b (fun q => ?_)) (by rw [s]; exact Nat.le_refl _), M', fun e he => by cases he⟩, s, cM⟩
  exact hb (K.nF q)
theorem R0.inst {s s' : Sg} {k k' : hS} {gs : Option Nat × Option Nat} {ca : Nat → Nat} {A : As} (r : R0 s k gs ca A) (X : ext k k') (hk : keepS [4] s s') {I' : List Ist} (hl : I'.length = (asI A).length) (hh : ∀ i, i < I'.length → iH (ig I' i) = iH (ig (asI A) i)) (J : Ins0 s' k' (asN A) I') : R0 s' k' gs ca (asI' A I') := by
  obtain ⟨r1, r2, r3, r4, r5, r6, r7, r8, r9, r10, r11⟩ := r.mono X
  refine ⟨r1.keep hk (by decide) (by decide) (by decide), J, fun i e hi he => ?_, fun i e hi he hne => ?_, r5.keep hk (by decide), r6.keep hk (by decide) (by decide) (by decide) (by decide), r7.keep hk (by decide) (by decide), (hk.I (by decide)).trans r8, Kpt0.keep (A := asI' A I') r9 hk (by decide), r10.keep hk (by decide), r11⟩
  · have hi : i < I'.length := hi
    have he : e < I'.length := he
    refine ((hk.A (by decide) _).trans (r3 i e (by omega) (by omega))).trans ?_
    show bI (spc (ig (asI A) i) (ig (asI A) e)) = bI (spc (ig I' i) (ig I' e))
    unfold spc
    rw [hh i hi, hh e he]
  · have hi : i < I'.length := hi
    have he : e < I'.length := he
    refine ((hk.A (by decide) _).trans (r4 i e (by omega) (by omega) hne)).trans ?_
    show bI (alk (iH (ig (asI A) i)) (iH (ig (asI A) e))) = bI (alk (iH (ig I' i)) (iH (ig I' e)))
    rw [hh i hi, hh e he]
section OPS
variable {s : Sg} {gs : Option Nat × Option Nat} {ca : Nat → Nat} {A : As} {U : Tm → Prop} {mp : Nat} {w : Wd}
theorem W_change (h : okW (asI A) U mp w) (r : R0 s (wk w) gs ca A) (i kd : Int) :
    ∃ s' w', fX0_change (some mp) s (wh w) i kd = some ((sp_change A i kd).1, s', wh w') ∧ R0 s' (wk w') gs ca (sp_change A i kd).2 ∧ okW (asI (sp_change A i kd).2) U mp w' ∧ cW w w' 3 := by
  have same : ∀ v : Int, ∃ s' w', some (v, s, wh w) = some (v, s', wh w') ∧ R0 s' (wk w') gs ca A ∧ okW (asI A) U mp w' ∧ cW w w' 3 := fun v => ⟨s, w, rfl, r, h, by unfold cW; omega⟩
  unfold fX0_change sp_change
  rw [p0_isInstance r, bd_s]
  by_cases hi : isIn9 A i
  · rw [decide_eq_true hi, if_pos (show ¬ bI true = 0 by decide), p0_isIn, bd_s, if_pos hi]
    by_cases hk : 0 ≤ kd ∧ kd ≤ 4
    · have a1 := hi.1
      have a2 := hi.2
      have J := r.2.1
      have h6 := J.2.1
      obtain ⟨ok, a, ea, Pa⟩ := J.2.2 i.toNat (by omega)
      obtain ⟨-, -, -, kk⟩ := p_kinds (Pa.mono h.1.ext) ok.k
      have ei : ((i.toNat : Nat) : Int) = i := by omega
      obtain ⟨h1, k1, a', e1, X, K1, P1, O⟩ := p_be h.1 (by omega) ea Pa ok.k ok.2.2.2.2.1 hk
      obtain ⟨o1, -⟩ := h.kW X K1 O
      obtain ⟨h2, e2, o2, s2, cM⟩ := o1.clear (I' := (asI A).set i.toNat (kd, (ig (asI A) i.toNat).2))
      rw [ei] at e1 ea
      have cM : hC h1 (some mp) = some 11 := cM
      have e2 : fJ1_clear h1 (some mp) = some h2 := e2
      have s2 : h2.2 = h1.2 := s2
      have il : i.toNat < (asI A).length := by omega
      rw [decide_eq_true hk, if_pos (show ¬ bI true = 0 by decide), gd_t (by omega), ea, kk, bd_s, e1, bd_s]
      dsimp only
      rw [gd_t cM, e2, bd_s, if_pos hk]
      refine ⟨_, _, rfl, r.inst (I' := (asI A).set i.toNat (kd, (ig (asI A) i.toNat).2)) X (keepS.sQ (keepS.refl _ _) (by decide) _ _) (by simp) (fun j hj => ?_) ⟨?_, by simp; exact h6, fun j hj => ?_⟩, o2, ?_, ?_⟩
      · rw [ig_set il]
        by_cases q : j = i.toNat
        · rw [if_pos q, q]
        · rw [if_neg q]
      · rw [List.length_set]; exact J.1
      · rw [List.length_set] at hj
        rw [ig_set il]
        by_cases q : j = i.toNat
        · rw [if_pos q]
          refine ⟨⟨hk, ok.2⟩, a', ?_, by rw [q]; exact P1⟩
          rw [gQ_sQ, if_pos ⟨rfl, by omega⟩]
        · obtain ⟨okj, b, eb, Pb⟩ := J.2.2 j hj
          rw [if_neg q]
          refine ⟨okj, b, ?_, Pb.mono X⟩
          rw [gQ_sQ, if_neg (by rintro ⟨-, z⟩; omega)]
          exact eb
      · show h2.2.1 + wQ w ≤ (wh w).2.1 + wQ w + 3
        rw [s2]
        have := O.2.2.1
        omega
      · show h2.2.2 + 4 * wQ w ≤ (wh w).2.2 + 4 * wQ w + 4 * 3
        rw [s2]
        have := O.2.2.2
        omega
    · rw [decide_eq_false hk, if_neg (show ¬ ¬ bI false = 0 by decide), if_neg hk]
      exact same _
  · rw [decide_eq_false hi, if_neg (show ¬ ¬ bI false = 0 by decide), if_neg hi]
    exact same _
theorem Sn6.cpy {s s' : Sg} {k0 k1 k2 k3 j0 j1 j2 j3 : Nat} {E : List (Nat × Nat × Bool)} (hE : E.length ≤ 6) (N : Sn6 s k0 k1 k2 k3 E) (e0 : gI s' j0 = gI s k0) (e1 : ∀ x : Int, 0 ≤ x → x < 6 → gA s' j1 x = gA s k1 x) (e2 : ∀ x : Int, 0 ≤ x → x < 6 → gA s' j2 x = gA s k2 x) (e3 : ∀ x : Int, 0 ≤ x → x < 6 → gA s' j3 x = gA s k3 x) : Sn6 s' j0 j1 j2 j3 E := by
  refine ⟨e0.trans N.1, fun j e he => ?_⟩
  have hj : j < E.length := (List.getElem?_eq_some_iff.mp he).1
  obtain ⟨a, b, c⟩ := N.2 j e he
  exact ⟨(e1 _ (by omega) (by omega)).trans a, (e2 _ (by omega) (by omega)).trans b, (e3 _ (by omega) (by omega)).trans c⟩
theorem okQ_of {h : hS} {s : Sg} {j : Nat} {S : Nat → Option Tm} (L : Sl0 s h j S) : okQ h s j 4 7 = true := by
  unfold okQ
  rw [List.all_eq_true]
  intro i hi
  have := L i (List.mem_range.mp hi)
  cases q : S i with
  | none =>
    rw [q] at this
    rw [show gQ s j (i : Int) = none from this]
  | some t =>
    rw [q] at this
    obtain ⟨a, e, T⟩ := this
    rw [e]
    simp only
    rw [T.c]
    rfl
theorem p0_image (hA : okA A) {h : hS} (X : ext (wk w) h) (r : R0 s (wk w) gs ca A) : ∃ s', fX0_image s h = some ((sp_image A).1, s') ∧ R0 s' (wk w) gs ca (sp_image A).2 := by
  have h5 := r.2.1.1
  have h6 := r.2.1.2.1
  have hb := hA.2.2.2.2.2.1.2
  unfold fX0_image sp_image
  by_cases b0 : asB A = 0
  · rw [if_neg (by rw [h5]; have := hb.mp b0; omega), if_pos b0]
    exact ⟨s, rfl, r⟩
  · rw [if_pos (by rw [h5]; intro q; exact b0 (hb.mpr (by omega))), if_neg b0]
    obtain ⟨s1, ⟨kp, kk⟩, e⟩ := loopN (fun f k (x : Sg) => fX0_image_L12 f x h (k : Int)) (asI A).length (fun k x => keepS [28] s x ∧ ∀ j : Nat, j < k → gA x 28 (j : Int) = iK (ig (asI A) j)) (fun x => fX0_image_L12 1 x h ((asI A).length : Int)) (fun f k x hk hx => by
        obtain ⟨kp, kk⟩ := hx
        obtain ⟨ok, a, ea, Pa⟩ := r.2.1.2.2 k hk
        obtain ⟨-, -, -, kd⟩ := p_kinds (Pa.mono X) ok.k
        refine ⟨sA x 28 (k : Int) (iK (ig (asI A) k)), ⟨kp.sA (by decide) _ _, fun j hj => ?_⟩, ?_⟩
        · rw [gA_sA]
          by_cases q : j = k
          · rw [if_pos ⟨rfl, by omega⟩, q]
          · rw [if_neg (by rintro ⟨-, z⟩; omega)]; exact kk j (by omega)
        · show fX0_image_L12 (f + 1) x h (k : Int) = fX0_image_L12 f (sA x 28 (k : Int) (iK (ig (asI A) k))) h ((k + 1 : Nat) : Int)
          rw [fX0_image_L12_s]
          unfold fX0_image_b12
          rw [if_neg (by rw [kp.I (by decide), h5]; omega), gd_t (by omega), kp.Q (by decide), ea, kd, bd_s, gd_t (by omega), wr_id (by omega) (by omega)]
          rfl) (fun f x hx => by
        show fX0_image_L12 (f + 1) x h ((asI A).length : Int) = fX0_image_L12 1 x h ((asI A).length : Int)
        have hle : gI x 5 ≤ ((asI A).length : Int) := by rw [hx.1.I (by decide), h5]; omega
        have key : ∀ K K', fX0_image_b12 K x h ((asI A).length : Int) = fX0_image_b12 K' x h ((asI A).length : Int) := by
          intro K K'
          unfold fX0_image_b12
          rw [if_pos hle, if_pos hle]
        rw [fX0_image_L12_s, fX0_image_L12_s]
        exact key _ _) FU 0 s (by unfold FU; omega) (by omega) ⟨keepS.refl _ _, fun j hj => by omega⟩
    have e : fX0_image_L12 FU s h 0 = _ := e
    rw [e]
    have r1 := r
    obtain ⟨q1, q2, q3, q4, q5, q6, q7, q8, q9, q10, q11⟩ := r1
    have sl6 : Sl0 s1 (wk w) 6 (asS A) := q5.keep kp (by decide)
    have sn6 : Sn6 s1 26 23 24 25 (asE A) := q6.keep kp (by decide) (by decide) (by decide) (by decide)
    rw [fX0_image_L12_s]
    unfold fX0_image_b12
    rw [if_pos (by rw [kp.I (by decide), h5]; omega), gd_t (okQ_of (sl6.mono X))]
    have sl : fX0_slotsUsed (sI (sI (sCA (sCA (sCA (sCQ s1 6 29 ((4 : Nat) : Int)) 23 30 6) 24 31 6) 25 32 6) 33 (gI (sCA (sCA (sCA (sCQ s1 6 29 ((4 : Nat) : Int)) 23 30 6) 24 31 6) 25 32 6) 26)) 34 (gI (sI (sCA (sCA (sCA (sCQ s1 6 29 ((4 : Nat) : Int)) 23 30 6) 24 31 6) 25 32 6) 33 (gI (sCA (sCA (sCA (sCQ s1 6 29 ((4 : Nat) : Int)) 23 30 6) 24 31 6) 25 32 6) 26)) 7)) = some ((filldN (asS A) : Nat) : Int) := by
      refine p0_slotsUsed (k := wk w) (fun i hi => ?_)
      have := sl6 i hi
      rw [gQ_sI, gQ_sI, gQ_sCA, gQ_sCA, gQ_sCA, gQ_sCQ, if_neg (by rintro ⟨z, -⟩; omega)]
      exact this
    rw [sl, bd_s]
    have ks : keepS [28, 29, 30, 31, 32, 33, 34] s (sI (sI (sCA (sCA (sCA (sCQ s1 6 29 ((4 : Nat) : Int)) 23 30 6) 24 31 6) 25 32 6) 33 (gI (sCA (sCA (sCA (sCQ s1 6 29 ((4 : Nat) : Int)) 23 30 6) 24 31 6) 25 32 6) 26)) 34 (gI (sI (sCA (sCA (sCA (sCQ s1 6 29 ((4 : Nat) : Int)) 23 30 6) 24 31 6) 25 32 6) 33 (gI (sCA (sCA (sCA (sCQ s1 6 29 ((4 : Nat) : Int)) 23 30 6) 24 31 6) 25 32 6) 26)) 7)) := by
      refine (keepS.sI (keepS.sI ?_ (by decide) _) (by decide) _)
      intro k hk
      simp only [List.mem_cons, List.not_mem_nil, or_false, not_or] at hk
      obtain ⟨h28, h29, h30, h31, h32, h33, h34⟩ := hk
      have k28 : k ∉ [28] := by simpa using h28
      refine ⟨kp.I k28, fun i => ?_, fun i => ?_⟩
      · show gA (sCA (sCA (sCA (sCQ s1 6 29 ((4 : Nat) : Int)) 23 30 6) 24 31 6) 25 32 6) k i = gA s k i
        rw [gA_sCA, if_neg (by rintro ⟨z, -⟩; omega), gA_sCA, if_neg (by rintro ⟨z, -⟩; omega), gA_sCA, if_neg (by rintro ⟨z, -⟩; omega), gA_sCQ]
        exact kp.A k28 i
      · show gQ (sCA (sCA (sCA (sCQ s1 6 29 ((4 : Nat) : Int)) 23 30 6) 24 31 6) 25 32 6) k i = gQ s k i
        rw [gQ_sCA, gQ_sCA, gQ_sCA, gQ_sCQ, if_neg (by rintro ⟨z, -⟩; omega)]
        exact kp.Q k28 i
    refine ⟨_, rfl, q1.keep ks (by decide) (by decide) (by decide), q2.keep ks (by decide) (by decide), fun i e hi he => (ks.A (by decide) _).trans (q3 i e hi he), fun i e hi he hne => (ks.A (by decide) _).trans (q4 i e hi he hne), q5.keep ks (by decide), q6.keep ks (by decide) (by decide) (by decide) (by decide), q7.keep ks (by decide) (by decide), (ks.I (by decide)).trans q8, ?_, q10.keep ks (by decide), q11⟩
    have h7 : gI s1 7 = (asB A : Int) := (kp.I (by decide)).trans q8
    refine ⟨h7, fun _ j v hv => ?_, fun i hi => ?_, Sn6.cpy hA.2.2.2.2.1.1 sn6 rfl (fun x x0 x1 => ?_) (fun x x0 x1 => ?_) (fun x x0 x1 => ?_)⟩
    · have hj : j < (kinds (asI A)).length := (List.getElem?_eq_some_iff.mp hv).1
      have hj' : j < (asI A).length := by simpa [kinds] using hj
      have ev : v = iK (ig (asI A) j) := by
        unfold kinds at hv
        rw [List.getElem?_map, List.getElem?_eq_getElem hj'] at hv
        unfold ig
        rw [List.getD_eq_getElem?_getD, List.getElem?_eq_getElem hj']
        exact (Option.some.inj hv).symm
      rw [ev, gA_sI, gA_sI, gA_sCA, if_neg (by rintro ⟨z, -⟩; omega), gA_sCA, if_neg (by rintro ⟨z, -⟩; omega), gA_sCA, if_neg (by rintro ⟨z, -⟩; omega), gA_sCQ]
      exact kk j hj'
    · have := sl6 i hi
      rw [gQ_sI, gQ_sI, gQ_sCA, gQ_sCA, gQ_sCA, gQ_sCQ, if_pos ⟨rfl, by omega, by omega⟩]
      exact this
    · rw [gA_sI, gA_sI, gA_sCA, if_neg (by rintro ⟨z, -⟩; omega), gA_sCA, if_neg (by rintro ⟨z, -⟩; omega), gA_sCA, if_pos ⟨rfl, x0, x1⟩, gA_sCQ]
    · rw [gA_sI, gA_sI, gA_sCA, if_neg (by rintro ⟨z, -⟩; omega), gA_sCA, if_pos ⟨rfl, x0, x1⟩, gA_sCA, if_neg (by rintro ⟨z, -⟩; omega), gA_sCQ]
    · rw [gA_sI, gA_sI, gA_sCA, if_pos ⟨rfl, x0, x1⟩, gA_sCA, if_neg (by rintro ⟨z, -⟩; omega), gA_sCA, if_neg (by rintro ⟨z, -⟩; omega), gA_sCQ]
end OPS

set_option maxRecDepth 100000
/-! PURE: class DictProof: restore; a type is drawn -/
section OPS
variable {s : Sg} {gs : Option Nat × Option Nat} {ca : Nat → Nat} {A : As} {U : Tm → Prop} {mp : Nat} {w : Wd}
theorem W_restore (hA : okA A) (h : okW (asI A) U mp w) (r : R0 s (wk w) gs ca A) :
    ∃ s' w', fX0_restore (some mp) s (wh w) = some ((sp_restore A).1, s', wh w') ∧ R0 s' (wk w') gs ca (sp_restore A).2 ∧ okW (asI (sp_restore A).2) U mp w' ∧ cW w w' 18 := by
  have same : ∀ v : Int, ∃ s' w', some (v, s, wh w) = some (v, s', wh w') ∧ R0 s' (wk w') gs ca A ∧ okW (asI A) U mp w' ∧ cW w w' 18 := fun v => ⟨s, w, rfl, r, h, by unfold cW; omega⟩
  have h5 := r.2.1.1
  have h6 := r.2.1.2.1
  have r7 := r.2.2.2.2.2.2.2.1
  have r9 := r.2.2.2.2.2.2.2.2.1
  have hK := hA.2.2.2.2.2.2
  unfold fX0_restore sp_restore
  unfold Kpt0 at r9
  cases eK : asK A with
  | none =>
    rw [eK] at r9
    have r9 : gI s 34 = -1 := r9
    rw [if_neg (by rw [r9, r7]; omega)]
    exact same _
  | some KK =>
    obtain ⟨b, Ks, S, E⟩ := KK
    rw [eK] at r9
    obtain ⟨k1, k2, k3, k4⟩ := r9
    obtain ⟨-, -, hE6, hbb, hKs⟩ := hK b Ks S E eK
    simp only
    by_cases bb : b = asB A
    · obtain ⟨lK, -⟩ := hbb bb
      rw [if_pos (by rw [k1, r7, bb]), if_pos bb]
      have kz : ∀ i, i < (asI A).length → gA s 28 (i : Int) = Ks.getD i 0 ∧ 0 ≤ Ks.getD i 0 ∧ Ks.getD i 0 ≤ 4 := by
        intro i hi
        have e : Ks[i]? = some (Ks.getD i 0) := by rw [List.getD_eq_getElem?_getD, List.getElem?_eq_getElem (by omega)]; rfl
        exact ⟨k2 bb i _ e, hKs _ (List.mem_of_getElem? e)⟩
      obtain ⟨⟨s1, w1⟩, ⟨kp, ow, sw, ii⟩, e⟩ := loopN (fun f k (x : Sg × Wd) => fX0_restore_L16 f (some mp) x.1 (wh x.2) (k : Int)) (asI A).length (fun k x => keepS [4] s x.1 ∧ okW (asI A) U mp x.2 ∧ (ext (wk w) (wk x.2) ∧ cW w x.2 (3 * k)) ∧ ∀ i : Nat, i < (asI A).length → ∃ a, gQ x.1 4 (i : Int) = some a ∧ isI (wk x.2) a i ((if i < k then Ks.getD i 0 else iK (ig (asI A) i)), (ig (asI A) i).2)) (fun x => fX0_restore_L16 1 (some mp) x.1 (wh x.2) ((asI A).length : Int)) (fun f k x hk hx => by
          obtain ⟨s2, w2⟩ := x
          obtain ⟨kp, ow, ⟨Xw, cw⟩, ii⟩ := hx
          have kp : keepS [4] s s2 := kp
          have cw : cW w w2 (3 * k) := cw
          have ow : okW (asI A) U mp w2 := ow
          have Xw : ext (wk w) (wk w2) := Xw
          have ii : ∀ i : Nat, i < (asI A).length → ∃ a, gQ s2 4 (i : Int) = some a ∧ isI (wk w2) a i ((if i < k then Ks.getD i 0 else iK (ig (asI A) i)), (ig (asI A) i).2) := ii
          obtain ⟨a, ea, Pa⟩ := ii k hk
          have ea : gQ s2 4 (k : Int) = some a := ea
          have ok := (r.2.1.2.2 k hk).1
          obtain ⟨kz1, kz2⟩ := kz k hk
          rw [if_neg (Nat.lt_irrefl k)] at Pa
          obtain ⟨h1, k1', a', e1, X, K1, P1, O⟩ := p_be (x := (iK (ig (asI A) k), (ig (asI A) k).2)) ow.1 (by omega) ea Pa ok.k ok.2.2.2.2.1 kz2
          obtain ⟨o1, -⟩ := ow.kW X K1 O
          refine ⟨(sQ s2 4 (k : Int) (some a'), (k1', h1, wE w2, wF w2, wQ w2)), ⟨kp.sQ (by decide) _ _, o1, ⟨Xw.trans X, ?_⟩, fun i hi => ?_⟩, ?_⟩
          · unfold cW at cw ⊢
            have := O.2.2.1
            have := O.2.2.2
            show h1.2.1 + wQ w2 ≤ _ ∧ h1.2.2 + 4 * wQ w2 ≤ _
            omega
          · by_cases q : i = k
            · subst q
              refine ⟨a', ?_, ?_⟩
              · show gQ (sQ s2 4 (i : Int) (some a')) 4 (i : Int) = _
                rw [gQ_sQ, if_pos ⟨rfl, rfl⟩]
              · rw [if_pos (by omega)]; exact P1
            · obtain ⟨b, eb, Pb⟩ := ii i hi
              refine ⟨b, ?_, ?_⟩
              · show gQ (sQ s2 4 (k : Int) (some a')) 4 (i : Int) = _
                rw [gQ_sQ, if_neg (by rintro ⟨-, z⟩; omega)]; exact eb
              · have : (i < k + 1) ↔ (i < k) := by omega
                have e2 : (if i < k + 1 then Ks.getD i 0 else iK (ig (asI A) i)) = (if i < k then Ks.getD i 0 else iK (ig (asI A) i)) := by
                  by_cases q2 : i < k
                  · rw [if_pos q2, if_pos (by omega)]
                  · rw [if_neg q2, if_neg (by omega)]
                rw [e2]
                exact Pb.mono X
          · show fX0_restore_L16 (f + 1) (some mp) s2 (wh w2) (k : Int) = fX0_restore_L16 f (some mp) (sQ s2 4 (k : Int) (some a')) h1 ((k + 1 : Nat) : Int)
            rw [fX0_restore_L16_s]
            unfold fX0_restore_b16
            rw [if_neg (by rw [kp.I (by decide), h5]; omega), gd_t (by omega), kp.A (by decide), kz1, e1, bd_s, wr_id (by omega) (by omega)]
            rfl) (fun f x hx => by
          show fX0_restore_L16 (f + 1) (some mp) x.1 (wh x.2) ((asI A).length : Int) = fX0_restore_L16 1 (some mp) x.1 (wh x.2) ((asI A).length : Int)
          have hle : gI x.1 5 ≤ ((asI A).length : Int) := by rw [hx.1.I (by decide), h5]; omega
          have key : ∀ K K', fX0_restore_b16 K (some mp) x.1 (wh x.2) ((asI A).length : Int) = fX0_restore_b16 K' (some mp) x.1 (wh x.2) ((asI A).length : Int) := by
            intro K K'
            unfold fX0_restore_b16
            rw [if_pos hle, if_pos hle]
          rw [fX0_restore_L16_s, fX0_restore_L16_s]
          exact key _ _) FU 0 (s, w) (by unfold FU; omega) (by omega) ⟨keepS.refl _ _, h, ⟨ext.refl _, by show cW w w (3 * 0); unfold cW; omega⟩, fun i hi => by
          obtain ⟨ok, a, ea, Pa⟩ := r.2.1.2.2 i hi
          exact ⟨a, ea, by rw [if_neg (by omega)]; exact Pa⟩⟩
      obtain ⟨Xw, cw⟩ := sw
      have kp : keepS [4] s s1 := kp
      have Xw : ext (wk w) (wk w1) := Xw
      have cw : cW w w1 (3 * (asI A).length) := cw
      have e : fX0_restore_L16 FU (some mp) s (wh w) 0 = fX0_restore_L16 1 (some mp) s1 (wh w1) ((asI A).length : Int) := e
      rw [e]
      obtain ⟨h2, e2, o2, s2, cM⟩ := ow.clear (I' := setK (asI A) Ks)
      have cM : hC (wh w1) (some mp) = some 11 := cM
      have e2 : fJ1_clear (wh w1) (some mp) = some h2 := e2
      have s2 : h2.2 = (wh w1).2 := s2
      have sl29 : Sl0 s1 (wk w1) 29 S := (k3.mono Xw).keep kp (by decide)
      have sn : Sn6 s1 33 30 31 32 E := k4.keep kp (by decide) (by decide) (by decide) (by decide)
      -- the instances
      have J2 : Ins0 s1 (wk w1) (asN A) (setK (asI A) Ks) := by
        refine ⟨?_, by rw [setK_len]; exact h6, fun i hi => ?_⟩
        · rw [setK_len, kp.I (by decide)]; exact h5
        · rw [setK_len] at hi
          obtain ⟨a, ea, Pa⟩ := ii i hi
          rw [if_pos hi] at Pa
          rw [ig_setK hi]
          obtain ⟨-, z1, z2⟩ := kz i hi
          exact ⟨⟨⟨z1, z2⟩, (r.2.1.2.2 i hi).1.2⟩, a, ea, Pa⟩
      have r1 := r.inst Xw kp (I' := setK (asI A) Ks) (setK_len _ _) (fun i hi => by rw [setK_len] at hi; rw [ig_setK hi]) J2
      rw [fX0_restore_L16_s]
      unfold fX0_restore_b16
      have h51 : gI s1 5 = ((asI A).length : Int) := (kp.I (by decide)).trans h5
      rw [if_pos (by rw [h51]; omega), gd_t (okQ_of (sl29.mono ow.1.ext)), gd_t cM, e2, bd_s]
      have sl : fX0_slotsUsed (sI (sCA (sCA (sCA (sCQ s1 29 6 ((4 : Nat) : Int)) 30 23 6) 31 24 6) 32 25 6) 26 (gI (sCA (sCA (sCA (sCQ s1 29 6 ((4 : Nat) : Int)) 30 23 6) 31 24 6) 32 25 6) 33)) = some ((filldN S : Nat) : Int) := by
        refine p0_slotsUsed (k := wk w1) (fun i hi => ?_)
        have := sl29 i hi
        rw [gQ_sI, gQ_sCA, gQ_sCA, gQ_sCA, gQ_sCQ, if_pos ⟨rfl, by omega, by omega⟩]
        exact this
      rw [sl, bd_s]
      have ks : keepS [6, 23, 24, 25, 26] s1 (sI (sCA (sCA (sCA (sCQ s1 29 6 ((4 : Nat) : Int)) 30 23 6) 31 24 6) 32 25 6) 26 (gI (sCA (sCA (sCA (sCQ s1 29 6 ((4 : Nat) : Int)) 30 23 6) 31 24 6) 32 25 6) 33)) := by
        refine keepS.sI ?_ (by decide) _
        intro k hk
        simp only [List.mem_cons, List.not_mem_nil, or_false, not_or] at hk
        obtain ⟨z6, z23, z24, z25, z26⟩ := hk
        refine ⟨rfl, fun i => ?_, fun i => ?_⟩
        · show gA (sCA (sCA (sCA (sCQ s1 29 6 ((4 : Nat) : Int)) 30 23 6) 31 24 6) 32 25 6) k i = gA s1 k i
          rw [gA_sCA, if_neg (by rintro ⟨z, -⟩; omega), gA_sCA, if_neg (by rintro ⟨z, -⟩; omega), gA_sCA, if_neg (by rintro ⟨z, -⟩; omega), gA_sCQ]
        · show gQ (sCA (sCA (sCA (sCQ s1 29 6 ((4 : Nat) : Int)) 30 23 6) 31 24 6) 32 25 6) k i = gQ s1 k i
          rw [gQ_sCA, gQ_sCA, gQ_sCA, gQ_sCQ, if_neg (by rintro ⟨z, -⟩; omega)]
      obtain ⟨q1, q2, q3, q4, q5, q6, q7, q8, q9, q10, q11⟩ := r1
      refine ⟨_, (wk w1, h2, [], wF w1, wQ w1), rfl, ⟨q1.keep ks (by decide) (by decide) (by decide), q2.keep ks (by decide) (by decide), fun i e hi he => (ks.A (by decide) _).trans (q3 i e hi he), fun i e hi he hne => (ks.A (by decide) _).trans (q4 i e hi he hne), fun i hi => ?_, ?_, q7.keep ks (by decide) (by decide), (ks.I (by decide)).trans q8, Kpt0.keep (A := asE' (asS' (asI' A (setK (asI A) Ks)) S) E) q9 ks (by decide), q10.keep ks (by decide), q11⟩, o2, ?_⟩
      · have := sl29 i hi
        rw [gQ_sI, gQ_sCA, gQ_sCA, gQ_sCA, gQ_sCQ, if_pos ⟨rfl, by omega, by omega⟩]
        exact this
      · refine Sn6.cpy hE6 sn ?_ (fun x x0 x1 => ?_) (fun x x0 x1 => ?_) (fun x x0 x1 => ?_)
        · rw [gI_sI, if_pos rfl]; rfl
        · rw [gA_sI, gA_sCA, if_neg (by rintro ⟨z, -⟩; omega), gA_sCA, if_neg (by rintro ⟨z, -⟩; omega), gA_sCA, if_pos ⟨rfl, x0, x1⟩, gA_sCQ]
        · rw [gA_sI, gA_sCA, if_neg (by rintro ⟨z, -⟩; omega), gA_sCA, if_pos ⟨rfl, x0, x1⟩, gA_sCA, if_neg (by rintro ⟨z, -⟩; omega), gA_sCQ]
        · rw [gA_sI, gA_sCA, if_pos ⟨rfl, x0, x1⟩, gA_sCA, if_neg (by rintro ⟨z, -⟩; omega), gA_sCA, if_neg (by rintro ⟨z, -⟩; omega), gA_sCQ]
      · unfold cW at cw ⊢
        show h2.2.1 + wQ w1 ≤ _ ∧ h2.2.2 + 4 * wQ w1 ≤ _
        rw [s2]
        omega
    · rw [if_neg (by rw [k1, r7]; omega), if_neg bb]
      exact same _
end OPS
/-! a type is drawn -/
theorem p0_draw {s : Sg} {d : Int} (h : 0 ≤ gI s 27 ∧ gI s 27 < 2147483648) (hd : 0 < d ∧ d < 1000) : fX0_draw s d = some (drw (lcg (gI s 27)) d, sI s 27 (lcg (gI s 27))) := by
  have key := p6_draw (s := sI s 52 (gI s 27)) (d := d) (by rw [gI_sI, if_pos rfl]; exact h) hd
  unfold fX6_draw at key
  rw [gd_t (by omega)] at key
  have k2 := congrArg (fun p => gI p.2 52) (Option.some.inj key)
  simp only [gI_sI, if_true] at k2
  have l0 : 0 ≤ lcg (gI s 27) ∧ lcg (gI s 27) < 2147483648 := by unfold lcg; omega
  unfold fX0_draw
  rw [gd_t (by omega), k2, wr_id (by omega) (by omega), gI_sI, if_pos rfl, p_idv l0.1 l0.2 (by omega) (by omega), p_irm (by omega) (by omega) (by omega) (by omega)]
  rfl

