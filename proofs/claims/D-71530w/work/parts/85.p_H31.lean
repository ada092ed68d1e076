/-! the pure laws: H31 H32 H33 H34 H35 X1 X2 X3 -/
set_option maxRecDepth 100000
/-! PURE: the hash map; a new node at a plain row's end -/
/-- the end of a plain row has a new node: what follows -/
theorem pH_aft {N : Nat} {h h2 : hS} {mp kN : Nat} {E : List En} {F : Nat → Prop} {Q tab n k : Nat} {hv : Int} {o : Nat} {v : Option Nat} {mc thr : Int} {lf : hV} {f : Int → Option Nat} {Ls : Int → List Nat} {pl : Int → Bool} {H : Nat → Int} {K V : Nat → Option Nat} {cnt : Int} {y : Nat} {Y : List Nat}
    (M : MO h mp (some tab) E.length mc thr lf) (hk : n = 2 ^ k) (hk4 : 4 ≤ k) (hnN : n ≤ N) (T : HT h tab n f Ls pl E) (hthr : 4 * thr = 3 * (n : Int)) (hsz : 4 * E.length ≤ 3 * n) (Fm : F mp) (Ft : F tab) (Fn : ∀ (i : Int) (a : Nat), 0 ≤ i → i < (n : Int) → a ∈ Ls i → F a) (Flt : ∀ a, F a → a < h.2.1) (nd : (E.map (·.1)).Nodup) (hr : ∀ e, e ∈ E → rI e.1) (hQ : 3 * E.countP (fun e => pl (ix n e.1)) + 4 * (N - n) ≤ Q)
    (hN : N = 2 ^ kN) (hN16 : kN ≤ 16) (hN64 : 64 ≤ N) (hrv : rI hv) (hno : ∀ e, e ∈ E → e.1 ≠ hv) (hfit : 4 * (E.length + 1) ≤ 3 * N)
    (hL : Ls (ix n hv) = y :: Y) (hpl : pl (ix n hv) = true) (ndL : (y :: Y).Nodup) (P2 : PB h2 H K V none (y :: Y ++ [h.2.1])) (pE : ((y :: Y ++ [h.2.1]).map (tE H K V)).Perm ((hv, some o, v) :: E.filter fun e => decide (ix n e.1 = ix n hv))) (frm : ∀ b, b ∉ y :: Y → b ≠ h.2.1 → h2.1 b = h.1 b) (s1 : h2.2.1 = h.2.1 + 1) (s2 : h2.2.2 = h.2.2 + 4) :
    ∃ h' F' Q', aft h2 mp hv v tab cnt = some (none, h') ∧ HM N h' mp ((hv, some o, v) :: E) F' Q' ∧ fr h h' F F' ∧ h'.2.1 + Q' ≤ h.2.1 + Q + 4 ∧ h'.2.2 + 4 * Q' ≤ h.2.2 + 4 * Q + 16 := by
  have hN65 : N ≤ 65536 := by
    have := Nat.pow_le_pow_right (n := 2) (by omega) hN16
    have e : (2 : Nat) ^ 16 = 65536 := rfl
    omega
  have hk16 : k ≤ 16 := pow_le_of (by omega)
  obtain ⟨l0, l1, ea, B⟩ := T.at hk (by omega) hv
  have mpL : mp ∉ y :: Y := by rw [← hL]; exact B.nm M.c
  have tabL : tab ∉ y :: Y := by rw [← hL]; exact B.nt T.1
  have tlt := T.2.1
  have mlt := Flt _ Fm
  have hlt : ∀ a, a ∈ y :: Y → a < h.2.1 := fun a ha => B.lt (by rw [hL]; exact ha)
  have nd2 : (y :: Y ++ [h.2.1]).Nodup := by
    rw [List.nodup_append]
    exact ⟨ndL, by simp, fun a ha b hb => by simp at hb; have := hlt a ha; omega⟩
  have hlt2 : ∀ a, a ∈ y :: Y ++ [h.2.1] → a < h2.2.1 := by
    intro a ha
    rcases List.mem_append.mp ha with q | q
    · have := hlt a q; omega
    · simp at q; omega
  have B2 : BC h2 true (y :: Y ++ [h.2.1]) ((hv, some o, v) :: E.filter fun e => decide (ix n e.1 = ix n hv)) := ⟨H, K, V, ⟨nd2, P2⟩, pE, hlt2⟩
  have A2 : arQ h2 6 n tab f := by unfold arQ; rw [frm tab tabL (by omega)]; exact T.1
  have M2 : hC h2 (some mp) = some 11 := by rw [hC_cg (frm mp mpL (by omega))]; exact M.c
  have f2 : f (ix n hv) = (y :: Y ++ [h.2.1]).head? := by rw [(T.2.2 _ l0 l1).1, hL]; rfl
  have cc : (((hv, some o, v) :: E).countP fun e => if ix n e.1 = ix n hv then true else pl (ix n e.1)) = 1 + E.countP (fun e => pl (ix n e.1)) := by
    have := cnt_cons (E := E) (n := n) (pl := pl) (hv := hv) (e0 := (hv, some o, v)) (b2 := true) rfl (Or.inl hpl)
    simpa using this
  obtain ⟨F2, Q2, P, ff, d1, d2⟩ := HP_hung (o := o) (v := v) (b2 := true) (L2 := y :: Y ++ [h.2.1]) M hk hk4 hnN T hthr hsz Fm Ft Fn Flt nd hr hQ hN hN16 hrv hno A2 f2 (fun _ _ => rfl) B2 (fun a ha => by
      rcases List.mem_append.mp ha with q | q
      · left; rw [hL]; exact q
      · right; simp at q; omega) (fun b hb hbt hbl => frm b (by rw [← hL]; exact hb) (by omega)) (by omega) (by rw [cc]; omega) (by rw [cc]; omega)
  unfold aft
  by_cases q : cnt < 7
  · rw [if_pos q]
    unfold fJ1_putVal_b222
    simp only [ifN]
    exact pH_fin hN hN16 hfit P ff d1 d2
  · rw [if_neg q, gd_t M2]
    unfold fJ1_treeifyBin fJ1_treeifyBin_b13 fJ1_treeifyBin_b109
    simp only [ifN]
    rw [A2.l, bd_s]
    by_cases q2 : (64 : Int) ≤ n
    · rw [if_pos q2]
      rw [show iand (wr ((n : Int) - 1)) hv = ix n hv from rfl, A2.q l0 l1, bd_s, f2]
      simp only [List.cons_append, List.head?_cons]
      -- the row becomes a tree
      have lenE : (y :: Y ++ [h.2.1]).length = (E.filter fun e => decide (ix n e.1 = ix n hv)).length + 1 := by rw [B2.len]; rfl
      have lfl : (E.filter fun e => decide (ix n e.1 = ix n hv)).length ≤ E.length := List.length_filter_le _ _
      obtain ⟨h3, Ch, e3, T3, o3, m3, g1, g2⟩ := pH_L43 (H := H) (K := K) (V := V) (mp := mp) (tab := tab) (i := ix n hv) (Y ++ [h.2.1]) y FU h2 [] [] P2 hlt2 M2 (by omega) ⟨fun _ => 0, fun _ => none, fun _ => none, fun _ _ => none, fun _ => 0, List.nodup_nil, fun a ha => (by cases ha), trivial, rfl, fun a ha => (by cases ha)⟩ (by simp at lenE ⊢; unfold FU; omega)
      have e3' : fJ1_treeifyBin_L43 FU h2 (some mp) (some tab) (ix n hv) (some y) none none = (bd (aWQ h3 (some tab) 6 [12, 13] (ix n hv) (hdO Ch none)) fun h5 => ifN (hdO Ch none) (fJ1_treeifyBin_b109 h5) (fun _ => gd (hC h5 (hdO Ch none) = some 13) (bd (fJ6_treeify h5 (hdO Ch none) (some tab)) fun p10 => fJ1_treeifyBin_b109 p10))) := e3
      rw [e3']
      simp only [List.nil_append] at T3
      have hCh : Ch.length = (y :: Y ++ [h.2.1]).length := by
        obtain ⟨H9, K9, V9, R9, C9, w1, w2, w3, w4, w5⟩ := T3
        have := congrArg List.length w4
        simpa using this
      have hne : Ch ≠ [] := by rintro rfl; simp at hCh
      have A3 : arQ h3 6 n tab f := by unfold arQ; rw [o3 tab (by simp) (by omega)]; exact A2
      have ndE' : (((y :: Y ++ [h.2.1]).map (tE H K V)).map (·.1)).Nodup := by
        refine (pE.map (·.1)).nodup_iff.mpr ?_
        rw [List.map_cons, List.nodup_cons]
        refine ⟨fun q => ?_, nd.sublist (List.Sublist.map _ List.filter_sublist)⟩
        obtain ⟨e, he, e1⟩ := List.mem_map.mp q
        exact hno e (List.mem_filter.mp he).1 e1
      have inE' : ∀ e, e ∈ (y :: Y ++ [h.2.1]).map (tE H K V) → rI e.1 ∧ ix n e.1 = ix n hv := by
        intro e he
        rcases List.mem_cons.mp (pE.mem_iff.mp he) with rfl | w
        · exact ⟨hrv, rfl⟩
        · exact ⟨hr e (List.mem_filter.mp w).1, by simpa using (List.mem_filter.mp w).2⟩
      obtain ⟨h4, Ch4, f4, e4, B4, m4, A4, fi4, fj4, o4, s4⟩ := TL_treeify (i := ix n hv) T3 hne (by omega) ndE' (fun e he => (inE' e he).1) (fun e he => (inE' e he).2) A3 l0 l1
      have e5 : (bd (bd (aWQ h3 (some tab) 6 [12, 13] (ix n hv) (hdO Ch none)) fun h5 => ifN (hdO Ch none) (fJ1_treeifyBin_b109 h5) (fun _ => gd (hC h5 (hdO Ch none) = some 13) (bd (fJ6_treeify h5 (hdO Ch none) (some tab)) fun p10 => fJ1_treeifyBin_b109 p10))) fun p15 => fJ1_putVal_b222 p15 (some mp) v 0 1 none) = fJ1_putVal_b259 h4 (some mp) 1 := by
        obtain ⟨c, C, rfl⟩ : ∃ c C, Ch = c :: C := by cases Ch with | nil => exact absurd rfl hne | cons c C => exact ⟨c, C, rfl⟩
        cases e6 : aWQ h3 (some tab) 6 [12, 13] (ix n hv) (hdO (c :: C) none) with
        | none => rw [e6] at e4; cases e4
        | some h5 =>
          rw [e6, bd_s] at e4
          rw [bd_s]
          have e0 : ∀ (α : Type) (A B : α) (g : Nat → α), True := fun _ _ _ _ => trivial
          by_cases g : hC h5 (hdO (c :: C) none) = some 13
          · rw [gd_t g] at e4 ⊢
            rw [e4, bd_s]
            rfl
          · unfold gd at e4
            rw [if_neg g] at e4
            cases e4
      rw [e5]
      have cnt3 := cnt_tree (E := E) (n := n) (pl := pl) (hv := hv) (e0 := (hv, some o, v)) rfl hpl
      obtain ⟨w, cw⟩ : ∃ w, (((hv, some o, v) :: E).countP fun e => if ix n e.1 = ix n hv then false else pl (ix n e.1)) = w := ⟨_, rfl⟩
      have cnt3 : w + (E.filter fun e => decide (ix n e.1 = ix n hv)).length = E.countP (fun e => pl (ix n e.1)) := by rw [← cw]; exact cnt3
      have lenY : (Y ++ [h.2.1]).length = (E.filter fun e => decide (ix n e.1 = ix n hv)).length := by simp at lenE ⊢; omega
      have f6 : ∀ b, b < h.2.1 → b ∉ y :: Y → b ≠ tab → h4.1 b = h.1 b := by
        intro b hb hbL hbt
        rw [o4 b (fun q => by rcases m3 b q with w | w; cases w; omega) hbt, o3 b (by simp) (by omega), frm b hbL (by omega)]
      obtain ⟨F4, Q4, P4, ff4, d14, d24⟩ := HP_hung (o := o) (v := v) (b2 := false) (L2 := Ch4) M hk hk4 hnN T hthr hsz Fm Ft Fn Flt nd hr hQ hN hN16 hrv hno A4 fi4 fj4 (B4.perm pE) (fun a ha => by
        rcases m3 a ((m4 a).mp ha) with w | w
        · cases w
        · right; omega) (fun b hb hbt hbl => f6 b hbl (by rw [← hL]; exact hb) hbt) (by rw [s4]; omega) (by rw [s4, g1]; refine Nat.le_trans (Nat.add_le_add_left (Nat.mul_le_mul_left 3 (Nat.le_of_eq cw)) _) ?_; omega) (by rw [s4, g2]; refine Nat.le_trans (Nat.add_le_add_left (Nat.mul_le_mul_left 12 (Nat.le_of_eq cw)) _) ?_; omega)
      exact pH_fin hN hN16 hfit P4 ff4 d14 d24
    · rw [if_neg q2]
      have hn63 : n < N := by omega
      rw [gd_t M2]
      obtain ⟨h', F', Q', e, P', ff', d1', d2'⟩ := HP_resize hN hN16 P rfl hn63
      rw [e, bd_s, bd_s]
      unfold fJ1_putVal_b222
      simp only [ifN]
      exact pH_fin hN hN16 hfit P' (ff.trans ff') (by omega) (by omega)

set_option maxRecDepth 100000
/-! PURE: the hash map; put -/
def putE (E : List En) (hv : Int) (o : Nat) (v : Option Nat) : List En := if E.any (fun e => decide (e.1 = hv)) then E.map (upE hv v) else (hv, some o, v) :: E
theorem putE_y {E : List En} {hv : Int} {o : Nat} {v : Option Nat} (h : ∃ e, e ∈ E ∧ e.1 = hv) : putE E hv o v = E.map (upE hv v) := by
  obtain ⟨e, he, e1⟩ := h
  unfold putE
  rw [if_pos (List.any_eq_true.mpr ⟨e, he, by simpa using e1⟩)]
theorem putE_n {E : List En} {hv : Int} {o : Nat} {v : Option Nat} (h : ∀ e, e ∈ E → e.1 ≠ hv) : putE E hv o v = (hv, some o, v) :: E := by
  unfold putE
  rw [if_neg]
  intro q
  obtain ⟨e, he, e1⟩ := List.any_eq_true.mp q
  exact h e he (by simpa using e1)
/-- what a put gives -/
def puR (N : Nat) (h : hS) (mp : Nat) (E : List En) (F : Nat → Prop) (Q : Nat) (hv : Int) (o : Nat) (v : Option Nat) (Z : Option (Option Nat × hS)) : Prop :=
  ∃ h' F' Q', Z = some (mgt E hv, h') ∧ HM N h' mp (putE E hv o v) F' Q' ∧ fr h h' F F' ∧ h'.2.1 + Q' + 4 * E.length ≤ h.2.1 + Q + 4 * (putE E hv o v).length ∧ h'.2.2 + 4 * Q' + 16 * E.length ≤ h.2.2 + 4 * Q + 16 * (putE E hv o v).length
theorem pH_b29 {N : Nat} {h : hS} {mp kN : Nat} {E : List En} {F : Nat → Prop} {Q tab n : Nat} {hv : Int} {o : Nat} {v : Option Nat} (P : HP N h mp E.length E F Q tab n) (hN : N = 2 ^ kN) (hN16 : kN ≤ 16) (hN64 : 64 ≤ N) (hrv : rI hv) (hk : KE h o hv E) (hfit : 4 * (E.length + 1) ≤ 3 * N) :
    puR N h mp E F Q hv o v (fJ1_putVal_b29 h (some mp) hv (some o) v 0 1 (some tab) n) := by
  have P0 := P
  obtain ⟨mc, thr, lf, k, f, Ls, pl, M, hkn, hk4, hnN, T, hthr, hsz, Fm, Ft, Fn, Flt, nd, hr, hQ⟩ := P
  have hN65 : N ≤ 65536 := by
    have := Nat.pow_le_pow_right (n := 2) (by omega) hN16
    have e : (2 : Nat) ^ 16 = 65536 := rfl
    omega
  have hk16 : k ≤ 16 := pow_le_of (by omega)
  obtain ⟨l0, l1, ea, B⟩ := T.at hkn (by omega) hv
  have mlt := Flt _ Fm
  have tlt := T.2.1
  have notin : (∀ e, e ∈ E.filter (fun e => decide (ix n e.1 = ix n hv)) → e.1 ≠ hv) → ∀ e, e ∈ E → e.1 ≠ hv := by
    intro q e he e1
    exact q e (List.mem_filter.mpr ⟨he, by simp [e1]⟩) e1
  -- if it is there
  have found : ∀ a, a ∈ Ls (ix n hv) → hI h (some a) [(12, 0), (13, 2)] = some hv → puR N h mp E F Q hv o v (fJ1_putVal_b222 h (some mp) v 0 1 (some a)) := by
    intro a ha hI'
    obtain ⟨h', e, M', ff, s, ex⟩ := pH_found M hkn hk4 hnN T hthr hsz Fm Ft Fn Flt nd hr hQ hN65 v ha hI'
    exact ⟨h', F, Q, e, by rw [putE_y ex]; exact M', ff, by rw [s, putE_y ex, List.length_map]; omega, by rw [s, putE_y ex, List.length_map]; omega⟩
  -- if it is not
  have fresh : ∀ (h2 : hS) (Z : Option (Option Nat × hS)), (∀ e, e ∈ E → e.1 ≠ hv) → (∃ h' F' Q', Z = some (none, h') ∧ HM N h' mp ((hv, some o, v) :: E) F' Q' ∧ fr h h' F F' ∧ h'.2.1 + Q' ≤ h.2.1 + Q + 4 ∧ h'.2.2 + 4 * Q' ≤ h.2.2 + 4 * Q + 16) → puR N h mp E F Q hv o v Z := by
    rintro h2 Z hno ⟨h', F', Q', e, M', r1, r2, r3⟩
    exact ⟨h', F', Q', by rw [mgt_no hno]; exact e, by rw [putE_n hno]; exact M', r1, by rw [putE_n hno, List.length_cons]; omega, by rw [putE_n hno, List.length_cons]; omega⟩
  unfold fJ1_putVal_b29
  rw [show iand (wr ((n : Int) - 1)) hv = ix n hv from rfl, ea, bd_s]
  cases hL : Ls (ix n hv) with
  | nil =>
    rw [hL] at B
    have hE0 : E.filter (fun e => decide (ix n e.1 = ix n hv)) = [] := by
      have := B.len
      exact List.eq_nil_of_length_eq_zero this.symm
    have hno : ∀ e, e ∈ E → e.1 ≠ hv := notin (fun e he => by rw [hE0] at he; cases he)
    simp only [List.head?_nil, ifN]
    rw [gd_t M.c]
    obtain ⟨h1, e1, a1, o1, s1, s1'⟩ := p_newNode h (some mp) hv (some o) v none
    rw [e1, bd_s]
    have A1 : arQ h1 6 n tab f := by unfold arQ; rw [o1 tab (by omega)]; exact T.1
    obtain ⟨h2, e2, A2, o2, s2⟩ := A1.w l0 l1 (P := [12, 13]) (v := some h.2.1) (Or.inr ⟨12, by simp, (ndA_p a1).2.2.2.2⟩)
    simp only
    rw [e2, bd_s]
    have B2 : BC h2 true [h.2.1] ((hv, some o, v) :: E.filter fun e => decide (ix n e.1 = ix n hv)) := by
      rw [hE0]
      exact BC_one (e := (hv, some o, v)) (by rw [o2 _ (by omega)]; exact a1) (by rw [s2, s1]; omega)
    have cc := cnt_cons (E := E) (n := n) (pl := pl) (hv := hv) (e0 := (hv, some o, v)) (b2 := true) rfl (Or.inr hE0)
    obtain ⟨F2, Q2, P2, ff, d1, d2⟩ := HP_hung (o := o) (v := v) (b2 := true) (L2 := [h.2.1]) M hkn hk4 hnN T hthr hsz Fm Ft Fn Flt nd hr hQ hN hN16 hrv hno A2 (by simp [upI]) (fun j hj => by simp [upI, hj]) B2 (fun a ha => Or.inr (by simp at ha; omega)) (fun b hb hbt hbl => by rw [o2 b hbt, o1 b (by omega)]) (by rw [s2]; omega) (by rw [cc, s2, s1]; simp; omega) (by rw [cc, s2, s1']; simp; omega)
    exact fresh h2 _ hno (pH_fin hN hN16 hfit P2 ff d1 d2)
  | cons x Y =>
    have hLx : x ∈ Ls (ix n hv) := by rw [hL]; simp
    have B0 := B
    rw [hL] at B
    have ndL : (x :: Y).Nodup := by
      obtain ⟨H, K, V, K0, hp, hlt⟩ := B
      cases hpl : pl (ix n hv) with
      | true => rw [hpl] at K0; exact K0.1
      | false => rw [hpl] at K0; obtain ⟨R, C, TT⟩ := K0; exact TT.1
    obtain ⟨e, he, n1, n2, n3, n4, n5⟩ := B.hd
    simp only [List.head?_cons, ifN]
    rw [n1, bd_s]
    have lenB : (x :: Y).length < 80000 := by
      rw [B.len]
      have : (E.filter fun e => decide (ix n e.1 = ix n hv)).length ≤ E.length := List.length_filter_le _ _
      omega
    by_cases c : e.1 = hv
    · rw [if_neg (by simpa using c), n2, bd_s]
      have fx := found x hLx (by rw [n1, c])
      unfold fJ1_putVal_b97
      by_cases c2 : e.2.1 = some o
      · rw [if_pos c2]; exact fx
      · rw [if_neg c2]
        rcases hk e (List.mem_filter.mp he).1 c with w | ⟨w, w0, w1⟩
        · exact absurd w c2
        · rw [w1, bd_s, if_neg w0]; exact fx
    · rw [if_pos (by simpa using c)]
      unfold fJ1_putVal_b104
      cases hpl : pl (ix n hv) with
      | true =>
        rw [hpl] at B n5
        have n5 : hC h (some x) = some 12 := n5
        rw [if_neg (inC_12 n5), gd_t n5]
        obtain ⟨H, K, V, ⟨_, PBB⟩, hp, hlt⟩ := B
        have Hx : H x ≠ hv := by
          intro q
          have := (ndA_p PBB.1).1
          rw [n1] at this
          exact c ((Option.some.inj this).trans q)
        have hkk : ∀ a, a ∈ Y → H a = hv → K a = some o ∨ ∃ w, w ≠ 0 ∧ D1_equals h (some o) (K a) = some w := by
          intro a ha q
          have := hp.mem_iff.mp (List.mem_map.mpr ⟨a, List.mem_cons_of_mem _ ha, rfl⟩)
          exact hk (tE H K V a) (List.mem_filter.mp this).1 q
        have xnot : h.2.1 ∉ x :: Y := fun q => by have := hlt _ q; omega
        rcases pH_134 (v := v) (tab := tab) (k := o) M.c Y x FU 0 PBB ndL xnot hkk (by simp at lenB; unfold FU; omega) (by omega) (by simp at lenB; omega) with ⟨a, ha, e1, e2⟩ | ⟨q1, h2, e2, P2, o2, s1, s2⟩
        · rw [e2]
          obtain ⟨nx, ea⟩ := PB_at PBB (List.mem_cons_of_mem x ha)
          exact found a (by rw [hL]; simp [ha]) (by rw [(ndA_p ea).1, e1])
        · rw [e2]
          have hno : ∀ e, e ∈ E → e.1 ≠ hv := notin (fun e he q => by
            obtain ⟨a, ha, rfl⟩ := List.mem_map.mp (hp.mem_iff.mpr he)
            rcases List.mem_cons.mp ha with rfl | ha
            · exact Hx q
            · exact q1 a ha q)
          have pE : ((x :: Y ++ [h.2.1]).map (tE (upN H h.2.1 hv) (upO K h.2.1 (some o)) (upO V h.2.1 v))).Perm ((hv, some o, v) :: E.filter fun e => decide (ix n e.1 = ix n hv)) := by
            rw [List.map_append]
            have e1 : (x :: Y).map (tE (upN H h.2.1 hv) (upO K h.2.1 (some o)) (upO V h.2.1 v)) = (x :: Y).map (tE H K V) := by
              apply List.map_congr_left
              intro a ha
              have : a ≠ h.2.1 := fun e => xnot (e ▸ ha)
              simp [tE, upN, upO, this]
            have e2 : [h.2.1].map (tE (upN H h.2.1 hv) (upO K h.2.1 (some o)) (upO V h.2.1 v)) = [(hv, some o, v)] := by simp [tE, upN, upO]
            rw [e1, e2]
            refine (List.perm_append_comm (l₁ := (x :: Y).map (tE H K V)) (l₂ := [(hv, some o, v)])).trans ?_
            exact hp.cons _
          exact fresh h2 _ hno (pH_aft M hkn hk4 hnN T hthr hsz Fm Ft Fn Flt nd hr hQ hN hN16 hN64 hrv hno hfit hL hpl ndL P2 pE o2 s1 s2)
      | false =>
        rw [hpl] at B n5
        have n5 : hC h (some x) = some 13 := n5
        rw [if_pos (inC_13 n5), gd_t (Or.inr (inC_13 n5)), gd_t n5]
        obtain ⟨H, K, V, ⟨R, C, TT⟩, hp, hlt⟩ := B
        have xnot : h.2.1 ∉ x :: Y := fun q => by have := hlt _ q; omega
        have inE : ∀ a, a ∈ x :: Y → tE H K V a ∈ E ∧ ix n (H a) = ix n hv := by
          intro a ha
          have := hp.mem_iff.mp (List.mem_map.mpr ⟨a, ha, rfl⟩)
          exact ⟨(List.mem_filter.mp this).1, of_decide_eq_true (List.mem_filter.mp this).2⟩
        have tabL : tab ∉ x :: Y := by rw [← hL]; exact B0.nt T.1
        rcases pH_putTreeVal (v := v) (o1 := mp) (k := o) lenB TT rfl xnot M.c T.1 tabL (by omega) hrv (i := ix n hv) rfl (fun a ha => (inE a ha).2) l0 l1 (by rw [(T.2.2 _ l0 l1).1, hL]) (fun a ha q => hk (tE H K V a) (inE a ha).1 q) with ⟨a, ha, e1, e2⟩ | ⟨q1, h2, Ch', R', C', f', e2, TB2, m2, A2, fi2, fj2, o2, s1, s2⟩
        · rw [e2, bd_s]
          exact found a (by rw [hL]; exact ha) (by rw [(ndA_t TT.2.1 (show a ∈ x :: Y from ha)).1]; exact congrArg some e1)
        · rw [e2, bd_s]
          have hno : ∀ e, e ∈ E → e.1 ≠ hv := notin (fun e he q => by
            obtain ⟨a, ha, rfl⟩ := List.mem_map.mp (hp.mem_iff.mpr he)
            exact q1 a ha q)
          have pE : (Ch'.map (tE (upN H h.2.1 hv) (upO K h.2.1 (some o)) (upO V h.2.1 v))).Perm ((hv, some o, v) :: E.filter fun e => decide (ix n e.1 = ix n hv)) := by
            have p1 : Ch'.Perm (h.2.1 :: x :: Y) := (List.perm_ext_iff_of_nodup TB2.1 (List.nodup_cons.mpr ⟨xnot, ndL⟩)).mpr (fun a => by rw [m2 a]; simp)
            refine (p1.map _).trans ?_
            have e1 : (x :: Y).map (tE (upN H h.2.1 hv) (upO K h.2.1 (some o)) (upO V h.2.1 v)) = (x :: Y).map (tE H K V) := by
              apply List.map_congr_left
              intro a ha
              have : a ≠ h.2.1 := fun e => xnot (e ▸ ha)
              simp [tE, upN, upO, this]
            have e2 : tE (upN H h.2.1 hv) (upO K h.2.1 (some o)) (upO V h.2.1 v) h.2.1 = (hv, some o, v) := by simp [tE, upN, upO]
            rw [List.map_cons, e1, e2]
            exact hp.cons _
          have B2 : BC h2 false Ch' ((hv, some o, v) :: E.filter fun e => decide (ix n e.1 = ix n hv)) := ⟨_, _, _, ⟨R', C', TB2⟩, pE, fun a ha => by
            rcases (m2 a).mp ha with w | w
            · omega
            · have := hlt a w; omega⟩
          have cc := cnt_cons (E := E) (n := n) (pl := pl) (hv := hv) (e0 := (hv, some o, v)) (b2 := false) rfl (Or.inl hpl)
          obtain ⟨F2, Q2, P2, ff, d1, d2⟩ := HP_hung (o := o) (v := v) (b2 := false) (L2 := Ch') M hkn hk4 hnN T hthr hsz Fm Ft Fn Flt nd hr hQ hN hN16 hrv hno A2 fi2 fj2 B2 (fun a ha => by
            rcases (m2 a).mp ha with w | w
            · right; omega
            · left; rw [hL]; exact w) (fun b hb hbt hbl => o2 b (by rw [← hL]; exact hb) hbt (by omega)) (by omega) (by rw [cc, s1]; simp; omega) (by rw [cc, s2]; simp; omega)
          exact fresh h2 _ hno (pH_fin hN hN16 hfit P2 ff d1 d2)

set_option maxRecDepth 100000
/-! PURE: the hash map; put, all of it; size -/
theorem pH_put {N : Nat} {h : hS} {mp kN : Nat} {E : List En} {F : Nat → Prop} {Q : Nat} {hv : Int} {o : Nat} {v : Option Nat} (P : HM N h mp E F Q) (hN : N = 2 ^ kN) (hN16 : kN ≤ 16) (hN64 : 64 ≤ N) (hh : fJ1_hash h (some o) = some hv) (hrv : rI hv) (hk : KE h o hv E) (hfit : 4 * (E.length + 1) ≤ 3 * N) :
    puR N h mp E F Q hv o v (fJ1_put h (some mp) (some o) v) := by
  obtain ⟨tq, mc, thr, lf, M, Fm, Flt, nd, hr, T⟩ := P
  have M : MO h mp tq E.length mc thr lf := M
  have fin : ∀ Z, puR N h mp E F Q hv o v Z → Z = fJ1_putVal h (some mp) hv (some o) v 0 1 → puR N h mp E F Q hv o v (fJ1_put h (some mp) (some o) v) := by
    rintro Z ⟨h', F', Q', e, r⟩ eZ
    refine ⟨h', F', Q', ?_, r⟩
    unfold fJ1_put
    rw [hh, bd_s, gd_t M.c, ← eZ, e, bd_s]
  cases tq with
  | some tab =>
    obtain ⟨k, n, f, Ls, pl, hkn, hk4, hnN, Ft, Fn, T, hthr, hsz, hQ⟩ := T
    have hn0 : 0 < n := by rw [hkn]; exact Nat.pow_pos (by omega)
    refine fin _ (pH_b29 (v := v) ⟨mc, thr, lf, k, f, Ls, pl, M, hkn, hk4, hnN, T, hthr, hsz, Fm, Ft, Fn, Flt, nd, hr, hQ⟩ hN hN16 hN64 hrv hk hfit) ?_
    unfold fJ1_putVal
    rw [M.t, bd_s]
    simp only [ifN]
    rw [T.1.l, bd_s, if_pos (by omega)]
  | none =>
    obtain ⟨rfl, rfl, hQ⟩ := T
    have mlt := Flt _ Fm
    obtain ⟨h1, e1, M1, A1, o1, s1, s1'⟩ := pH_resize0 M mlt
    have P1 : HP N h1 mp ([] : List En).length [] (fun a => F a ∨ a = h.2.1) (4 * (N - 16)) h.2.1 16 := by
      refine ⟨mc, 12, lf, 4, fun _ => none, fun _ => [], fun _ => true, M1, rfl, by omega, by omega, ⟨A1, by omega, fun i _ _ => ⟨rfl, BC.nil h1⟩⟩, by decide, by simp, Or.inl Fm, Or.inr rfl, fun i a _ _ ha => (by cases ha), fun a ha => ?_, nd, hr, by simp⟩
      rcases ha with ha | ha
      · have := Flt a ha; omega
      · omega
    obtain ⟨h', F', Q', e, M', ff, d1, d2⟩ := pH_b29 (v := v) P1 hN hN16 hN64 hrv (fun e he => by cases he) hfit
    refine fin (fJ1_putVal_b29 h1 (some mp) hv (some o) v 0 1 (some h.2.1) 16) ⟨h', F', Q', e, M', fr.trans (F' := fun a => F a ∨ a = h.2.1) ⟨fun a ha => ?_, fun b hb hbl => o1 b (fun q => hb (q ▸ Fm)) (by omega), by omega⟩ ff, by omega, by omega⟩ ?_
    · rcases ha with ha | ha
      · exact Or.inl ha
      · right; omega
    · unfold fJ1_putVal fJ1_putVal_b19
      rw [M.t, bd_s]
      simp only [ifN]
      rw [gd_t M.c, e1, bd_s, A1.l, bd_s]
      rfl
theorem pH_size {N : Nat} {h : hS} {mp : Nat} {E : List En} {F : Nat → Prop} {Q : Nat} (P : HM N h mp E F Q) : fJ1_size h (some mp) = some ((E.length : Nat) : Int) := by
  obtain ⟨tq, mc, thr, lf, M, r⟩ := P
  have M : MO h mp tq E.length mc thr lf := M
  unfold fJ1_size
  rw [M.s, bd_s]
/-- what isn't the map's may change -/
theorem HM.cg {N : Nat} {h h' : hS} {mp : Nat} {E : List En} {F : Nat → Prop} {Q : Nat} (P : HM N h mp E F Q) (o : ∀ b, F b → h'.1 b = h.1 b) (hle : h.2.1 ≤ h'.2.1) : HM N h' mp E F Q := by
  obtain ⟨tq, mc, thr, lf, M, Fm, Flt, nd, hr, T⟩ := P
  refine ⟨tq, mc, thr, lf, by rw [o mp Fm]; exact M, Fm, fun a ha => by have := Flt a ha; omega, nd, hr, ?_⟩
  cases tq with
  | none => exact T
  | some tab =>
    obtain ⟨k, n, f, Ls, pl, hkn, hk4, hnN, Ft, Fn, T, hthr, hsz, hQ⟩ := T
    refine ⟨k, n, f, Ls, pl, hkn, hk4, hnN, Ft, Fn, ⟨?_, by have := T.2.1; omega, fun i h0 h1 => ?_⟩, hthr, hsz, hQ⟩
    · unfold arQ; rw [o tab Ft]; exact T.1
    · obtain ⟨e, B⟩ := T.2.2 i h0 h1
      exact ⟨e, B.cg (fun a ha => o a (Fn i a h0 h1 ha)) hle⟩

set_option maxRecDepth 100000
/-! PURE: the hash map; clear -/
theorem pH_clear_L {tab n : Nat} (hn : n ≤ 65536) : ∀ (r f : Nat) (h : hS) (g : Int → Option Nat) (i : Int), arQ h 6 n tab g → 0 ≤ i → i + r = n → r < f →
    ∃ h' g', fJ1_clear_L33 f h (some tab) i = some h' ∧ arQ h' 6 n tab g' ∧ (∀ j, i ≤ j → j < (n : Int) → g' j = none) ∧ (∀ j, j < i → g' j = g j) ∧ (∀ b, b ≠ tab → h'.1 b = h.1 b) ∧ h'.2 = h.2 := by
  intro r
  induction r with
  | zero =>
    intro f h g i A h0 h1 hf
    obtain ⟨f, rfl⟩ : ∃ k, f = k + 1 := ⟨f - 1, by omega⟩
    rw [fJ1_clear_L33_s, fJ1_clear_b33, A.l, bd_s, if_pos (by omega)]
    exact ⟨h, g, rfl, A, fun j a b => by omega, fun _ _ => rfl, fun _ _ => rfl, rfl⟩
  | succ r ih =>
    intro f h g i A h0 h1 hf
    obtain ⟨f, rfl⟩ : ∃ k, f = k + 1 := ⟨f - 1, by omega⟩
    rw [fJ1_clear_L33_s, fJ1_clear_b33, A.l, bd_s, if_neg (by omega)]
    obtain ⟨h1', e1, A1, o1, s1⟩ := A.w h0 (by omega) (P := [12, 13]) (v := none) (Or.inl rfl)
    rw [e1, bd_s, wr_id (by omega) (by omega)]
    obtain ⟨h2, g2, e2, A2, z2, k2, o2, s2⟩ := ih f h1' _ (i + 1) A1 (by omega) (by omega) (by omega)
    refine ⟨h2, g2, e2, A2, fun j a b => ?_, fun j a => ?_, fun b hb => by rw [o2 b hb, o1 b hb], by rw [s2, s1]⟩
    · by_cases q : j = i
      · rw [k2 j (by omega), q]; simp [upI]
      · exact z2 j (by omega) b
    · have : ¬ j = i := by omega
      rw [k2 j (by omega)]; simp [upI, this]
theorem pH_clear {N : Nat} {h : hS} {mp : Nat} {E : List En} {F : Nat → Prop} {Q : Nat} (hN : N ≤ 65536) (P : HM N h mp E F Q) :
    ∃ h', fJ1_clear h (some mp) = some h' ∧ HM N h' mp [] F Q ∧ (∀ b, ¬ F b → h'.1 b = h.1 b) ∧ h'.2 = h.2 := by
  obtain ⟨tq, mc, thr, lf, M, Fm, Flt, nd, hr, T⟩ := P
  have M : MO h mp tq E.length mc thr lf := M
  obtain ⟨h1, e1, a1, o1, s1⟩ := M.w (k := 5) (vi (wr (mc + 1))) (by omega)
  have M1 : MO h1 mp tq E.length (wr (mc + 1)) thr lf := by unfold MO; rw [a1]; rfl
  unfold fJ1_clear fJ1_clear_b49
  rw [M.m, bd_s, e1, bd_s, M1.t, bd_s]
  cases tq with
  | none =>
    obtain ⟨rfl, rfl, hQ⟩ := T
    exact ⟨h1, rfl, ⟨none, wr (mc + 1), 0, lf, M1, Fm, fun a ha => by rw [s1]; exact Flt a ha, nd, hr, rfl, rfl, hQ⟩, fun b hb => o1 b (fun q => hb (q ▸ Fm)), s1⟩
  | some tab =>
    obtain ⟨k, n, f, Ls, pl, hkn, hk4, hnN, Ft, Fn, T, hthr, hsz, hQ⟩ := T
    simp only [ifN]
    rw [M1.s, bd_s]
    have T1 := T.mo M.c o1 s1
    by_cases q : E.length = 0
    · have hE : E = [] := List.eq_nil_of_length_eq_zero q
      subst hE
      rw [if_pos (by simp)]
      exact ⟨h1, rfl, ⟨some tab, wr (mc + 1), thr, lf, M1, Fm, fun a ha => by rw [s1]; exact Flt a ha, nd, hr, k, n, f, Ls, pl, hkn, hk4, hnN, Ft, Fn, T1, hthr, hsz, hQ⟩, fun b hb => o1 b (fun q => hb (q ▸ Fm)), s1⟩
    · rw [if_neg (by omega)]
      obtain ⟨h2, e2, a2, o2, s2⟩ := M1.w (k := 4) (vi 0) (by omega)
      have M2 : MO h2 mp (some tab) 0 (wr (mc + 1)) thr lf := by unfold MO; rw [a2]; rfl
      rw [e2, bd_s]
      have T2 := T1.mo M1.c o2 s2
      obtain ⟨h3, g3, e3, A3, z3, k3, o3, s3⟩ := pH_clear_L (tab := tab) (n := n) (by omega) n FU h2 f 0 T2.1 (by omega) (by omega) (by unfold FU; omega)
      have ne : mp ≠ tab := arQ_ne T2.1 M2.c
      have s4 : h3.2 = h.2 := by rw [s3, s2, s1]
      refine ⟨h3, e3, ⟨some tab, wr (mc + 1), thr, lf, ?_, Fm, fun a ha => by rw [s4]; exact Flt a ha, List.nodup_nil, fun e he => (by cases he), k, n, g3, fun _ => [], fun _ => true, hkn, hk4, hnN, Ft, fun i a _ _ ha => (by cases ha), ⟨A3, by rw [s4]; exact T.2.1, fun i h0 h1 => ⟨z3 i h0 h1, BC.nil h3⟩⟩, hthr, by simp, ?_⟩, fun b hb => ?_, s4⟩
      · have : MO h3 mp (some tab) 0 (wr (mc + 1)) thr lf := by unfold MO; rw [o3 mp ne]; exact M2
        exact this
      · simp only [List.countP_nil]; omega
      · rw [o3 b (fun q => hb (q ▸ Ft)), o2 b (fun q => hb (q ▸ Fm)), o1 b (fun q => hb (q ▸ Fm))]

set_option maxRecDepth 100000
/-! PURE: the hash map; a new map -/
/-- a HashMap just made and its constructor -/
theorem pH_new (N : Nat) (h : hS) :
    ∃ h', (bd (nwS h 11 [vq none, vq none, vq none, vq none, vi 0, vi 0, vi 0, .inr (.inr (.inl 0))]) fun p6 => bd (fJ1_init p6.2 (some p6.1)) fun p9 => some (p6.1, p9)) = some (h.2.1, h') ∧ HM N h' h.2.1 [] (fun a => a = h.2.1) (4 * N) ∧ (∀ b, b ≠ h.2.1 → h'.1 b = h.1 b) ∧ h'.2.1 = h.2.1 + 1 ∧ h'.2.2 = h.2.2 + 8 := by
  unfold nwS
  rw [bd_s]
  dsimp only
  unfold fJ1_init fJ0_init
  rw [gd_t (by simp), gd_t (by simp), bd_s]
  obtain ⟨h1, e1, a1, o1, s1⟩ := hW_at (P := [(11, 7)]) (v := ((.inr (.inr (.inl 1061158912)) : hV))) (nwO_at h 11 [vq none, vq none, vq none, vq none, vi 0, vi 0, vi 0, .inr (.inr (.inl 0))]) rfl (by simp)
  rw [e1, bd_s, bd_s]
  refine ⟨h1, rfl, ⟨none, 0, 0, .inr (.inr (.inl 1061158912)), by rw [a1]; rfl, rfl, ?_, List.nodup_nil, fun e he => (by cases he), rfl, rfl, Nat.le_refl _⟩, fun b hb => by rw [o1 b hb, nwO_ne h 11 _ hb], by rw [s1]; rfl, by rw [s1]; rfl⟩
  intro a ha
  rw [s1, ha]
  show h.2.1 < h.2.1 + 1
  omega

set_option maxRecDepth 100000
/-! PURE: class DictProof: types as objects; their hash; equality -/
/-- the object at a is the type t -/
def isT (h : hS) : Nat → Tm → Prop
  | a, .num i => h.1 a = some (.inl (7, [vi (sgT (.num i)), vq none, vq none]))
  | a, .var i => h.1 a = some (.inl (7, [vi (sgT (.var i)), vq none, vq none]))
  | a, .mulL k t => ∃ b, h.1 a = some (.inl (7, [vi (sgT (.mulL k t)), vq (some b), vq none])) ∧ isT h b t
  | a, .mulR t k => ∃ b, h.1 a = some (.inl (7, [vi (sgT (.mulR t k)), vq (some b), vq none])) ∧ isT h b t
  | a, .add t u => ∃ b c, h.1 a = some (.inl (7, [vi (sgT (.add t u)), vq (some b), vq (some c)])) ∧ isT h b t ∧ isT h c u
def dpT : Tm → Nat
  | .num _ => 1
  | .var _ => 1
  | .mulL _ t => dpT t + 1
  | .mulR t _ => dpT t + 1
  | .add t u => max (dpT t) (dpT u) + 1
/-- mixing of a hash -/
def mxH (a b c : Int) : Int :=
  ixor (wr ((wr ((wr (a + (wr (31 * b)))) + (wr (1009 * c)))) * (-1640531535))) (iush (wr ((wr (a + (wr (31 * b)))) + (wr (1009 * c)))) 13)
def hhT : Tm → Int
  | .num i => mxH (sgT (.num i)) 0 0
  | .var i => mxH (sgT (.var i)) 0 0
  | .mulL k t => mxH (sgT (.mulL k t)) (hhT t) 0
  | .mulR t k => mxH (sgT (.mulR t k)) (hhT t) 0
  | .add t u => mxH (sgT (.add t u)) (hhT t) (hhT u)
theorem isT.c {h : hS} {a : Nat} {t : Tm} (T : isT h a t) : hC h (some a) = some 7 := by
  unfold hC nn
  cases t <;> simp only [isT] at T
  · simp only [T]
  · simp only [T]
  · obtain ⟨b, c, e, -⟩ := T; simp only [e]
  · obtain ⟨b, e, -⟩ := T; simp only [e]
  · obtain ⟨b, e, -⟩ := T; simp only [e]
theorem p_hashT : ∀ (t : Tm) (d : Nat) (h : hS) (a : Nat), dpT t ≤ d → isT h a t → fX7_hashCode d h (some a) = some (hhT t) := by
  intro t
  have rd : ∀ {h : hS} {a : Nat} {s : Int} {p q : Option Nat}, h.1 a = some (.inl (7, [vi s, vq p, vq q])) → hI h (some a) [(7, 0)] = some s ∧ hQ h (some a) [(7, 1)] = some p ∧ hQ h (some a) [(7, 2)] = some q := by
    intro h a s p q e
    unfold hI hQ hF nn
    simp only [e]
    exact ⟨rfl, rfl, rfl⟩
  induction t with
  | num i =>
    intro d h a hd T
    obtain ⟨d, rfl⟩ : ∃ k, d = k + 1 := ⟨d - 1, by simp [dpT] at hd; omega⟩
    obtain ⟨r0, r1, r2⟩ := rd T
    show fX7_hashCode_B (fX7_hashCode d) h (some a) = _
    unfold fX7_hashCode_B fX7_hashCode_b24 fX7_hashCode_b47
    rw [r0, bd_s, r1, bd_s]; simp only [ifN]; rw [r2, bd_s]; rfl
  | var i =>
    intro d h a hd T
    obtain ⟨d, rfl⟩ : ∃ k, d = k + 1 := ⟨d - 1, by simp [dpT] at hd; omega⟩
    obtain ⟨r0, r1, r2⟩ := rd T
    show fX7_hashCode_B (fX7_hashCode d) h (some a) = _
    unfold fX7_hashCode_B fX7_hashCode_b24 fX7_hashCode_b47
    rw [r0, bd_s, r1, bd_s]; simp only [ifN]; rw [r2, bd_s]; rfl
  | add t u iht ihu =>
    intro d h a hd T
    obtain ⟨d, rfl⟩ : ∃ k, d = k + 1 := ⟨d - 1, by simp [dpT] at hd; omega⟩
    obtain ⟨b, c, e, T1, T2⟩ := T
    obtain ⟨r0, r1, r2⟩ := rd e
    show fX7_hashCode_B (fX7_hashCode d) h (some a) = _
    unfold fX7_hashCode_B fX7_hashCode_b24 fX7_hashCode_b47
    simp only [dpT] at hd
    rw [r0, bd_s, r1, bd_s]; simp only [ifN]; rw [bd_s, gd_t T1.c, iht d h b (by omega) T1, bd_s, r2, bd_s]; simp only [ifN]; rw [bd_s, gd_t T2.c, ihu d h c (by omega) T2, bd_s]; rfl
  | mulL k t iht =>
    intro d h a hd T
    obtain ⟨d, rfl⟩ : ∃ k, d = k + 1 := ⟨d - 1, by simp [dpT] at hd; omega⟩
    obtain ⟨b, e, T1⟩ := T
    obtain ⟨r0, r1, r2⟩ := rd e
    show fX7_hashCode_B (fX7_hashCode d) h (some a) = _
    unfold fX7_hashCode_B fX7_hashCode_b24 fX7_hashCode_b47
    simp only [dpT] at hd
    rw [r0, bd_s, r1, bd_s]; simp only [ifN]; rw [bd_s, gd_t T1.c, iht d h b (by omega) T1, bd_s, r2, bd_s]; rfl
  | mulR t k iht =>
    intro d h a hd T
    obtain ⟨d, rfl⟩ : ∃ k, d = k + 1 := ⟨d - 1, by simp [dpT] at hd; omega⟩
    obtain ⟨b, e, T1⟩ := T
    obtain ⟨r0, r1, r2⟩ := rd e
    show fX7_hashCode_B (fX7_hashCode d) h (some a) = _
    unfold fX7_hashCode_B fX7_hashCode_b24 fX7_hashCode_b47
    simp only [dpT] at hd
    rw [r0, bd_s, r1, bd_s]; simp only [ifN]; rw [bd_s, gd_t T1.c, iht d h b (by omega) T1, bd_s, r2, bd_s]; rfl

set_option maxRecDepth 100000
/-! PURE: class DictProof: equal types are equal; goals -/
theorem rdT {h : hS} {a : Nat} {s : Int} {p q : Option Nat} (e : h.1 a = some (.inl (7, [vi s, vq p, vq q]))) : hI h (some a) [(7, 0)] = some s ∧ hQ h (some a) [(7, 1)] = some p ∧ hQ h (some a) [(7, 2)] = some q ∧ inC h (some a) [7] = true := by
  unfold hI hQ hF inC hC nn
  simp only [e]
  exact ⟨rfl, rfl, rfl, rfl⟩
theorem p_eqT : ∀ (t : Tm) (d : Nat) (h : hS) (a b : Nat), dpT t ≤ d → isT h a t → isT h b t → fX7_equals d h (some a) (some b) = some 1 := by
  intro t
  induction t with
  | num i =>
    intro d h a b hd T1 T2
    obtain ⟨d, rfl⟩ : ∃ k, d = k + 1 := ⟨d - 1, by simp [dpT] at hd; omega⟩
    obtain ⟨r0, r1, r2, r3⟩ := rdT T1
    obtain ⟨q0, q1, q2, q3⟩ := rdT T2
    show fX7_equals_B (fX7_equals d) h (some a) (some b) = _
    unfold fX7_equals_B fX7_equals_b46 fX7_equals_b67 fX7_equals_b72
    rw [gd_t q3, gd_t (Or.inr q3), q0, bd_s, r0, bd_s, if_pos rfl, r1, bd_s]; simp only [ifN]; rw [r2, bd_s]; rfl
  | var i =>
    intro d h a b hd T1 T2
    obtain ⟨d, rfl⟩ : ∃ k, d = k + 1 := ⟨d - 1, by simp [dpT] at hd; omega⟩
    obtain ⟨r0, r1, r2, r3⟩ := rdT T1
    obtain ⟨q0, q1, q2, q3⟩ := rdT T2
    show fX7_equals_B (fX7_equals d) h (some a) (some b) = _
    unfold fX7_equals_B fX7_equals_b46 fX7_equals_b67 fX7_equals_b72
    rw [gd_t q3, gd_t (Or.inr q3), q0, bd_s, r0, bd_s, if_pos rfl, r1, bd_s]; simp only [ifN]; rw [r2, bd_s]; rfl
  | add t u iht ihu =>
    intro d h a b hd T1 T2
    obtain ⟨d, rfl⟩ : ∃ k, d = k + 1 := ⟨d - 1, by simp [dpT] at hd; omega⟩
    obtain ⟨b1, c1, e1, T11, T12⟩ := T1
    obtain ⟨b2, c2, e2, T21, T22⟩ := T2
    obtain ⟨r0, r1, r2, r3⟩ := rdT e1
    obtain ⟨q0, q1, q2, q3⟩ := rdT e2
    show fX7_equals_B (fX7_equals d) h (some a) (some b) = _
    unfold fX7_equals_B fX7_equals_b46 fX7_equals_b67 fX7_equals_b71 fX7_equals_b72
    simp only [dpT] at hd
    rw [gd_t q3, gd_t (Or.inr q3), q0, bd_s, r0, bd_s, if_pos rfl, r1, bd_s]; simp only [ifN]
    rw [bd_s, q1, bd_s, gd_t T11.c, iht d h b1 b2 (by omega) T11 T21, bd_s, if_neg (by decide), r2, bd_s]; simp only [ifN]
    rw [bd_s, q2, bd_s, gd_t T12.c, ihu d h c1 c2 (by omega) T12 T22, bd_s, if_neg (by decide)]; rfl
  | mulL k t iht =>
    intro d h a b hd T1 T2
    obtain ⟨d, rfl⟩ : ∃ k, d = k + 1 := ⟨d - 1, by simp [dpT] at hd; omega⟩
    obtain ⟨b1, e1, T11⟩ := T1
    obtain ⟨b2, e2, T21⟩ := T2
    obtain ⟨r0, r1, r2, r3⟩ := rdT e1
    obtain ⟨q0, q1, q2, q3⟩ := rdT e2
    show fX7_equals_B (fX7_equals d) h (some a) (some b) = _
    unfold fX7_equals_B fX7_equals_b46 fX7_equals_b67 fX7_equals_b71 fX7_equals_b72
    simp only [dpT] at hd
    rw [gd_t q3, gd_t (Or.inr q3), q0, bd_s, r0, bd_s, if_pos rfl, r1, bd_s]; simp only [ifN]
    rw [bd_s, q1, bd_s, gd_t T11.c, iht d h b1 b2 (by omega) T11 T21, bd_s, if_neg (by decide), r2, bd_s]; rfl
  | mulR t k iht =>
    intro d h a b hd T1 T2
    obtain ⟨d, rfl⟩ : ∃ k, d = k + 1 := ⟨d - 1, by simp [dpT] at hd; omega⟩
    obtain ⟨b1, e1, T11⟩ := T1
    obtain ⟨b2, e2, T21⟩ := T2
    obtain ⟨r0, r1, r2, r3⟩ := rdT e1
    obtain ⟨q0, q1, q2, q3⟩ := rdT e2
    show fX7_equals_B (fX7_equals d) h (some a) (some b) = _
    unfold fX7_equals_B fX7_equals_b46 fX7_equals_b67 fX7_equals_b71 fX7_equals_b72
    simp only [dpT] at hd
    rw [gd_t q3, gd_t (Or.inr q3), q0, bd_s, r0, bd_s, if_pos rfl, r1, bd_s]; simp only [ifN]
    rw [bd_s, q1, bd_s, gd_t T11.c, iht d h b1 b2 (by omega) T11 T21, bd_s, if_neg (by decide), r2, bd_s]; rfl
/-- the object at a is the goal (class k, type t) -/
def isG (h : hS) (a : Nat) (k : Int) (t : Tm) : Prop := ∃ b, h.1 a = some (.inl (9, [vi k, vq (some b)])) ∧ isT h b t
theorem rdG {h : hS} {a b : Nat} {k : Int} (e : h.1 a = some (.inl (9, [vi k, vq (some b)]))) : hI h (some a) [(9, 0)] = some k ∧ hQ h (some a) [(9, 1)] = some (some b) ∧ inC h (some a) [9] = true ∧ hC h (some a) = some 9 := by
  unfold hI hQ hF inC hC nn
  simp only [e]
  refine ⟨rfl, rfl, rfl, ?_⟩
  simp only
/-- the hash the map keeps of a goal -/
def hhG (k : Int) (t : Tm) : Int := wr ((wr (31 * hhT t)) + k)
def spH (x : Int) : Int := ixor x (iush x 16)
theorem p_hashG {h : hS} {a : Nat} {k : Int} {t : Tm} (G : isG h a k t) (hd : dpT t ≤ 16) : fJ1_hash h (some a) = some (spH (hhG k t)) := by
  obtain ⟨b, e, T⟩ := G
  obtain ⟨r0, r1, r2, r3⟩ := rdG e
  unfold fJ1_hash fJ1_hash_b19 D0_hashCode fX9_hashCode
  simp only [ifN]
  rw [if_neg (by rw [r3]; decide), if_pos r3, r1, bd_s, gd_t T.c, p_hashT t 16 h b hd T, bd_s, r0, bd_s, bd_s]
  rfl
theorem p_eqG {h : hS} {a b : Nat} {k : Int} {t : Tm} (G1 : isG h a k t) (G2 : isG h b k t) (hd : dpT t ≤ 16) : D1_equals h (some a) (some b) = some 1 := by
  obtain ⟨c1, e1, T1⟩ := G1
  obtain ⟨c2, e2, T2⟩ := G2
  obtain ⟨r0, r1, r2, r3⟩ := rdG e1
  obtain ⟨q0, q1, q2, q3⟩ := rdG e2
  unfold D1_equals fX9_equals fX9_equals_b42
  rw [if_neg (by rw [r3]; decide), if_pos r3, gd_t q2, gd_t (Or.inr q2), q0, bd_s, r0, bd_s, if_neg (by simp), q1, bd_s, r1, bd_s, gd_t T2.c, p_eqT t 16 h c2 c1 hd T2 T1, bd_s, if_neg (by decide)]
  rfl

set_option maxRecDepth 100000
/-! PURE: class DictProof: what stays of the heap; equality of types, size, variable -/
/-- all of k is in h -/
def ext (k h : hS) : Prop := ∀ a e, k.1 a = some e → h.1 a = some e
theorem ext.refl (h : hS) : ext h h := fun _ _ e => e
theorem ext.trans {a b c : hS} (x : ext a b) (y : ext b c) : ext a c := fun i e q => y i e (x i e q)
/-- all of k lies in h, outside the cells that may change -/
def Kp (k h : hS) (F : Nat → Prop) : Prop := (∀ a e, k.1 a = some e → h.1 a = some e ∧ a < h.2.1 ∧ ¬ F a) ∧ ∀ a, F a → a < h.2.1
theorem Kp.ext {k h : hS} {F : Nat → Prop} (K : Kp k h F) : ext k h := fun a e q => (K.1 a e q).1
theorem Kp.nk {k h : hS} {F : Nat → Prop} (K : Kp k h F) {a : Nat} (ha : h.2.1 ≤ a) : k.1 a = none := by
  cases q : k.1 a with
  | none => rfl
  | some e => have := (K.1 a e q).2.1; omega
theorem Kp.nF {k h : hS} {F : Nat → Prop} (K : Kp k h F) {a : Nat} (ha : F a) : k.1 a = none := by
  cases q : k.1 a with
  | none => rfl
  | some e => exact absurd ha (K.1 a e q).2.2
/-- the heap changes only where k isn't -/
theorem Kp.go {k h h' : hS} {F : Nat → Prop} (K : Kp k h F) (o : ∀ b, k.1 b ≠ none → h'.1 b = h.1 b) (hle : h.2.1 ≤ h'.2.1) : Kp k h' F := by
  refine ⟨fun a e q => ?_, fun a ha => by have := K.2 a ha; omega⟩
  obtain ⟨x, y, z⟩ := K.1 a e q
  exact ⟨(o a (by rw [q]; exact fun h => by cases h)).trans x, by omega, z⟩
theorem Kp.frm {k h h' : hS} {F F' : Nat → Prop} (K : Kp k h F) (f : fr h h' F F') (F'lt : ∀ a, F' a → a < h'.2.1) : Kp k h' F' := by
  refine ⟨fun a e q => ?_, F'lt⟩
  obtain ⟨x, y, z⟩ := K.1 a e q
  refine ⟨(f.2.1 a z y).trans x, by have := f.2.2; omega, fun w => ?_⟩
  rcases f.1 a w with w | w
  · exact z w
  · omega
/-- an object more -/
theorem Kp.add {k h : hS} {F : Nat → Prop} (K : Kp k h F) {a : Nat} {e : hE} (hk : k.1 a = none) (he : h.1 a = some e) (hl : a < h.2.1) (hF : ¬ F a) : Kp (hup k a e) h F ∧ ∀ b e', k.1 b = some e' → (hup k a e).1 b = some e' := by
  refine ⟨⟨fun b e' q => ?_, K.2⟩, fun b e' q => ?_⟩
  · unfold hup at q
    simp only at q
    split at q
    · rename_i hb; cases q; subst hb; exact ⟨he, hl, hF⟩
    · exact K.1 b e' q
  · unfold hup
    simp only
    split
    · rename_i hb; subst hb; rw [hk] at q; cases q
    · exact q
theorem hup_at (k : hS) (a : Nat) (e : hE) : (hup k a e).1 a = some e := by unfold hup; simp
theorem hup_ne (k : hS) {a b : Nat} (e : hE) (h : b ≠ a) : (hup k a e).1 b = k.1 b := by unfold hup; simp [h]
theorem isT.mono {k h : hS} (x : ext k h) : ∀ {t : Tm} {a : Nat}, isT k a t → isT h a t := by
  intro t
  induction t with
  | num i => intro a T; exact x _ _ T
  | var i => intro a T; exact x _ _ T
  | add t u iht ihu => rintro a ⟨b, c, e, T1, T2⟩; exact ⟨b, c, x _ _ e, iht T1, ihu T2⟩
  | mulL c t ih => rintro a ⟨b, e, T⟩; exact ⟨b, x _ _ e, ih T⟩
  | mulR t c ih => rintro a ⟨b, e, T⟩; exact ⟨b, x _ _ e, ih T⟩
theorem isG.mono {k h : hS} (x : ext k h) {a : Nat} {c : Int} {t : Tm} (G : isG k a c t) : isG h a c t := by
  obtain ⟨b, e, T⟩ := G
  exact ⟨b, x _ _ e, T.mono x⟩
theorem dpT_le : ∀ t : Tm, okT t → dpT t ≤ szT t := by
  intro t
  induction t with
  | num i => intro _; simp [dpT, szT]
  | var i => intro _; simp [dpT, szT]
  | add t u iht ihu => intro h; have := iht h.1; have := ihu h.2; simp only [dpT, szT]; omega
  | mulL c t ih => intro h; have := ih h.2; simp only [dpT, szT]; omega
  | mulR t c ih => intro h; exact h.elim
/-- what a type's object holds: its sign, what is in it -/
def tO : Tm → Option Tm
  | .mulL _ t => some t
  | .add t _ => some t
  | _ => none
def tW : Tm → Option Tm
  | .add _ t => some t
  | _ => none
def opT (h : hS) (o : Option Nat) (t : Option Tm) : Prop := match t with
  | none => o = none
  | some u => ∃ a, o = some a ∧ isT h a u
theorem isT.rd {h : hS} {a : Nat} {t : Tm} (T : isT h a t) (ht : okT t) : ∃ p q, h.1 a = some (.inl (7, [vi (sgT t), vq p, vq q])) ∧ opT h p (tO t) ∧ opT h q (tW t) ∧ hI h (some a) [(7, 0)] = some (sgT t) ∧ hQ h (some a) [(7, 1)] = some p ∧ hQ h (some a) [(7, 2)] = some q ∧ inC h (some a) [7] = true ∧ hC h (some a) = some 7 := by
  have hc := T.c
  cases t with
  | num i => obtain ⟨x1, x2, x3, x4⟩ := rdT T; exact ⟨_, _, T, rfl, rfl, x1, x2, x3, x4, hc⟩
  | var i => obtain ⟨x1, x2, x3, x4⟩ := rdT T; exact ⟨_, _, T, rfl, rfl, x1, x2, x3, x4, hc⟩
  | mulL k t => obtain ⟨b, e, T1⟩ := T; obtain ⟨x1, x2, x3, x4⟩ := rdT e; exact ⟨_, _, e, ⟨b, rfl, T1⟩, rfl, x1, x2, x3, x4, hc⟩
  | add t u => obtain ⟨b, c, e, T1, T2⟩ := T; obtain ⟨x1, x2, x3, x4⟩ := rdT e; exact ⟨_, _, e, ⟨b, rfl, T1⟩, ⟨c, rfl, T2⟩, x1, x2, x3, x4, hc⟩
  | mulR t k => exact ht.elim
theorem ok_o {t u : Tm} (h : okT t) (e : tO t = some u) : okT u ∧ dpT u < dpT t ∧ szT u < szT t := by
  cases t with
  | num i => cases e
  | var i => cases e
  | mulL k t => cases e; exact ⟨h.2, by simp [dpT], by simp [szT]⟩
  | add t v => cases e; exact ⟨h.1, by simp [dpT]; omega, by simp [szT]; omega⟩
  | mulR t k => exact h.elim
theorem ok_w {t u : Tm} (h : okT t) (e : tW t = some u) : okT u ∧ dpT u < dpT t ∧ szT u < szT t := by
  cases t with
  | num i => cases e
  | var i => cases e
  | mulL k t => cases e
  | add t v => cases e; exact ⟨h.2, by simp [dpT]; omega, by simp [szT]; omega⟩
  | mulR t k => exact h.elim
theorem t_eq {t u : Tm} (h : okT t) (h' : okT u) : t = u ↔ sgT t = sgT u ∧ tO t = tO u ∧ tW t = tW u := by
  refine ⟨fun e => by subst e; exact ⟨rfl, rfl, rfl⟩, ?_⟩
  rintro ⟨e1, e2, e3⟩
  cases t with
  | num i =>
    cases u with
    | num j => simp only [sgT] at e1; have : i = j := by omega
               rw [this]
    | var j => rcases h with rfl | rfl <;> (simp only [sgT] at e1; omega)
    | mulL k t => cases e2
    | add t v => cases e2
    | mulR t k => exact h'.elim
  | var i =>
    cases u with
    | var j => simp only [sgT] at e1; have : @Eq Nat i j := by omega
               rw [this]
    | num j => rcases h' with rfl | rfl <;> (simp only [sgT] at e1; omega)
    | mulL k t => cases e2
    | add t v => cases e2
    | mulR t k => exact h'.elim
  | mulL k t =>
    cases u with
    | mulL k' t' => cases e2; rw [show k = k' from (show k = 0 from h.1).trans (show k' = 0 from h'.1).symm]
    | num j => cases e2
    | var j => cases e2
    | add t v => cases e3
    | mulR t k => exact h'.elim
  | add t v =>
    cases u with
    | add t' v' => cases e2; cases e3; rfl
    | num j => cases e2
    | var j => cases e2
    | mulL k t => cases e3
    | mulR t k => exact h'.elim
  | mulR t k => exact h.elim
theorem sg_ow {t u : Tm} (h : okT t) (h' : okT u) (e : sgT t = sgT u) : ((tO t).isSome = (tO u).isSome) ∧ ((tW t).isSome = (tW u).isSome) := by
  cases t <;> cases u <;> simp only [sgT, okT] at * <;> (first | exact ⟨rfl, rfl⟩ | omega)
theorem p_equalsT : ∀ (d : Nat) (t u : Tm) (h : hS) (a b : Nat), okT t → okT u → dpT t ≤ d → isT h a t → isT h b u → fX7_equals d h (some a) (some b) = some (b01 (flat t = flat u)) := by
  intro d
  induction d with
  | zero => intro t u h a b _ _ hd; cases t <;> simp [dpT] at hd
  | succ d ih =>
    intro t u h a b ot ou hd T1 T2
    obtain ⟨p1, q1, -, po1, pw1, r0, r1, r2, r3, r4⟩ := T1.rd ot
    obtain ⟨p2, q2, -, po2, pw2, s0, s1, s2, s3, s4⟩ := T2.rd ou
    show fX7_equals_B (fX7_equals d) h (some a) (some b) = _
    unfold fX7_equals_B
    rw [gd_t s3, gd_t (Or.inr s3), s0, bd_s, r0, bd_s]
    by_cases hs : sgT u = sgT t
    · rw [if_pos hs, r1, bd_s]
      obtain ⟨i1, i2⟩ := sg_ow ot ou hs.symm
      -- the second part
      have two : ∀ (P : Prop) [Decidable P], P → (P ∧ tO t = tO u) → fX7_equals_b46 (fX7_equals d) h (some a) (some b) = some (b01 (flat t = flat u)) := by
        intro P _ _ hP
        unfold fX7_equals_b46 fX7_equals_b67 fX7_equals_b71 fX7_equals_b72
        rw [r2, bd_s]
        cases ew : tW t with
        | none =>
          rw [ew] at pw1 i2
          have : tW u = none := by cases q : tW u with
            | none => rfl
            | some v => rw [q] at i2; cases i2
          rw [show q1 = none from pw1]
          simp only [ifN]
          rw [gd_t (by simp), (b01_1 (p := flat t = flat u)).mpr ((flat_eq ot ou).mpr <| (t_eq ot ou).mpr ⟨hs.symm, hP.2, by rw [ew, this]⟩)]
        | some t2 =>
          rw [ew] at pw1 i2
          obtain ⟨c1, rfl, T12⟩ := pw1
          cases ew2 : tW u with
          | none => rw [ew2] at i2; cases i2
          | some u2 =>
            rw [ew2] at pw2
            obtain ⟨c2, rfl, T22⟩ := pw2
            simp only [ifN]
            obtain ⟨o1, d1, -⟩ := ok_w ot ew
            obtain ⟨o2, -, -⟩ := ok_w ou ew2
            rw [bd_s, s2, bd_s, gd_t T12.c, ih t2 u2 h c1 c2 o1 o2 (by omega) T12 T22, bd_s]
            by_cases e2 : t2 = u2
            · rw [(b01_1 (p := flat t2 = flat u2)).mpr ((flat_eq o1 o2).mpr e2), if_neg (by decide), gd_t (by simp), (b01_1 (p := flat t = flat u)).mpr ((flat_eq ot ou).mpr <| (t_eq ot ou).mpr ⟨hs.symm, hP.2, by rw [ew, ew2, e2]⟩)]
            · rw [(b01_0 (p := flat t2 = flat u2)).mpr (fun q => e2 ((flat_eq o1 o2).mp q)), if_pos rfl, gd_t (by simp), (b01_0 (p := flat t = flat u)).mpr (fun q => e2 (by have := ((t_eq ot ou).mp ((flat_eq ot ou).mp q)).2.2; rw [ew, ew2] at this; exact Option.some.inj this))]
      cases eo : tO t with
      | none =>
        rw [eo] at po1 i1
        have : tO u = none := by cases q : tO u with
          | none => rfl
          | some v => rw [q] at i1; cases i1
        rw [show p1 = none from po1]
        simp only [ifN]
        exact two True trivial ⟨trivial, by rw [eo, this]⟩
      | some t1 =>
        rw [eo] at po1 i1
        obtain ⟨c1, rfl, T11⟩ := po1
        cases eo2 : tO u with
        | none => rw [eo2] at i1; cases i1
        | some u1 =>
          rw [eo2] at po2
          obtain ⟨c2, rfl, T21⟩ := po2
          simp only [ifN]
          obtain ⟨o1, d1, -⟩ := ok_o ot eo
          obtain ⟨o2, -, -⟩ := ok_o ou eo2
          rw [bd_s, s1, bd_s, gd_t T11.c, ih t1 u1 h c1 c2 o1 o2 (by omega) T11 T21, bd_s]
          by_cases e1 : t1 = u1
          · rw [(b01_1 (p := flat t1 = flat u1)).mpr ((flat_eq o1 o2).mpr e1), if_neg (by decide)]
            exact two True trivial ⟨trivial, by rw [eo, eo2, e1]⟩
          · rw [(b01_0 (p := flat t1 = flat u1)).mpr (fun q => e1 ((flat_eq o1 o2).mp q)), if_pos rfl]
            unfold fX7_equals_b71 fX7_equals_b72
            rw [gd_t (by simp), (b01_0 (p := flat t = flat u)).mpr (fun q => e1 (by have := ((t_eq ot ou).mp ((flat_eq ot ou).mp q)).2.1; rw [eo, eo2] at this; exact Option.some.inj this))]
    · rw [if_neg hs]
      unfold fX7_equals_b23
      rw [(b01_0 (p := flat t = flat u)).mpr (fun q => hs (by rw [(flat_eq ot ou).mp q]))]
theorem p0_isV (c : Int) : fX0_isVariableSign c = some (b01 (c = 120 ∨ c = 121)) := by
  unfold fX0_isVariableSign fX0_isVariableSign_b12 fX0_isVariableSign_b17
  by_cases h1 : c = 120
  · rw [if_pos h1, gd_t (Or.inr rfl), (b01_1 (p := c = 120 ∨ c = 121)).mpr (Or.inl h1)]
  · rw [if_neg h1]
    by_cases h2 : c = 121
    · rw [if_neg (by simpa using h2), gd_t (Or.inr rfl), (b01_1 (p := c = 120 ∨ c = 121)).mpr (Or.inr h2)]
    · rw [if_pos h2, gd_t (Or.inl rfl), (b01_0 (p := c = 120 ∨ c = 121)).mpr (by rintro (q | q); exact h1 q; exact h2 q)]
/-- which variable -/
def vrT : Tm → Int
  | .var v => v
  | _ => -1
theorem p_variable {h : hS} {a : Nat} {t : Tm} (T : isT h a t) (ht : okT t) : fX7_variable h (some a) = some (vrT t) := by
  obtain ⟨p, q, -, -, -, r0, -⟩ := T.rd ht
  unfold fX7_variable fX7_variable_b21
  rw [r0, bd_s, p0_isV, bd_s]
  have sv := sg_var ht
  cases t with
  | var v =>
    have hv : @LT.lt Nat instLTNat v 2 := ht
    rw [(b01_1 (p := sgT (.var v) = 120 ∨ sgT (.var v) = 121)).mpr (sv.mpr rfl), if_neg (by decide), bd_s]
    simp only [sgT, vrT]
    rw [show (120 : Int) + (v : Int) - 120 = v by omega, wr_id (by omega) (by omega)]
  | num c => rw [(b01_0 (p := sgT (.num c) = 120 ∨ sgT (.num c) = 121)).mpr (fun q => by have := sv.mp q; cases this), if_pos rfl]; rfl
  | mulL k t => rw [(b01_0 (p := sgT (.mulL k t) = 120 ∨ sgT (.mulL k t) = 121)).mpr (fun q => by have := sv.mp q; cases this), if_pos rfl]; rfl
  | add t u => rw [(b01_0 (p := sgT (.add t u) = 120 ∨ sgT (.add t u) = 121)).mpr (fun q => by have := sv.mp q; cases this), if_pos rfl]; rfl
  | mulR t k => exact ht.elim
theorem vr_v {t : Tm} (ht : okT t) : vrT t = -1 ↔ isV t = false := by
  cases t with
  | var v => simp only [vrT, isV]; constructor
             · intro h; omega
             · intro h; cases h
  | num c => simp [vrT, isV]
  | mulL k t => simp [vrT, isV]
  | add t u => simp [vrT, isV]
  | mulR t k => exact ht.elim
theorem p_sizeT : ∀ (d : Nat) (t : Tm) (h : hS) (a : Nat), okT t → szT t < 1000000 → dpT t ≤ d → isT h a t → fX7_size d h (some a) = some (szT t : Int) := by
  intro d
  induction d with
  | zero => intro t h a _ _ hd; cases t <;> simp [dpT] at hd
  | succ d ih =>
    intro t h a ot hz hd T1
    obtain ⟨p1, q1, -, po1, pw1, r0, r1, r2, r3, r4⟩ := T1.rd ot
    show fX7_size_B (fX7_size d) h (some a) = _
    unfold fX7_size_B fX7_size_b19 fX7_size_b38
    rw [r1, bd_s]
    cases t with
    | num i =>
      rw [show p1 = none from po1, r2, bd_s, show q1 = none from pw1]
      rfl
    | var i =>
      rw [show p1 = none from po1, r2, bd_s, show q1 = none from pw1]
      rfl
    | mulR t k => exact ot.elim
    | mulL k t =>
      obtain ⟨c1, rfl, T⟩ := po1
      simp only [dpT, szT] at hd hz
      simp only [ifN]
      rw [bd_s, gd_t T.c, ih t h c1 ot.2 (by omega) (by omega) T, bd_s, r2, bd_s, show q1 = none from pw1]
      simp only [ifN, szT]
      rw [wr_id (x := 1 + (szT t : Int)) (by omega) (by omega), wr_id (by omega) (by omega)]
      congr 1
      omega
    | add t u =>
      obtain ⟨c1, rfl, T⟩ := po1
      obtain ⟨c2, rfl, U⟩ := pw1
      simp only [dpT, szT] at hd hz
      simp only [ifN]
      rw [bd_s, gd_t T.c, ih t h c1 ot.1 (by omega) (by omega) T, bd_s, r2, bd_s]
      simp only
      rw [bd_s, gd_t U.c, ih u h c2 ot.2 (by omega) (by omega) U, bd_s, wr_id (x := 1 + (szT t : Int)) (by omega) (by omega), wr_id (by omega) (by omega)]
      simp only [szT]
      congr 1
      omega

