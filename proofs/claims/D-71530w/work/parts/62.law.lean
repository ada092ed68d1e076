/-! the law's cases (printed by wip gen/runL.py) -/
set_option maxRecDepth 100000
set_option maxHeartbeats 1000000
theorem lcm3_z {x y : Int} (h : x = y) : lcm3 x y = 0 := by subst h; simp [lcm3]
theorem rI_wr (x : Int) : rI (wr x) := rI_to _
theorem injO_xm {N : Nx} {bx bm : Nat} {adx adm : Nat → Nat} (h : np N = [(0, bx, adx), (6, bm, adm)]) : injO N := injO_2 h (by show (0 : Nat) ≠ 6; decide)
theorem xN_L (nm : String) : xN LN nm = true := by simp [xN, LN]
theorem iand31 (x : Int) : 0 ≤ iand x 31 := by
  show 0 ≤ ((I32 x).toBitVec &&& (I32 31).toBitVec).toInt
  have h : ((I32 x).toBitVec &&& (I32 31).toBitVec).msb = false := by
    rw [BitVec.msb_and, show ((I32 31).toBitVec).msb = false from by decide, Bool.and_false]
  rw [BitVec.toInt_eq_toNat_of_msb h]
  exact Int.natCast_nonneg _
def fL_0 (G : Gx) (adx : Nat → Nat) (i : Int) (sx sm : Sg) (h : hS) : Option (Sg × Sg × hS) := gd (inb (wr (i + 1)) (xL G)) (bd (fX0_letter sx (xs G (wr (i + 1)))) fun p => bd (fX6_letter sm (xs G (wr (i + 1)))) fun q => gd (p.1 = q.1) (some (p.2, q.2, h)))
theorem wL_0 {N : Nx} {bx bm : Nat} {adx adm : Nat → Nat} {sx sm : Sg} {h : hS} {i : Int} {z : Sg × Sg × hS} (hp : np N = [(0, bx, adx), (6, bm, adm)]) (e : fL_0 (nG N) adx i sx sm h = some z) (K : AtPc cL_law LN 8192 104096 N [z.1, z.2.1] z.2.2 742 [(3, ti i), (2, tr (some bm)), (1, tr (some bx)), (0, tr (some (xA (nG N))))] []) : AtPc cL_law LN 8192 104096 N [sx, sm] h 132 [(3, ti i), (2, tr (some bm)), (1, tr (some bx)), (0, tr (some (xA (nG N))))] [] := by
  unfold fL_0 at e
  obtain ⟨g9, e⟩ := gd_o e
  obtain ⟨p, c1, e⟩ := bd_o e
  obtain ⟨q, c2, e⟩ := bd_o e
  obtain ⟨c3, e⟩ := gd_o e
  cases e
  refine r_rr (fun rr => ?_)
  refine r_aload_n dL_law_132 rfl 2 rfl ?_
  refine r_aload_n dL_law_133 rfl 3 rfl ?_
  refine r_iload_n dL_law_134 rfl 0 rfl ?_
  refine r_iconst dL_law_135 ?_
  refine r_iadd dL_law_136 ?_
  refine r_xld (rI_wr _) (g9) dL_law_137 ?_
  have k0 := kX0_letter (G := nG N) (b := bx) (ad := adx) (h := h) (xs_r _ _) c1
  have z0 := (k0 (rr.cut (subO_a hp) getO_a)).1.2.2.2
  refine r_callV (j := some 0) 1 [ti (xs (nG N) (wr (i + 1)))] (rec_sg (j := 0) (r := (RX0, TX0, 36)) rfl (by rw [hp]; rfl)) rfl k0 (injO_xm hp) (subO_a hp) getO_a setO_a (lw_V q391 q392 q393 q115 q394) (by decide +kernel) rfl (Nat.le_of_ble_eq_true rfl) (Nat.le_of_ble_eq_true rfl) rfl (Nat.le_of_ble_eq_true rfl) dL_law_138 rfl ?_
  refine r_rr (fun rr1 => ?_)
  refine r_aload_n dL_law_141 rfl 1 rfl ?_
  refine r_aload_n dL_law_142 rfl 3 rfl ?_
  refine r_iload_n dL_law_143 rfl 0 rfl ?_
  refine r_iconst dL_law_144 ?_
  refine r_iadd dL_law_145 ?_
  refine r_xld (rI_wr _) (g9) dL_law_146 ?_
  have k1 := kX6_letter (G := nG N) (b := bm) (ad := adm) (h := h) (xs_r _ _) c2
  have z1 := (k1 (rr1.cut (subO_b hp) getO_b)).1.2.2.2
  refine r_callV (j := some 1) 1 [ti (xs (nG N) (wr (i + 1)))] (rec_sg (j := 1) (r := (RX6, TX6, 63)) rfl (by rw [hp]; rfl)) rfl k1 (injO_xm hp) (subO_b hp) getO_b setO_b (lw_V q1595 q1596 q1597 q123 q1598) (by decide +kernel) rfl (Nat.le_of_ble_eq_true rfl) (Nat.le_of_ble_eq_true rfl) rfl (Nat.le_of_ble_eq_true rfl) dL_law_147 rfl ?_
  refine r_rr (fun rr2 => ?_)
  exact r_icmp_eq z0 z1 742 dL_law_150 (by decide) (fun _ => K) (fun c => absurd c3 c)
def fL_1 (G : Gx) (adx : Nat → Nat) (i : Int) (sx sm : Sg) (h : hS) : Option (Sg × Sg × hS) := bd (fX0_blank sx) fun p => bd (fX6_blank sm) fun q => gd (p.1 = q.1) (some (p.2, q.2, h))
theorem wL_1 {N : Nx} {bx bm : Nat} {adx adm : Nat → Nat} {sx sm : Sg} {h : hS} {i : Int} {z : Sg × Sg × hS} (hp : np N = [(0, bx, adx), (6, bm, adm)]) (e : fL_1 (nG N) adx i sx sm h = some z) (K : AtPc cL_law LN 8192 104096 N [z.1, z.2.1] z.2.2 742 [(3, ti i), (2, tr (some bm)), (1, tr (some bx)), (0, tr (some (xA (nG N))))] []) : AtPc cL_law LN 8192 104096 N [sx, sm] h 155 [(3, ti i), (2, tr (some bm)), (1, tr (some bx)), (0, tr (some (xA (nG N))))] [] := by
  unfold fL_1 at e
  obtain ⟨p, c1, e⟩ := bd_o e
  obtain ⟨q, c2, e⟩ := bd_o e
  obtain ⟨c3, e⟩ := gd_o e
  cases e
  refine r_rr (fun rr => ?_)
  refine r_aload_n dL_law_155 rfl 2 rfl ?_
  have k0 := kX0_blank (G := nG N) (b := bx) (ad := adx) (h := h) c1
  have z0 := (k0 (rr.cut (subO_a hp) getO_a)).1.2.2.2
  refine r_callV (j := some 0) 0 [] (rec_sg (j := 0) (r := (RX0, TX0, 36)) rfl (by rw [hp]; rfl)) rfl k0 (injO_xm hp) (subO_a hp) getO_a setO_a (lw_V q400 q401 q402 q115 q403) (by decide +kernel) rfl (Nat.le_of_ble_eq_true rfl) (Nat.le_of_ble_eq_true rfl) rfl (Nat.le_of_ble_eq_true rfl) dL_law_156 rfl ?_
  refine r_rr (fun rr1 => ?_)
  refine r_aload_n dL_law_159 rfl 1 rfl ?_
  have k1 := kX6_blank (G := nG N) (b := bm) (ad := adm) (h := h) c2
  have z1 := (k1 (rr1.cut (subO_b hp) getO_b)).1.2.2.2
  refine r_callV (j := some 1) 0 [] (rec_sg (j := 1) (r := (RX6, TX6, 63)) rfl (by rw [hp]; rfl)) rfl k1 (injO_xm hp) (subO_b hp) getO_b setO_b (lw_V q1602 q1603 q1604 q123 q1605) (by decide +kernel) rfl (Nat.le_of_ble_eq_true rfl) (Nat.le_of_ble_eq_true rfl) rfl (Nat.le_of_ble_eq_true rfl) dL_law_160 rfl ?_
  refine r_rr (fun rr2 => ?_)
  exact r_icmp_eq z0 z1 742 dL_law_163 (by decide) (fun _ => K) (fun c => absurd c3 c)
def fL_2 (G : Gx) (adx : Nat → Nat) (i : Int) (sx sm : Sg) (h : hS) : Option (Sg × Sg × hS) := bd (fX0_fault sx) fun p => bd (fX6_fault sm) fun q => gd (p.1 = q.1) (some (p.2, q.2, h))
theorem wL_2 {N : Nx} {bx bm : Nat} {adx adm : Nat → Nat} {sx sm : Sg} {h : hS} {i : Int} {z : Sg × Sg × hS} (hp : np N = [(0, bx, adx), (6, bm, adm)]) (e : fL_2 (nG N) adx i sx sm h = some z) (K : AtPc cL_law LN 8192 104096 N [z.1, z.2.1] z.2.2 742 [(3, ti i), (2, tr (some bm)), (1, tr (some bx)), (0, tr (some (xA (nG N))))] []) : AtPc cL_law LN 8192 104096 N [sx, sm] h 168 [(3, ti i), (2, tr (some bm)), (1, tr (some bx)), (0, tr (some (xA (nG N))))] [] := by
  unfold fL_2 at e
  obtain ⟨p, c1, e⟩ := bd_o e
  obtain ⟨q, c2, e⟩ := bd_o e
  obtain ⟨c3, e⟩ := gd_o e
  cases e
  refine r_rr (fun rr => ?_)
  refine r_aload_n dL_law_168 rfl 2 rfl ?_
  have k0 := kX0_fault (G := nG N) (b := bx) (ad := adx) (h := h) c1
  have z0 := (k0 (rr.cut (subO_a hp) getO_a)).1.2.2.2
  refine r_callV (j := some 0) 0 [] (rec_sg (j := 0) (r := (RX0, TX0, 36)) rfl (by rw [hp]; rfl)) rfl k0 (injO_xm hp) (subO_a hp) getO_a setO_a (lw_V q404 q405 q406 q115 q407) (by decide +kernel) rfl (Nat.le_of_ble_eq_true rfl) (Nat.le_of_ble_eq_true rfl) rfl (Nat.le_of_ble_eq_true rfl) dL_law_169 rfl ?_
  refine r_rr (fun rr1 => ?_)
  refine r_aload_n dL_law_172 rfl 1 rfl ?_
  have k1 := kX6_fault (G := nG N) (b := bm) (ad := adm) (h := h) c2
  have z1 := (k1 (rr1.cut (subO_b hp) getO_b)).1.2.2.2
  refine r_callV (j := some 1) 0 [] (rec_sg (j := 1) (r := (RX6, TX6, 63)) rfl (by rw [hp]; rfl)) rfl k1 (injO_xm hp) (subO_b hp) getO_b setO_b (lw_V q1606 q1607 q1608 q123 q1609) (by decide +kernel) rfl (Nat.le_of_ble_eq_true rfl) (Nat.le_of_ble_eq_true rfl) rfl (Nat.le_of_ble_eq_true rfl) dL_law_173 rfl ?_
  refine r_rr (fun rr2 => ?_)
  exact r_icmp_eq z0 z1 742 dL_law_176 (by decide) (fun _ => K) (fun c => absurd c3 c)
def fL_3 (G : Gx) (adx : Nat → Nat) (i : Int) (sx sm : Sg) (h : hS) : Option (Sg × Sg × hS) := bd (fX0_book G.2.2.2 (some (adx 20)) sx h) fun p => bd (fX6_book sm) fun q => gd (p.1 = q.1) (some (p.2.1, q.2, p.2.2))
theorem wL_3 {N : Nx} {bx bm : Nat} {adx adm : Nat → Nat} {sx sm : Sg} {h : hS} {i : Int} {z : Sg × Sg × hS} (hp : np N = [(0, bx, adx), (6, bm, adm)]) (e : fL_3 (nG N) adx i sx sm h = some z) (K : AtPc cL_law LN 8192 104096 N [z.1, z.2.1] z.2.2 742 [(3, ti i), (2, tr (some bm)), (1, tr (some bx)), (0, tr (some (xA (nG N))))] []) : AtPc cL_law LN 8192 104096 N [sx, sm] h 181 [(3, ti i), (2, tr (some bm)), (1, tr (some bx)), (0, tr (some (xA (nG N))))] [] := by
  unfold fL_3 at e
  obtain ⟨p, c1, e⟩ := bd_o e
  obtain ⟨q, c2, e⟩ := bd_o e
  obtain ⟨c3, e⟩ := gd_o e
  cases e
  refine r_rr (fun rr => ?_)
  refine r_aload_n dL_law_181 rfl 2 rfl ?_
  have k0 := kX0_book (G := nG N) (b := bx) (ad := adx)  c1
  have z0 := (k0 (rr.cut (subO_a hp) getO_a)).1.2.2.2
  refine r_callV (j := some 0) 0 [] (rec_sg (j := 0) (r := (RX0, TX0, 36)) rfl (by rw [hp]; rfl)) rfl k0 (injO_xm hp) (subO_a hp) getO_a setO_a (lw_V q444 q445 q446 q115 q447) (by decide +kernel) rfl (Nat.le_of_ble_eq_true rfl) (Nat.le_of_ble_eq_true rfl) rfl (Nat.le_of_ble_eq_true rfl) dL_law_182 rfl ?_
  refine r_rr (fun rr1 => ?_)
  refine r_aload_n dL_law_185 rfl 1 rfl ?_
  have k1 := kX6_book (G := nG N) (b := bm) (ad := adm) (h := p.2.2) c2
  have z1 := (k1 (rr1.cut (subO_b hp) getO_b)).1.2.2.2
  refine r_callV (j := some 1) 0 [] (rec_sg (j := 1) (r := (RX6, TX6, 63)) rfl (by rw [hp]; rfl)) rfl k1 (injO_xm hp) (subO_b hp) getO_b setO_b (lw_V q1659 q1660 q1661 q123 q1662) (by decide +kernel) rfl (Nat.le_of_ble_eq_true rfl) (Nat.le_of_ble_eq_true rfl) rfl (Nat.le_of_ble_eq_true rfl) dL_law_186 rfl ?_
  refine r_rr (fun rr2 => ?_)
  exact r_icmp_eq z0 z1 742 dL_law_189 (by decide) (fun _ => K) (fun c => absurd c3 c)
def fL_4 (G : Gx) (adx : Nat → Nat) (i : Int) (sx sm : Sg) (h : hS) : Option (Sg × Sg × hS) := gd (inb (wr (i + 1)) (xL G)) (bd (fX0_type sx h (xs G (wr (i + 1)))) fun p => bd (fX6_type sm (xs G (wr (i + 1)))) fun q => gd (p.1 = q.1) (some (p.2.1, q.2, p.2.2)))
theorem wL_4 {N : Nx} {bx bm : Nat} {adx adm : Nat → Nat} {sx sm : Sg} {h : hS} {i : Int} {z : Sg × Sg × hS} (hp : np N = [(0, bx, adx), (6, bm, adm)]) (e : fL_4 (nG N) adx i sx sm h = some z) (K : AtPc cL_law LN 8192 104096 N [z.1, z.2.1] z.2.2 742 [(3, ti i), (2, tr (some bm)), (1, tr (some bx)), (0, tr (some (xA (nG N))))] []) : AtPc cL_law LN 8192 104096 N [sx, sm] h 194 [(3, ti i), (2, tr (some bm)), (1, tr (some bx)), (0, tr (some (xA (nG N))))] [] := by
  unfold fL_4 at e
  obtain ⟨g9, e⟩ := gd_o e
  obtain ⟨p, c1, e⟩ := bd_o e
  obtain ⟨q, c2, e⟩ := bd_o e
  obtain ⟨c3, e⟩ := gd_o e
  cases e
  refine r_rr (fun rr => ?_)
  refine r_aload_n dL_law_194 rfl 2 rfl ?_
  refine r_aload_n dL_law_195 rfl 3 rfl ?_
  refine r_iload_n dL_law_196 rfl 0 rfl ?_
  refine r_iconst dL_law_197 ?_
  refine r_iadd dL_law_198 ?_
  refine r_xld (rI_wr _) (g9) dL_law_199 ?_
  have k0 := kX0_type (G := nG N) (b := bx) (ad := adx)  (xs_r _ _) c1
  have z0 := (k0 (rr.cut (subO_a hp) getO_a)).1.2.2.2
  refine r_callV (j := some 0) 1 [ti (xs (nG N) (wr (i + 1)))] (rec_sg (j := 0) (r := (RX0, TX0, 36)) rfl (by rw [hp]; rfl)) rfl k0 (injO_xm hp) (subO_a hp) getO_a setO_a (lw_V q831 q832 q833 q115 q834) (by decide +kernel) rfl (Nat.le_of_ble_eq_true rfl) (Nat.le_of_ble_eq_true rfl) rfl (Nat.le_of_ble_eq_true rfl) dL_law_200 rfl ?_
  refine r_rr (fun rr1 => ?_)
  refine r_aload_n dL_law_203 rfl 1 rfl ?_
  refine r_aload_n dL_law_204 rfl 3 rfl ?_
  refine r_iload_n dL_law_205 rfl 0 rfl ?_
  refine r_iconst dL_law_206 ?_
  refine r_iadd dL_law_207 ?_
  refine r_xld (rI_wr _) (g9) dL_law_208 ?_
  have k1 := kX6_type (G := nG N) (b := bm) (ad := adm) (h := p.2.2) (xs_r _ _) c2
  have z1 := (k1 (rr1.cut (subO_b hp) getO_b)).1.2.2.2
  refine r_callV (j := some 1) 1 [ti (xs (nG N) (wr (i + 1)))] (rec_sg (j := 1) (r := (RX6, TX6, 63)) rfl (by rw [hp]; rfl)) rfl k1 (injO_xm hp) (subO_b hp) getO_b setO_b (lw_V q1690 q1691 q1692 q123 q1693) (by decide +kernel) rfl (Nat.le_of_ble_eq_true rfl) (Nat.le_of_ble_eq_true rfl) rfl (Nat.le_of_ble_eq_true rfl) dL_law_209 rfl ?_
  refine r_rr (fun rr2 => ?_)
  exact r_icmp_eq z0 z1 742 dL_law_212 (by decide) (fun _ => K) (fun c => absurd c3 c)
def fL_5 (G : Gx) (adx : Nat → Nat) (i : Int) (sx sm : Sg) (h : hS) : Option (Sg × Sg × hS) := gd (inb (wr (i + 1)) (xL G) ∧ inb (wr (i + 2)) (xL G)) (bd (fX0_about sx h (xs G (wr (i + 1))) (xs G (wr (i + 2)))) fun p => bd (fX6_about sm (xs G (wr (i + 1))) (xs G (wr (i + 2)))) fun q => gd (p = q) (some (sx, sm, h)))
theorem wL_5 {N : Nx} {bx bm : Nat} {adx adm : Nat → Nat} {sx sm : Sg} {h : hS} {i : Int} {z : Sg × Sg × hS} (hp : np N = [(0, bx, adx), (6, bm, adm)]) (e : fL_5 (nG N) adx i sx sm h = some z) (K : AtPc cL_law LN 8192 104096 N [z.1, z.2.1] z.2.2 742 [(3, ti i), (2, tr (some bm)), (1, tr (some bx)), (0, tr (some (xA (nG N))))] []) : AtPc cL_law LN 8192 104096 N [sx, sm] h 217 [(3, ti i), (2, tr (some bm)), (1, tr (some bx)), (0, tr (some (xA (nG N))))] [] := by
  unfold fL_5 at e
  obtain ⟨g9, e⟩ := gd_o e
  obtain ⟨p, c1, e⟩ := bd_o e
  obtain ⟨q, c2, e⟩ := bd_o e
  obtain ⟨c3, e⟩ := gd_o e
  cases e
  refine r_rr (fun rr => ?_)
  refine r_aload_n dL_law_217 rfl 2 rfl ?_
  refine r_aload_n dL_law_218 rfl 3 rfl ?_
  refine r_iload_n dL_law_219 rfl 0 rfl ?_
  refine r_iconst dL_law_220 ?_
  refine r_iadd dL_law_221 ?_
  refine r_xld (rI_wr _) (g9.1) dL_law_222 ?_
  refine r_aload_n dL_law_223 rfl 3 rfl ?_
  refine r_iload_n dL_law_224 rfl 0 rfl ?_
  refine r_iconst dL_law_225 ?_
  refine r_iadd dL_law_226 ?_
  refine r_xld (rI_wr _) (g9.2) dL_law_227 ?_
  have k0 := kX0_about (G := nG N) (b := bx) (ad := adx)  (xs_r _ _) (xs_r _ _) c1
  have z0 := (k0 (rr.cut (subO_a hp) getO_a)).1.2.2.2
  refine r_callV (j := some 0) 2 [ti (xs (nG N) (wr (i + 1))), ti (xs (nG N) (wr (i + 2)))] (rec_sg (j := 0) (r := (RX0, TX0, 36)) rfl (by rw [hp]; rfl)) rfl k0 (injO_xm hp) (subO_a hp) getO_a setO_a (lw_V q1077 q1078 q1079 q115 q1080) (by decide +kernel) rfl (Nat.le_of_ble_eq_true rfl) (Nat.le_of_ble_eq_true rfl) rfl (Nat.le_of_ble_eq_true rfl) dL_law_228 rfl ?_
  refine r_rr (fun rr1 => ?_)
  refine r_aload_n dL_law_231 rfl 1 rfl ?_
  refine r_aload_n dL_law_232 rfl 3 rfl ?_
  refine r_iload_n dL_law_233 rfl 0 rfl ?_
  refine r_iconst dL_law_234 ?_
  refine r_iadd dL_law_235 ?_
  refine r_xld (rI_wr _) (g9.1) dL_law_236 ?_
  refine r_aload_n dL_law_237 rfl 3 rfl ?_
  refine r_iload_n dL_law_238 rfl 0 rfl ?_
  refine r_iconst dL_law_239 ?_
  refine r_iadd dL_law_240 ?_
  refine r_xld (rI_wr _) (g9.2) dL_law_241 ?_
  have k1 := kX6_about (G := nG N) (b := bm) (ad := adm) (h := h) (xs_r _ _) (xs_r _ _) c2
  have z1 := (k1 (rr1.cut (subO_b hp) getO_b)).1.2.2.2
  refine r_callV (j := some 1) 2 [ti (xs (nG N) (wr (i + 1))), ti (xs (nG N) (wr (i + 2)))] (rec_sg (j := 1) (r := (RX6, TX6, 63)) rfl (by rw [hp]; rfl)) rfl k1 (injO_xm hp) (subO_b hp) getO_b setO_b (lw_V q1694 q1695 q1696 q123 q1697) (by decide +kernel) rfl (Nat.le_of_ble_eq_true rfl) (Nat.le_of_ble_eq_true rfl) rfl (Nat.le_of_ble_eq_true rfl) dL_law_242 rfl ?_
  refine r_rr (fun rr2 => ?_)
  exact r_icmp_eq z0 z1 742 dL_law_245 (by decide) (fun _ => K) (fun c => absurd c3 c)
def fL_6 (G : Gx) (adx : Nat → Nat) (i : Int) (sx sm : Sg) (h : hS) : Option (Sg × Sg × hS) := gd (inb (wr (i + 1)) (xL G) ∧ inb (wr (i + 2)) (xL G)) (bd (fX0_instance (some (adx 20)) sx h (xs G (wr (i + 1))) (xs G (wr (i + 2)))) fun p => bd (fX6_instance sm (xs G (wr (i + 1))) (xs G (wr (i + 2)))) fun q => gd (p.1 = q.1) (some (sx, q.2, p.2)))
theorem wL_6 {N : Nx} {bx bm : Nat} {adx adm : Nat → Nat} {sx sm : Sg} {h : hS} {i : Int} {z : Sg × Sg × hS} (hp : np N = [(0, bx, adx), (6, bm, adm)]) (e : fL_6 (nG N) adx i sx sm h = some z) (K : AtPc cL_law LN 8192 104096 N [z.1, z.2.1] z.2.2 742 [(3, ti i), (2, tr (some bm)), (1, tr (some bx)), (0, tr (some (xA (nG N))))] []) : AtPc cL_law LN 8192 104096 N [sx, sm] h 250 [(3, ti i), (2, tr (some bm)), (1, tr (some bx)), (0, tr (some (xA (nG N))))] [] := by
  unfold fL_6 at e
  obtain ⟨g9, e⟩ := gd_o e
  obtain ⟨p, c1, e⟩ := bd_o e
  obtain ⟨q, c2, e⟩ := bd_o e
  obtain ⟨c3, e⟩ := gd_o e
  cases e
  refine r_rr (fun rr => ?_)
  refine r_aload_n dL_law_250 rfl 2 rfl ?_
  refine r_aload_n dL_law_251 rfl 3 rfl ?_
  refine r_iload_n dL_law_252 rfl 0 rfl ?_
  refine r_iconst dL_law_253 ?_
  refine r_iadd dL_law_254 ?_
  refine r_xld (rI_wr _) (g9.1) dL_law_255 ?_
  refine r_aload_n dL_law_256 rfl 3 rfl ?_
  refine r_iload_n dL_law_257 rfl 0 rfl ?_
  refine r_iconst dL_law_258 ?_
  refine r_iadd dL_law_259 ?_
  refine r_xld (rI_wr _) (g9.2) dL_law_260 ?_
  have k0 := kX0_instance (G := nG N) (b := bx) (ad := adx)  (xs_r _ _) (xs_r _ _) c1
  have z0 := (k0 (rr.cut (subO_a hp) getO_a)).1.2.2.2
  refine r_callV (j := some 0) 2 [ti (xs (nG N) (wr (i + 1))), ti (xs (nG N) (wr (i + 2)))] (rec_sg (j := 0) (r := (RX0, TX0, 36)) rfl (by rw [hp]; rfl)) rfl k0 (injO_xm hp) (subO_a hp) getO_a setO_a (lw_V q1085 q1086 q1087 q115 q1088) (by decide +kernel) rfl (Nat.le_of_ble_eq_true rfl) (Nat.le_of_ble_eq_true rfl) rfl (Nat.le_of_ble_eq_true rfl) dL_law_261 rfl ?_
  refine r_rr (fun rr1 => ?_)
  refine r_aload_n dL_law_264 rfl 1 rfl ?_
  refine r_aload_n dL_law_265 rfl 3 rfl ?_
  refine r_iload_n dL_law_266 rfl 0 rfl ?_
  refine r_iconst dL_law_267 ?_
  refine r_iadd dL_law_268 ?_
  refine r_xld (rI_wr _) (g9.1) dL_law_269 ?_
  refine r_aload_n dL_law_270 rfl 3 rfl ?_
  refine r_iload_n dL_law_271 rfl 0 rfl ?_
  refine r_iconst dL_law_272 ?_
  refine r_iadd dL_law_273 ?_
  refine r_xld (rI_wr _) (g9.2) dL_law_274 ?_
  have k1 := kX6_instance (G := nG N) (b := bm) (ad := adm) (h := p.2) (xs_r _ _) (xs_r _ _) c2
  have z1 := (k1 (rr1.cut (subO_b hp) getO_b)).1.2.2.2
  refine r_callV (j := some 1) 2 [ti (xs (nG N) (wr (i + 1))), ti (xs (nG N) (wr (i + 2)))] (rec_sg (j := 1) (r := (RX6, TX6, 63)) rfl (by rw [hp]; rfl)) rfl k1 (injO_xm hp) (subO_b hp) getO_b setO_b (lw_V q1710 q1711 q1712 q123 q1713) (by decide +kernel) rfl (Nat.le_of_ble_eq_true rfl) (Nat.le_of_ble_eq_true rfl) rfl (Nat.le_of_ble_eq_true rfl) dL_law_275 rfl ?_
  refine r_rr (fun rr2 => ?_)
  exact r_icmp_eq z0 z1 742 dL_law_278 (by decide) (fun _ => K) (fun c => absurd c3 c)
def fL_7 (G : Gx) (adx : Nat → Nat) (i : Int) (sx sm : Sg) (h : hS) : Option (Sg × Sg × hS) := gd (inb (wr (i + 1)) (xL G) ∧ inb (wr (i + 2)) (xL G)) (bd (fX0_as sx h (xs G (wr (i + 1))) (xs G (wr (i + 2)))) fun p => bd (fX6_as sm (xs G (wr (i + 1))) (xs G (wr (i + 2)))) fun q => gd (p.1 = q) (some (sx, sm, p.2)))
theorem wL_7 {N : Nx} {bx bm : Nat} {adx adm : Nat → Nat} {sx sm : Sg} {h : hS} {i : Int} {z : Sg × Sg × hS} (hp : np N = [(0, bx, adx), (6, bm, adm)]) (e : fL_7 (nG N) adx i sx sm h = some z) (K : AtPc cL_law LN 8192 104096 N [z.1, z.2.1] z.2.2 742 [(3, ti i), (2, tr (some bm)), (1, tr (some bx)), (0, tr (some (xA (nG N))))] []) : AtPc cL_law LN 8192 104096 N [sx, sm] h 283 [(3, ti i), (2, tr (some bm)), (1, tr (some bx)), (0, tr (some (xA (nG N))))] [] := by
  unfold fL_7 at e
  obtain ⟨g9, e⟩ := gd_o e
  obtain ⟨p, c1, e⟩ := bd_o e
  obtain ⟨q, c2, e⟩ := bd_o e
  obtain ⟨c3, e⟩ := gd_o e
  cases e
  refine r_rr (fun rr => ?_)
  refine r_aload_n dL_law_283 rfl 2 rfl ?_
  refine r_aload_n dL_law_284 rfl 3 rfl ?_
  refine r_iload_n dL_law_285 rfl 0 rfl ?_
  refine r_iconst dL_law_286 ?_
  refine r_iadd dL_law_287 ?_
  refine r_xld (rI_wr _) (g9.1) dL_law_288 ?_
  refine r_aload_n dL_law_289 rfl 3 rfl ?_
  refine r_iload_n dL_law_290 rfl 0 rfl ?_
  refine r_iconst dL_law_291 ?_
  refine r_iadd dL_law_292 ?_
  refine r_xld (rI_wr _) (g9.2) dL_law_293 ?_
  have k0 := kX0_as (G := nG N) (b := bx) (ad := adx)  (xs_r _ _) (xs_r _ _) c1
  have z0 := (k0 (rr.cut (subO_a hp) getO_a)).1.2.2.2
  refine r_callVW (j := some 0) 2 [ti (xs (nG N) (wr (i + 1))), ti (xs (nG N) (wr (i + 2)))] (xN_L _) (rec_sg (j := 0) (r := (RX0, TX0, 36)) rfl (by rw [hp]; rfl)) rfl k0 (injO_xm hp) (subO_a hp) getO_a setO_a (lw_VW q1206 q1207 q1208 q115 q1209) (by decide +kernel) rfl (Nat.le_of_ble_eq_true rfl) (Nat.le_of_ble_eq_true rfl) rfl (Nat.le_of_ble_eq_true rfl) dL_law_294 rfl ?_
  refine r_rr (fun rr1 => ?_)
  refine r_aload_n dL_law_297 rfl 1 rfl ?_
  refine r_aload_n dL_law_298 rfl 3 rfl ?_
  refine r_iload_n dL_law_299 rfl 0 rfl ?_
  refine r_iconst dL_law_300 ?_
  refine r_iadd dL_law_301 ?_
  refine r_xld (rI_wr _) (g9.1) dL_law_302 ?_
  refine r_aload_n dL_law_303 rfl 3 rfl ?_
  refine r_iload_n dL_law_304 rfl 0 rfl ?_
  refine r_iconst dL_law_305 ?_
  refine r_iadd dL_law_306 ?_
  refine r_xld (rI_wr _) (g9.2) dL_law_307 ?_
  have k1 := kX6_as (G := nG N) (b := bm) (ad := adm) (h := p.2) (xs_r _ _) (xs_r _ _) c2
  have z1 := (k1 (rr1.cut (subO_b hp) getO_b)).1.2.2.2
  refine r_callV (j := some 1) 2 [ti (xs (nG N) (wr (i + 1))), ti (xs (nG N) (wr (i + 2)))] (rec_sg (j := 1) (r := (RX6, TX6, 63)) rfl (by rw [hp]; rfl)) rfl k1 (injO_xm hp) (subO_b hp) getO_b setO_b (lw_V q1785 q1786 q1787 q123 q1788) (by decide +kernel) rfl (Nat.le_of_ble_eq_true rfl) (Nat.le_of_ble_eq_true rfl) rfl (Nat.le_of_ble_eq_true rfl) dL_law_308 rfl ?_
  refine r_rr (fun rr2 => ?_)
  exact r_icmp_eq z0 z1 742 dL_law_311 (by decide) (fun _ => K) (fun c => absurd c3 c)
def fL_8 (G : Gx) (adx : Nat → Nat) (i : Int) (sx sm : Sg) (h : hS) : Option (Sg × Sg × hS) := gd (inb (wr (i + 1)) (xL G) ∧ inb (wr (i + 2)) (xL G)) (bd (fX0_change (some (adx 20)) sx h (xs G (wr (i + 1))) (xs G (wr (i + 2)))) fun p => bd (fX6_change sm (xs G (wr (i + 1))) (xs G (wr (i + 2)))) fun q => gd (p.1 = q.1) (some (p.2.1, q.2, p.2.2)))
theorem wL_8 {N : Nx} {bx bm : Nat} {adx adm : Nat → Nat} {sx sm : Sg} {h : hS} {i : Int} {z : Sg × Sg × hS} (hp : np N = [(0, bx, adx), (6, bm, adm)]) (e : fL_8 (nG N) adx i sx sm h = some z) (K : AtPc cL_law LN 8192 104096 N [z.1, z.2.1] z.2.2 742 [(3, ti i), (2, tr (some bm)), (1, tr (some bx)), (0, tr (some (xA (nG N))))] []) : AtPc cL_law LN 8192 104096 N [sx, sm] h 316 [(3, ti i), (2, tr (some bm)), (1, tr (some bx)), (0, tr (some (xA (nG N))))] [] := by
  unfold fL_8 at e
  obtain ⟨g9, e⟩ := gd_o e
  obtain ⟨p, c1, e⟩ := bd_o e
  obtain ⟨q, c2, e⟩ := bd_o e
  obtain ⟨c3, e⟩ := gd_o e
  cases e
  refine r_rr (fun rr => ?_)
  refine r_aload_n dL_law_316 rfl 2 rfl ?_
  refine r_aload_n dL_law_317 rfl 3 rfl ?_
  refine r_iload_n dL_law_318 rfl 0 rfl ?_
  refine r_iconst dL_law_319 ?_
  refine r_iadd dL_law_320 ?_
  refine r_xld (rI_wr _) (g9.1) dL_law_321 ?_
  refine r_aload_n dL_law_322 rfl 3 rfl ?_
  refine r_iload_n dL_law_323 rfl 0 rfl ?_
  refine r_iconst dL_law_324 ?_
  refine r_iadd dL_law_325 ?_
  refine r_xld (rI_wr _) (g9.2) dL_law_326 ?_
  have k0 := kX0_change (G := nG N) (b := bx) (ad := adx)  (xs_r _ _) (xs_r _ _) c1
  have z0 := (k0 (rr.cut (subO_a hp) getO_a)).1.2.2.2
  refine r_callV (j := some 0) 2 [ti (xs (nG N) (wr (i + 1))), ti (xs (nG N) (wr (i + 2)))] (rec_sg (j := 0) (r := (RX0, TX0, 36)) rfl (by rw [hp]; rfl)) rfl k0 (injO_xm hp) (subO_a hp) getO_a setO_a (lw_V q1283 q1284 q1285 q115 q1286) (by decide +kernel) rfl (Nat.le_of_ble_eq_true rfl) (Nat.le_of_ble_eq_true rfl) rfl (Nat.le_of_ble_eq_true rfl) dL_law_327 rfl ?_
  refine r_rr (fun rr1 => ?_)
  refine r_aload_n dL_law_330 rfl 1 rfl ?_
  refine r_aload_n dL_law_331 rfl 3 rfl ?_
  refine r_iload_n dL_law_332 rfl 0 rfl ?_
  refine r_iconst dL_law_333 ?_
  refine r_iadd dL_law_334 ?_
  refine r_xld (rI_wr _) (g9.1) dL_law_335 ?_
  refine r_aload_n dL_law_336 rfl 3 rfl ?_
  refine r_iload_n dL_law_337 rfl 0 rfl ?_
  refine r_iconst dL_law_338 ?_
  refine r_iadd dL_law_339 ?_
  refine r_xld (rI_wr _) (g9.2) dL_law_340 ?_
  have k1 := kX6_change (G := nG N) (b := bm) (ad := adm) (h := p.2.2) (xs_r _ _) (xs_r _ _) c2
  have z1 := (k1 (rr1.cut (subO_b hp) getO_b)).1.2.2.2
  refine r_callV (j := some 1) 2 [ti (xs (nG N) (wr (i + 1))), ti (xs (nG N) (wr (i + 2)))] (rec_sg (j := 1) (r := (RX6, TX6, 63)) rfl (by rw [hp]; rfl)) rfl k1 (injO_xm hp) (subO_b hp) getO_b setO_b (lw_V q1789 q1790 q1791 q123 q1792) (by decide +kernel) rfl (Nat.le_of_ble_eq_true rfl) (Nat.le_of_ble_eq_true rfl) rfl (Nat.le_of_ble_eq_true rfl) dL_law_341 rfl ?_
  refine r_rr (fun rr2 => ?_)
  exact r_icmp_eq z0 z1 742 dL_law_344 (by decide) (fun _ => K) (fun c => absurd c3 c)
def fL_9 (G : Gx) (adx : Nat → Nat) (i : Int) (sx sm : Sg) (h : hS) : Option (Sg × Sg × hS) := gd (inb (wr (i + 1)) (xL G) ∧ inb (wr (i + 2)) (xL G) ∧ inb (wr (i + 3)) (xL G)) (bd (fX0_pair sx h (xs G (wr (i + 1))) (xs G (wr (i + 2))) (xs G (wr (i + 3)))) fun p => bd (fX6_pair sm (xs G (wr (i + 1))) (xs G (wr (i + 2))) (xs G (wr (i + 3)))) fun q => gd (p = q.1) (some (sx, q.2, h)))
theorem wL_9 {N : Nx} {bx bm : Nat} {adx adm : Nat → Nat} {sx sm : Sg} {h : hS} {i : Int} {z : Sg × Sg × hS} (hp : np N = [(0, bx, adx), (6, bm, adm)]) (e : fL_9 (nG N) adx i sx sm h = some z) (K : AtPc cL_law LN 8192 104096 N [z.1, z.2.1] z.2.2 742 [(3, ti i), (2, tr (some bm)), (1, tr (some bx)), (0, tr (some (xA (nG N))))] []) : AtPc cL_law LN 8192 104096 N [sx, sm] h 349 [(3, ti i), (2, tr (some bm)), (1, tr (some bx)), (0, tr (some (xA (nG N))))] [] := by
  unfold fL_9 at e
  obtain ⟨g9, e⟩ := gd_o e
  obtain ⟨p, c1, e⟩ := bd_o e
  obtain ⟨q, c2, e⟩ := bd_o e
  obtain ⟨c3, e⟩ := gd_o e
  cases e
  refine r_rr (fun rr => ?_)
  refine r_aload_n dL_law_349 rfl 2 rfl ?_
  refine r_aload_n dL_law_350 rfl 3 rfl ?_
  refine r_iload_n dL_law_351 rfl 0 rfl ?_
  refine r_iconst dL_law_352 ?_
  refine r_iadd dL_law_353 ?_
  refine r_xld (rI_wr _) (g9.1) dL_law_354 ?_
  refine r_aload_n dL_law_355 rfl 3 rfl ?_
  refine r_iload_n dL_law_356 rfl 0 rfl ?_
  refine r_iconst dL_law_357 ?_
  refine r_iadd dL_law_358 ?_
  refine r_xld (rI_wr _) (g9.2.1) dL_law_359 ?_
  refine r_aload_n dL_law_360 rfl 3 rfl ?_
  refine r_iload_n dL_law_361 rfl 0 rfl ?_
  refine r_iconst dL_law_362 ?_
  refine r_iadd dL_law_363 ?_
  refine r_xld (rI_wr _) (g9.2.2) dL_law_364 ?_
  have k0 := kX0_pair (G := nG N) (b := bx) (ad := adx)  (xs_r _ _) (xs_r _ _) (xs_r _ _) c1
  have z0 := (k0 (rr.cut (subO_a hp) getO_a)).1.2.2.2
  refine r_callV (j := some 0) 3 [ti (xs (nG N) (wr (i + 1))), ti (xs (nG N) (wr (i + 2))), ti (xs (nG N) (wr (i + 3)))] (rec_sg (j := 0) (r := (RX0, TX0, 36)) rfl (by rw [hp]; rfl)) rfl k0 (injO_xm hp) (subO_a hp) getO_a setO_a (lw_V q1303 q1304 q1305 q115 q1306) (by decide +kernel) rfl (Nat.le_of_ble_eq_true rfl) (Nat.le_of_ble_eq_true rfl) rfl (Nat.le_of_ble_eq_true rfl) dL_law_365 rfl ?_
  refine r_rr (fun rr1 => ?_)
  refine r_aload_n dL_law_368 rfl 1 rfl ?_
  refine r_aload_n dL_law_369 rfl 3 rfl ?_
  refine r_iload_n dL_law_370 rfl 0 rfl ?_
  refine r_iconst dL_law_371 ?_
  refine r_iadd dL_law_372 ?_
  refine r_xld (rI_wr _) (g9.1) dL_law_373 ?_
  refine r_aload_n dL_law_374 rfl 3 rfl ?_
  refine r_iload_n dL_law_375 rfl 0 rfl ?_
  refine r_iconst dL_law_376 ?_
  refine r_iadd dL_law_377 ?_
  refine r_xld (rI_wr _) (g9.2.1) dL_law_378 ?_
  refine r_aload_n dL_law_379 rfl 3 rfl ?_
  refine r_iload_n dL_law_380 rfl 0 rfl ?_
  refine r_iconst dL_law_381 ?_
  refine r_iadd dL_law_382 ?_
  refine r_xld (rI_wr _) (g9.2.2) dL_law_383 ?_
  have k1 := kX6_pair (G := nG N) (b := bm) (ad := adm) (h := h) (xs_r _ _) (xs_r _ _) (xs_r _ _) c2
  have z1 := (k1 (rr1.cut (subO_b hp) getO_b)).1.2.2.2
  refine r_callV (j := some 1) 3 [ti (xs (nG N) (wr (i + 1))), ti (xs (nG N) (wr (i + 2))), ti (xs (nG N) (wr (i + 3)))] (rec_sg (j := 1) (r := (RX6, TX6, 63)) rfl (by rw [hp]; rfl)) rfl k1 (injO_xm hp) (subO_b hp) getO_b setO_b (lw_V q1793 q1794 q1795 q123 q1796) (by decide +kernel) rfl (Nat.le_of_ble_eq_true rfl) (Nat.le_of_ble_eq_true rfl) rfl (Nat.le_of_ble_eq_true rfl) dL_law_384 rfl ?_
  refine r_rr (fun rr2 => ?_)
  exact r_icmp_eq z0 z1 742 dL_law_387 (by decide) (fun _ => K) (fun c => absurd c3 c)
def fL_10 (G : Gx) (adx : Nat → Nat) (i : Int) (sx sm : Sg) (h : hS) : Option (Sg × Sg × hS) := gd (inb (wr (i + 1)) (xL G) ∧ inb (wr (i + 2)) (xL G)) (bd (fX0_fits sx h (xs G (wr (i + 1))) (xs G (wr (i + 2)))) fun p => bd (fX6_fits sm (xs G (wr (i + 1))) (xs G (wr (i + 2)))) fun q => gd (p.1 = q.1) (some (sx, q.2, p.2)))
theorem wL_10 {N : Nx} {bx bm : Nat} {adx adm : Nat → Nat} {sx sm : Sg} {h : hS} {i : Int} {z : Sg × Sg × hS} (hp : np N = [(0, bx, adx), (6, bm, adm)]) (e : fL_10 (nG N) adx i sx sm h = some z) (K : AtPc cL_law LN 8192 104096 N [z.1, z.2.1] z.2.2 742 [(3, ti i), (2, tr (some bm)), (1, tr (some bx)), (0, tr (some (xA (nG N))))] []) : AtPc cL_law LN 8192 104096 N [sx, sm] h 392 [(3, ti i), (2, tr (some bm)), (1, tr (some bx)), (0, tr (some (xA (nG N))))] [] := by
  unfold fL_10 at e
  obtain ⟨g9, e⟩ := gd_o e
  obtain ⟨p, c1, e⟩ := bd_o e
  obtain ⟨q, c2, e⟩ := bd_o e
  obtain ⟨c3, e⟩ := gd_o e
  cases e
  refine r_rr (fun rr => ?_)
  refine r_aload_n dL_law_392 rfl 2 rfl ?_
  refine r_aload_n dL_law_393 rfl 3 rfl ?_
  refine r_iload_n dL_law_394 rfl 0 rfl ?_
  refine r_iconst dL_law_395 ?_
  refine r_iadd dL_law_396 ?_
  refine r_xld (rI_wr _) (g9.1) dL_law_397 ?_
  refine r_aload_n dL_law_398 rfl 3 rfl ?_
  refine r_iload_n dL_law_399 rfl 0 rfl ?_
  refine r_iconst dL_law_400 ?_
  refine r_iadd dL_law_401 ?_
  refine r_xld (rI_wr _) (g9.2) dL_law_402 ?_
  have k0 := kX0_fits (G := nG N) (b := bx) (ad := adx)  (xs_r _ _) (xs_r _ _) c1
  have z0 := (k0 (rr.cut (subO_a hp) getO_a)).1.2.2.2
  refine r_callV (j := some 0) 2 [ti (xs (nG N) (wr (i + 1))), ti (xs (nG N) (wr (i + 2)))] (rec_sg (j := 0) (r := (RX0, TX0, 36)) rfl (by rw [hp]; rfl)) rfl k0 (injO_xm hp) (subO_a hp) getO_a setO_a (lw_V q1320 q1321 q1322 q115 q1323) (by decide +kernel) rfl (Nat.le_of_ble_eq_true rfl) (Nat.le_of_ble_eq_true rfl) rfl (Nat.le_of_ble_eq_true rfl) dL_law_403 rfl ?_
  refine r_rr (fun rr1 => ?_)
  refine r_aload_n dL_law_406 rfl 1 rfl ?_
  refine r_aload_n dL_law_407 rfl 3 rfl ?_
  refine r_iload_n dL_law_408 rfl 0 rfl ?_
  refine r_iconst dL_law_409 ?_
  refine r_iadd dL_law_410 ?_
  refine r_xld (rI_wr _) (g9.1) dL_law_411 ?_
  refine r_aload_n dL_law_412 rfl 3 rfl ?_
  refine r_iload_n dL_law_413 rfl 0 rfl ?_
  refine r_iconst dL_law_414 ?_
  refine r_iadd dL_law_415 ?_
  refine r_xld (rI_wr _) (g9.2) dL_law_416 ?_
  have k1 := kX6_fits (G := nG N) (b := bm) (ad := adm) (h := p.2) (xs_r _ _) (xs_r _ _) c2
  have z1 := (k1 (rr1.cut (subO_b hp) getO_b)).1.2.2.2
  refine r_callV (j := some 1) 2 [ti (xs (nG N) (wr (i + 1))), ti (xs (nG N) (wr (i + 2)))] (rec_sg (j := 1) (r := (RX6, TX6, 63)) rfl (by rw [hp]; rfl)) rfl k1 (injO_xm hp) (subO_b hp) getO_b setO_b (lw_V q1845 q1846 q1847 q123 q1848) (by decide +kernel) rfl (Nat.le_of_ble_eq_true rfl) (Nat.le_of_ble_eq_true rfl) rfl (Nat.le_of_ble_eq_true rfl) dL_law_417 rfl ?_
  refine r_rr (fun rr2 => ?_)
  exact r_icmp_eq z0 z1 742 dL_law_420 (by decide) (fun _ => K) (fun c => absurd c3 c)
def fL_11 (G : Gx) (adx : Nat → Nat) (i : Int) (sx sm : Sg) (h : hS) : Option (Sg × Sg × hS) := gd (inb (wr (i + 1)) (xL G) ∧ inb (wr (i + 2)) (xL G) ∧ inb (wr (i + 3)) (xL G)) (bd (fX0_goal G.2.2.2 (some (adx 20)) sx h (xs G (wr (i + 1))) (xs G (wr (i + 2))) (xs G (wr (i + 3)))) fun p => bd (fX6_goal sm (xs G (wr (i + 1))) (xs G (wr (i + 2))) (xs G (wr (i + 3)))) fun q => gd (p.1 = q.1) (some (sx, q.2, p.2)))
theorem wL_11 {N : Nx} {bx bm : Nat} {adx adm : Nat → Nat} {sx sm : Sg} {h : hS} {i : Int} {z : Sg × Sg × hS} (hp : np N = [(0, bx, adx), (6, bm, adm)]) (e : fL_11 (nG N) adx i sx sm h = some z) (K : AtPc cL_law LN 8192 104096 N [z.1, z.2.1] z.2.2 742 [(3, ti i), (2, tr (some bm)), (1, tr (some bx)), (0, tr (some (xA (nG N))))] []) : AtPc cL_law LN 8192 104096 N [sx, sm] h 425 [(3, ti i), (2, tr (some bm)), (1, tr (some bx)), (0, tr (some (xA (nG N))))] [] := by
  unfold fL_11 at e
  obtain ⟨g9, e⟩ := gd_o e
  obtain ⟨p, c1, e⟩ := bd_o e
  obtain ⟨q, c2, e⟩ := bd_o e
  obtain ⟨c3, e⟩ := gd_o e
  cases e
  refine r_rr (fun rr => ?_)
  refine r_aload_n dL_law_425 rfl 2 rfl ?_
  refine r_aload_n dL_law_426 rfl 3 rfl ?_
  refine r_iload_n dL_law_427 rfl 0 rfl ?_
  refine r_iconst dL_law_428 ?_
  refine r_iadd dL_law_429 ?_
  refine r_xld (rI_wr _) (g9.1) dL_law_430 ?_
  refine r_aload_n dL_law_431 rfl 3 rfl ?_
  refine r_iload_n dL_law_432 rfl 0 rfl ?_
  refine r_iconst dL_law_433 ?_
  refine r_iadd dL_law_434 ?_
  refine r_xld (rI_wr _) (g9.2.1) dL_law_435 ?_
  refine r_aload_n dL_law_436 rfl 3 rfl ?_
  refine r_iload_n dL_law_437 rfl 0 rfl ?_
  refine r_iconst dL_law_438 ?_
  refine r_iadd dL_law_439 ?_
  refine r_xld (rI_wr _) (g9.2.2) dL_law_440 ?_
  have k0 := kX0_goal (G := nG N) (b := bx) (ad := adx)  (xs_r _ _) (xs_r _ _) (xs_r _ _) c1
  have z0 := (k0 (rr.cut (subO_a hp) getO_a)).1.2.2.2
  refine r_callV (j := some 0) 3 [ti (xs (nG N) (wr (i + 1))), ti (xs (nG N) (wr (i + 2))), ti (xs (nG N) (wr (i + 3)))] (rec_sg (j := 0) (r := (RX0, TX0, 36)) rfl (by rw [hp]; rfl)) rfl k0 (injO_xm hp) (subO_a hp) getO_a setO_a (lw_V q845 q846 q847 q115 q848) (by decide +kernel) rfl (Nat.le_of_ble_eq_true rfl) (Nat.le_of_ble_eq_true rfl) rfl (Nat.le_of_ble_eq_true rfl) dL_law_441 rfl ?_
  refine r_rr (fun rr1 => ?_)
  refine r_aload_n dL_law_444 rfl 1 rfl ?_
  refine r_aload_n dL_law_445 rfl 3 rfl ?_
  refine r_iload_n dL_law_446 rfl 0 rfl ?_
  refine r_iconst dL_law_447 ?_
  refine r_iadd dL_law_448 ?_
  refine r_xld (rI_wr _) (g9.1) dL_law_449 ?_
  refine r_aload_n dL_law_450 rfl 3 rfl ?_
  refine r_iload_n dL_law_451 rfl 0 rfl ?_
  refine r_iconst dL_law_452 ?_
  refine r_iadd dL_law_453 ?_
  refine r_xld (rI_wr _) (g9.2.1) dL_law_454 ?_
  refine r_aload_n dL_law_455 rfl 3 rfl ?_
  refine r_iload_n dL_law_456 rfl 0 rfl ?_
  refine r_iconst dL_law_457 ?_
  refine r_iadd dL_law_458 ?_
  refine r_xld (rI_wr _) (g9.2.2) dL_law_459 ?_
  have k1 := kX6_goal (G := nG N) (b := bm) (ad := adm) (h := p.2) (xs_r _ _) (xs_r _ _) (xs_r _ _) c2
  have z1 := (k1 (rr1.cut (subO_b hp) getO_b)).1.2.2.2
  refine r_callV (j := some 1) 3 [ti (xs (nG N) (wr (i + 1))), ti (xs (nG N) (wr (i + 2))), ti (xs (nG N) (wr (i + 3)))] (rec_sg (j := 1) (r := (RX6, TX6, 63)) rfl (by rw [hp]; rfl)) rfl k1 (injO_xm hp) (subO_b hp) getO_b setO_b (lw_V q1857 q1858 q1859 q123 q1860) (by decide +kernel) rfl (Nat.le_of_ble_eq_true rfl) (Nat.le_of_ble_eq_true rfl) rfl (Nat.le_of_ble_eq_true rfl) dL_law_460 rfl ?_
  refine r_rr (fun rr2 => ?_)
  exact r_icmp_eq z0 z1 742 dL_law_463 (by decide) (fun _ => K) (fun c => absurd c3 c)
def fL_12 (G : Gx) (adx : Nat → Nat) (i : Int) (sx sm : Sg) (h : hS) : Option (Sg × Sg × hS) := gd (inb (wr (i + 1)) (xL G) ∧ inb (wr (i + 2)) (xL G) ∧ inb (wr (i + 3)) (xL G)) (bd (fX0_entry (some (adx 20)) sx h (xs G (wr (i + 1))) (xs G (wr (i + 2))) (xs G (wr (i + 3)))) fun p => bd (fX6_entry sm (xs G (wr (i + 1))) (xs G (wr (i + 2))) (xs G (wr (i + 3)))) fun q => gd (p.1 = q.1) (some (sx, q.2, p.2)))
theorem wL_12 {N : Nx} {bx bm : Nat} {adx adm : Nat → Nat} {sx sm : Sg} {h : hS} {i : Int} {z : Sg × Sg × hS} (hp : np N = [(0, bx, adx), (6, bm, adm)]) (e : fL_12 (nG N) adx i sx sm h = some z) (K : AtPc cL_law LN 8192 104096 N [z.1, z.2.1] z.2.2 742 [(3, ti i), (2, tr (some bm)), (1, tr (some bx)), (0, tr (some (xA (nG N))))] []) : AtPc cL_law LN 8192 104096 N [sx, sm] h 468 [(3, ti i), (2, tr (some bm)), (1, tr (some bx)), (0, tr (some (xA (nG N))))] [] := by
  unfold fL_12 at e
  obtain ⟨g9, e⟩ := gd_o e
  obtain ⟨p, c1, e⟩ := bd_o e
  obtain ⟨q, c2, e⟩ := bd_o e
  obtain ⟨c3, e⟩ := gd_o e
  cases e
  refine r_rr (fun rr => ?_)
  refine r_aload_n dL_law_468 rfl 2 rfl ?_
  refine r_aload_n dL_law_469 rfl 3 rfl ?_
  refine r_iload_n dL_law_470 rfl 0 rfl ?_
  refine r_iconst dL_law_471 ?_
  refine r_iadd dL_law_472 ?_
  refine r_xld (rI_wr _) (g9.1) dL_law_473 ?_
  refine r_aload_n dL_law_474 rfl 3 rfl ?_
  refine r_iload_n dL_law_475 rfl 0 rfl ?_
  refine r_iconst dL_law_476 ?_
  refine r_iadd dL_law_477 ?_
  refine r_xld (rI_wr _) (g9.2.1) dL_law_478 ?_
  refine r_aload_n dL_law_479 rfl 3 rfl ?_
  refine r_iload_n dL_law_480 rfl 0 rfl ?_
  refine r_iconst dL_law_481 ?_
  refine r_iadd dL_law_482 ?_
  refine r_xld (rI_wr _) (g9.2.2) dL_law_483 ?_
  have k0 := kX0_entry (G := nG N) (b := bx) (ad := adx)  (xs_r _ _) (xs_r _ _) (xs_r _ _) c1
  have z0 := (k0 (rr.cut (subO_a hp) getO_a)).1.2.2.2
  refine r_callV (j := some 0) 3 [ti (xs (nG N) (wr (i + 1))), ti (xs (nG N) (wr (i + 2))), ti (xs (nG N) (wr (i + 3)))] (rec_sg (j := 0) (r := (RX0, TX0, 36)) rfl (by rw [hp]; rfl)) rfl k0 (injO_xm hp) (subO_a hp) getO_a setO_a (lw_V q1060 q1061 q1062 q115 q1063) (by decide +kernel) rfl (Nat.le_of_ble_eq_true rfl) (Nat.le_of_ble_eq_true rfl) rfl (Nat.le_of_ble_eq_true rfl) dL_law_484 rfl ?_
  refine r_rr (fun rr1 => ?_)
  refine r_aload_n dL_law_487 rfl 1 rfl ?_
  refine r_aload_n dL_law_488 rfl 3 rfl ?_
  refine r_iload_n dL_law_489 rfl 0 rfl ?_
  refine r_iconst dL_law_490 ?_
  refine r_iadd dL_law_491 ?_
  refine r_xld (rI_wr _) (g9.1) dL_law_492 ?_
  refine r_aload_n dL_law_493 rfl 3 rfl ?_
  refine r_iload_n dL_law_494 rfl 0 rfl ?_
  refine r_iconst dL_law_495 ?_
  refine r_iadd dL_law_496 ?_
  refine r_xld (rI_wr _) (g9.2.1) dL_law_497 ?_
  refine r_aload_n dL_law_498 rfl 3 rfl ?_
  refine r_iload_n dL_law_499 rfl 0 rfl ?_
  refine r_iconst dL_law_500 ?_
  refine r_iadd dL_law_501 ?_
  refine r_xld (rI_wr _) (g9.2.2) dL_law_502 ?_
  have k1 := kX6_entry (G := nG N) (b := bm) (ad := adm) (h := p.2) (xs_r _ _) (xs_r _ _) (xs_r _ _) c2
  have z1 := (k1 (rr1.cut (subO_b hp) getO_b)).1.2.2.2
  refine r_callV (j := some 1) 3 [ti (xs (nG N) (wr (i + 1))), ti (xs (nG N) (wr (i + 2))), ti (xs (nG N) (wr (i + 3)))] (rec_sg (j := 1) (r := (RX6, TX6, 63)) rfl (by rw [hp]; rfl)) rfl k1 (injO_xm hp) (subO_b hp) getO_b setO_b (lw_V q1881 q1882 q1883 q123 q1884) (by decide +kernel) rfl (Nat.le_of_ble_eq_true rfl) (Nat.le_of_ble_eq_true rfl) rfl (Nat.le_of_ble_eq_true rfl) dL_law_503 rfl ?_
  refine r_rr (fun rr2 => ?_)
  exact r_icmp_eq z0 z1 742 dL_law_506 (by decide) (fun _ => K) (fun c => absurd c3 c)
def fL_13 (G : Gx) (adx : Nat → Nat) (i : Int) (sx sm : Sg) (h : hS) : Option (Sg × Sg × hS) := gd (inb (wr (i + 1)) (xL G) ∧ inb (wr (i + 2)) (xL G) ∧ inb (wr (i + 3)) (xL G) ∧ inb (wr (i + 4)) (xL G)) (bd (fX0_need (some (adx 20)) sx h (xs G (wr (i + 1))) (xs G (wr (i + 2))) (xs G (wr (i + 3))) (xs G (wr (i + 4)))) fun p => bd (fX6_need sm (xs G (wr (i + 1))) (xs G (wr (i + 2))) (xs G (wr (i + 3))) (xs G (wr (i + 4)))) fun q => gd (p.1 = q.1) (some (sx, q.2, p.2)))
theorem wL_13 {N : Nx} {bx bm : Nat} {adx adm : Nat → Nat} {sx sm : Sg} {h : hS} {i : Int} {z : Sg × Sg × hS} (hp : np N = [(0, bx, adx), (6, bm, adm)]) (e : fL_13 (nG N) adx i sx sm h = some z) (K : AtPc cL_law LN 8192 104096 N [z.1, z.2.1] z.2.2 742 [(3, ti i), (2, tr (some bm)), (1, tr (some bx)), (0, tr (some (xA (nG N))))] []) : AtPc cL_law LN 8192 104096 N [sx, sm] h 511 [(3, ti i), (2, tr (some bm)), (1, tr (some bx)), (0, tr (some (xA (nG N))))] [] := by
  unfold fL_13 at e
  obtain ⟨g9, e⟩ := gd_o e
  obtain ⟨p, c1, e⟩ := bd_o e
  obtain ⟨q, c2, e⟩ := bd_o e
  obtain ⟨c3, e⟩ := gd_o e
  cases e
  refine r_rr (fun rr => ?_)
  refine r_aload_n dL_law_511 rfl 2 rfl ?_
  refine r_aload_n dL_law_512 rfl 3 rfl ?_
  refine r_iload_n dL_law_513 rfl 0 rfl ?_
  refine r_iconst dL_law_514 ?_
  refine r_iadd dL_law_515 ?_
  refine r_xld (rI_wr _) (g9.1) dL_law_516 ?_
  refine r_aload_n dL_law_517 rfl 3 rfl ?_
  refine r_iload_n dL_law_518 rfl 0 rfl ?_
  refine r_iconst dL_law_519 ?_
  refine r_iadd dL_law_520 ?_
  refine r_xld (rI_wr _) (g9.2.1) dL_law_521 ?_
  refine r_aload_n dL_law_522 rfl 3 rfl ?_
  refine r_iload_n dL_law_523 rfl 0 rfl ?_
  refine r_iconst dL_law_524 ?_
  refine r_iadd dL_law_525 ?_
  refine r_xld (rI_wr _) (g9.2.2.1) dL_law_526 ?_
  refine r_aload_n dL_law_527 rfl 3 rfl ?_
  refine r_iload_n dL_law_528 rfl 0 rfl ?_
  refine r_iconst dL_law_529 ?_
  refine r_iadd dL_law_530 ?_
  refine r_xld (rI_wr _) (g9.2.2.2) dL_law_531 ?_
  have k0 := kX0_need (G := nG N) (b := bx) (ad := adx)  (xs_r _ _) (xs_r _ _) (xs_r _ _) (xs_r _ _) c1
  have z0 := (k0 (rr.cut (subO_a hp) getO_a)).1.2.2.2
  refine r_callV (j := some 0) 4 [ti (xs (nG N) (wr (i + 1))), ti (xs (nG N) (wr (i + 2))), ti (xs (nG N) (wr (i + 3))), ti (xs (nG N) (wr (i + 4)))] (rec_sg (j := 0) (r := (RX0, TX0, 36)) rfl (by rw [hp]; rfl)) rfl k0 (injO_xm hp) (subO_a hp) getO_a setO_a (lw_V q1069 q1070 q1071 q115 q1072) (by decide +kernel) rfl (Nat.le_of_ble_eq_true rfl) (Nat.le_of_ble_eq_true rfl) rfl (Nat.le_of_ble_eq_true rfl) dL_law_532 rfl ?_
  refine r_rr (fun rr1 => ?_)
  refine r_aload_n dL_law_535 rfl 1 rfl ?_
  refine r_aload_n dL_law_536 rfl 3 rfl ?_
  refine r_iload_n dL_law_537 rfl 0 rfl ?_
  refine r_iconst dL_law_538 ?_
  refine r_iadd dL_law_539 ?_
  refine r_xld (rI_wr _) (g9.1) dL_law_540 ?_
  refine r_aload_n dL_law_541 rfl 3 rfl ?_
  refine r_iload_n dL_law_542 rfl 0 rfl ?_
  refine r_iconst dL_law_543 ?_
  refine r_iadd dL_law_544 ?_
  refine r_xld (rI_wr _) (g9.2.1) dL_law_545 ?_
  refine r_aload_n dL_law_546 rfl 3 rfl ?_
  refine r_iload_n dL_law_547 rfl 0 rfl ?_
  refine r_iconst dL_law_548 ?_
  refine r_iadd dL_law_549 ?_
  refine r_xld (rI_wr _) (g9.2.2.1) dL_law_550 ?_
  refine r_aload_n dL_law_551 rfl 3 rfl ?_
  refine r_iload_n dL_law_552 rfl 0 rfl ?_
  refine r_iconst dL_law_553 ?_
  refine r_iadd dL_law_554 ?_
  refine r_xld (rI_wr _) (g9.2.2.2) dL_law_555 ?_
  have k1 := kX6_need (G := nG N) (b := bm) (ad := adm) (h := p.2) (xs_r _ _) (xs_r _ _) (xs_r _ _) (xs_r _ _) c2
  have z1 := (k1 (rr1.cut (subO_b hp) getO_b)).1.2.2.2
  refine r_callV (j := some 1) 4 [ti (xs (nG N) (wr (i + 1))), ti (xs (nG N) (wr (i + 2))), ti (xs (nG N) (wr (i + 3))), ti (xs (nG N) (wr (i + 4)))] (rec_sg (j := 1) (r := (RX6, TX6, 63)) rfl (by rw [hp]; rfl)) rfl k1 (injO_xm hp) (subO_b hp) getO_b setO_b (lw_V q1889 q1890 q1891 q123 q1892) (by decide +kernel) rfl (Nat.le_of_ble_eq_true rfl) (Nat.le_of_ble_eq_true rfl) rfl (Nat.le_of_ble_eq_true rfl) dL_law_556 rfl ?_
  refine r_rr (fun rr2 => ?_)
  exact r_icmp_eq z0 z1 742 dL_law_559 (by decide) (fun _ => K) (fun c => absurd c3 c)
def fL_14 (G : Gx) (adx : Nat → Nat) (i : Int) (sx sm : Sg) (h : hS) : Option (Sg × Sg × hS) := gd (inb (wr (i + 1)) (xL G) ∧ inb (wr (i + 2)) (xL G) ∧ inb (wr (i + 3)) (xL G)) (bd (fX0_see sx (xs G (wr (i + 1))) (xs G (wr (i + 2))) (bz (xs G (wr (i + 3))))) fun p => bd (fX6_see sm (xs G (wr (i + 1))) (xs G (wr (i + 2))) (bz (xs G (wr (i + 3))))) fun q => gd (p.1 = q.1) (some (p.2, q.2, h)))
theorem wL_14 {N : Nx} {bx bm : Nat} {adx adm : Nat → Nat} {sx sm : Sg} {h : hS} {i : Int} {z : Sg × Sg × hS} (hp : np N = [(0, bx, adx), (6, bm, adm)]) (e : fL_14 (nG N) adx i sx sm h = some z) (K : AtPc cL_law LN 8192 104096 N [z.1, z.2.1] z.2.2 742 [(3, ti i), (2, tr (some bm)), (1, tr (some bx)), (0, tr (some (xA (nG N))))] []) : AtPc cL_law LN 8192 104096 N [sx, sm] h 564 [(3, ti i), (2, tr (some bm)), (1, tr (some bx)), (0, tr (some (xA (nG N))))] [] := by
  unfold fL_14 at e
  obtain ⟨g9, e⟩ := gd_o e
  obtain ⟨p, c1, e⟩ := bd_o e
  obtain ⟨q, c2, e⟩ := bd_o e
  obtain ⟨c3, e⟩ := gd_o e
  cases e
  refine r_rr (fun rr => ?_)
  refine r_aload_n dL_law_564 rfl 2 rfl ?_
  refine r_aload_n dL_law_565 rfl 3 rfl ?_
  refine r_iload_n dL_law_566 rfl 0 rfl ?_
  refine r_iconst dL_law_567 ?_
  refine r_iadd dL_law_568 ?_
  refine r_xld (rI_wr _) (g9.1) dL_law_569 ?_
  refine r_aload_n dL_law_570 rfl 3 rfl ?_
  refine r_iload_n dL_law_571 rfl 0 rfl ?_
  refine r_iconst dL_law_572 ?_
  refine r_iadd dL_law_573 ?_
  refine r_xld (rI_wr _) (g9.2.1) dL_law_574 ?_
  refine r_aload_n dL_law_575 rfl 3 rfl ?_
  refine r_iload_n dL_law_576 rfl 0 rfl ?_
  refine r_iconst dL_law_577 ?_
  refine r_iadd dL_law_578 ?_
  refine r_xld (rI_wr _) (g9.2.2) dL_law_579 ?_
  have T0 : AtPc cL_law LN 8192 104096 N [sx, sm] h 588 [(3, ti i), (2, tr (some bm)), (1, tr (some bx)), (0, tr (some (xA (nG N))))] (ti (bz (xs (nG N) (wr (i + 3)))) :: [ti (xs (nG N) (wr (i + 2))), ti (xs (nG N) (wr (i + 1))), tr (some bx)]) := by
    have k0 := kX0_see (G := nG N) (b := bx) (ad := adx) (h := h) (xs_r _ _) (xs_r _ _) (bz_r _) c1
    have z0 := (k0 (rr.cut (subO_a hp) getO_a)).1.2.2.2
    refine r_callV (j := some 0) 3 [ti (xs (nG N) (wr (i + 1))), ti (xs (nG N) (wr (i + 2))), ti (bz (xs (nG N) (wr (i + 3))))] (rec_sg (j := 0) (r := (RX0, TX0, 36)) rfl (by rw [hp]; rfl)) rfl k0 (injO_xm hp) (subO_a hp) getO_a setO_a (lw_V q1324 q1325 q1326 q115 q1327) (by decide +kernel) rfl (Nat.le_of_ble_eq_true rfl) (Nat.le_of_ble_eq_true rfl) rfl (Nat.le_of_ble_eq_true rfl) dL_law_588 rfl ?_
    refine r_rr (fun rr1 => ?_)
    refine r_aload_n dL_law_591 rfl 1 rfl ?_
    refine r_aload_n dL_law_592 rfl 3 rfl ?_
    refine r_iload_n dL_law_593 rfl 0 rfl ?_
    refine r_iconst dL_law_594 ?_
    refine r_iadd dL_law_595 ?_
    refine r_xld (rI_wr _) (g9.1) dL_law_596 ?_
    refine r_aload_n dL_law_597 rfl 3 rfl ?_
    refine r_iload_n dL_law_598 rfl 0 rfl ?_
    refine r_iconst dL_law_599 ?_
    refine r_iadd dL_law_600 ?_
    refine r_xld (rI_wr _) (g9.2.1) dL_law_601 ?_
    refine r_aload_n dL_law_602 rfl 3 rfl ?_
    refine r_iload_n dL_law_603 rfl 0 rfl ?_
    refine r_iconst dL_law_604 ?_
    refine r_iadd dL_law_605 ?_
    refine r_xld (rI_wr _) (g9.2.2) dL_law_606 ?_
    have T1 : AtPc cL_law LN 8192 104096 N [p.2, sm] h 615 [(3, ti i), (2, tr (some bm)), (1, tr (some bx)), (0, tr (some (xA (nG N))))] (ti (bz (xs (nG N) (wr (i + 3)))) :: [ti (xs (nG N) (wr (i + 2))), ti (xs (nG N) (wr (i + 1))), tr (some bm), ti (p.1)]) := by
      have k1 := kX6_see (G := nG N) (b := bm) (ad := adm) (h := h) (xs_r _ _) (xs_r _ _) (bz_r _) c2
      have z1 := (k1 (rr1.cut (subO_b hp) getO_b)).1.2.2.2
      refine r_callV (j := some 1) 3 [ti (xs (nG N) (wr (i + 1))), ti (xs (nG N) (wr (i + 2))), ti (bz (xs (nG N) (wr (i + 3))))] (rec_sg (j := 1) (r := (RX6, TX6, 63)) rfl (by rw [hp]; rfl)) rfl k1 (injO_xm hp) (subO_b hp) getO_b setO_b (lw_V q1893 q1894 q1895 q123 q1896) (by decide +kernel) rfl (Nat.le_of_ble_eq_true rfl) (Nat.le_of_ble_eq_true rfl) rfl (Nat.le_of_ble_eq_true rfl) dL_law_615 rfl ?_
      refine r_rr (fun rr2 => ?_)
      exact r_icmp_eq z0 z1 742 dL_law_618 (by decide) (fun _ => K) (fun c => absurd c3 c)
    refine r_if_eq (xs_r _ _) 614 dL_law_607 (by decide) (fun c => ?_) (fun c => ?_)
    · refine r_iconst dL_law_614 ?_
      rw [show bz _ = 0 from if_pos c] at T1
      exact T1
    · refine r_iconst dL_law_610 ?_
      refine r_goto 615 dL_law_611 (by decide) ?_
      rw [show bz _ = 1 from if_neg c] at T1
      exact T1
  refine r_if_eq (xs_r _ _) 587 dL_law_580 (by decide) (fun c => ?_) (fun c => ?_)
  · refine r_iconst dL_law_587 ?_
    rw [show bz _ = 0 from if_pos c] at T0
    exact T0
  · refine r_iconst dL_law_583 ?_
    refine r_goto 588 dL_law_584 (by decide) ?_
    rw [show bz _ = 1 from if_neg c] at T0
    exact T0
def fL_15 (G : Gx) (adx : Nat → Nat) (i : Int) (sx sm : Sg) (h : hS) : Option (Sg × Sg × hS) := bd (fX0_forget sx) fun p => bd (fX6_forget sm) fun q => gd (p.1 = q.1) (some (p.2, q.2, h))
theorem wL_15 {N : Nx} {bx bm : Nat} {adx adm : Nat → Nat} {sx sm : Sg} {h : hS} {i : Int} {z : Sg × Sg × hS} (hp : np N = [(0, bx, adx), (6, bm, adm)]) (e : fL_15 (nG N) adx i sx sm h = some z) (K : AtPc cL_law LN 8192 104096 N [z.1, z.2.1] z.2.2 742 [(3, ti i), (2, tr (some bm)), (1, tr (some bx)), (0, tr (some (xA (nG N))))] []) : AtPc cL_law LN 8192 104096 N [sx, sm] h 623 [(3, ti i), (2, tr (some bm)), (1, tr (some bx)), (0, tr (some (xA (nG N))))] [] := by
  unfold fL_15 at e
  obtain ⟨p, c1, e⟩ := bd_o e
  obtain ⟨q, c2, e⟩ := bd_o e
  obtain ⟨c3, e⟩ := gd_o e
  cases e
  refine r_rr (fun rr => ?_)
  refine r_aload_n dL_law_623 rfl 2 rfl ?_
  have k0 := kX0_forget (G := nG N) (b := bx) (ad := adx) (h := h) c1
  have z0 := (k0 (rr.cut (subO_a hp) getO_a)).1.2.2.2
  refine r_callV (j := some 0) 0 [] (rec_sg (j := 0) (r := (RX0, TX0, 36)) rfl (by rw [hp]; rfl)) rfl k0 (injO_xm hp) (subO_a hp) getO_a setO_a (lw_V q1328 q1329 q1330 q115 q1331) (by decide +kernel) rfl (Nat.le_of_ble_eq_true rfl) (Nat.le_of_ble_eq_true rfl) rfl (Nat.le_of_ble_eq_true rfl) dL_law_624 rfl ?_
  refine r_rr (fun rr1 => ?_)
  refine r_aload_n dL_law_627 rfl 1 rfl ?_
  have k1 := kX6_forget (G := nG N) (b := bm) (ad := adm) (h := h) c2
  have z1 := (k1 (rr1.cut (subO_b hp) getO_b)).1.2.2.2
  refine r_callV (j := some 1) 0 [] (rec_sg (j := 1) (r := (RX6, TX6, 63)) rfl (by rw [hp]; rfl)) rfl k1 (injO_xm hp) (subO_b hp) getO_b setO_b (lw_V q1897 q1898 q1899 q123 q1900) (by decide +kernel) rfl (Nat.le_of_ble_eq_true rfl) (Nat.le_of_ble_eq_true rfl) rfl (Nat.le_of_ble_eq_true rfl) dL_law_628 rfl ?_
  refine r_rr (fun rr2 => ?_)
  exact r_icmp_eq z0 z1 742 dL_law_631 (by decide) (fun _ => K) (fun c => absurd c3 c)
def fL_16 (G : Gx) (adx : Nat → Nat) (i : Int) (sx sm : Sg) (h : hS) : Option (Sg × Sg × hS) := gd (inb (wr (i + 1)) (xL G) ∧ inb (wr (i + 2)) (xL G) ∧ inb (wr (i + 3)) (xL G)) (bd (fX0_drawn (some (adx 20)) sx h (xs G (wr (i + 1))) (xs G (wr (i + 2))) (xs G (wr (i + 3)))) fun p => bd (fX6_drawn sm (xs G (wr (i + 1))) (xs G (wr (i + 2))) (xs G (wr (i + 3)))) fun q => gd (p.1 = q.1) (some (p.2.1, q.2, p.2.2)))
theorem wL_16 {N : Nx} {bx bm : Nat} {adx adm : Nat → Nat} {sx sm : Sg} {h : hS} {i : Int} {z : Sg × Sg × hS} (hp : np N = [(0, bx, adx), (6, bm, adm)]) (e : fL_16 (nG N) adx i sx sm h = some z) (K : AtPc cL_law LN 8192 104096 N [z.1, z.2.1] z.2.2 742 [(3, ti i), (2, tr (some bm)), (1, tr (some bx)), (0, tr (some (xA (nG N))))] []) : AtPc cL_law LN 8192 104096 N [sx, sm] h 636 [(3, ti i), (2, tr (some bm)), (1, tr (some bx)), (0, tr (some (xA (nG N))))] [] := by
  unfold fL_16 at e
  obtain ⟨g9, e⟩ := gd_o e
  obtain ⟨p, c1, e⟩ := bd_o e
  obtain ⟨q, c2, e⟩ := bd_o e
  obtain ⟨c3, e⟩ := gd_o e
  cases e
  refine r_rr (fun rr => ?_)
  refine r_aload_n dL_law_636 rfl 2 rfl ?_
  refine r_aload_n dL_law_637 rfl 3 rfl ?_
  refine r_iload_n dL_law_638 rfl 0 rfl ?_
  refine r_iconst dL_law_639 ?_
  refine r_iadd dL_law_640 ?_
  refine r_xld (rI_wr _) (g9.1) dL_law_641 ?_
  refine r_aload_n dL_law_642 rfl 3 rfl ?_
  refine r_iload_n dL_law_643 rfl 0 rfl ?_
  refine r_iconst dL_law_644 ?_
  refine r_iadd dL_law_645 ?_
  refine r_xld (rI_wr _) (g9.2.1) dL_law_646 ?_
  refine r_aload_n dL_law_647 rfl 3 rfl ?_
  refine r_iload_n dL_law_648 rfl 0 rfl ?_
  refine r_iconst dL_law_649 ?_
  refine r_iadd dL_law_650 ?_
  refine r_xld (rI_wr _) (g9.2.2) dL_law_651 ?_
  have k0 := kX0_drawn (G := nG N) (b := bx) (ad := adx)  (xs_r _ _) (xs_r _ _) (xs_r _ _) c1
  have z0 := (k0 (rr.cut (subO_a hp) getO_a)).1.2.2.2
  refine r_callV (j := some 0) 3 [ti (xs (nG N) (wr (i + 1))), ti (xs (nG N) (wr (i + 2))), ti (xs (nG N) (wr (i + 3)))] (rec_sg (j := 0) (r := (RX0, TX0, 36)) rfl (by rw [hp]; rfl)) rfl k0 (injO_xm hp) (subO_a hp) getO_a setO_a (lw_V q1332 q1333 q1334 q115 q1335) (by decide +kernel) rfl (Nat.le_of_ble_eq_true rfl) (Nat.le_of_ble_eq_true rfl) rfl (Nat.le_of_ble_eq_true rfl) dL_law_652 rfl ?_
  refine r_rr (fun rr1 => ?_)
  refine r_aload_n dL_law_655 rfl 1 rfl ?_
  refine r_aload_n dL_law_656 rfl 3 rfl ?_
  refine r_iload_n dL_law_657 rfl 0 rfl ?_
  refine r_iconst dL_law_658 ?_
  refine r_iadd dL_law_659 ?_
  refine r_xld (rI_wr _) (g9.1) dL_law_660 ?_
  refine r_aload_n dL_law_661 rfl 3 rfl ?_
  refine r_iload_n dL_law_662 rfl 0 rfl ?_
  refine r_iconst dL_law_663 ?_
  refine r_iadd dL_law_664 ?_
  refine r_xld (rI_wr _) (g9.2.1) dL_law_665 ?_
  refine r_aload_n dL_law_666 rfl 3 rfl ?_
  refine r_iload_n dL_law_667 rfl 0 rfl ?_
  refine r_iconst dL_law_668 ?_
  refine r_iadd dL_law_669 ?_
  refine r_xld (rI_wr _) (g9.2.2) dL_law_670 ?_
  have k1 := kX6_drawn (G := nG N) (b := bm) (ad := adm) (h := p.2.2) (xs_r _ _) (xs_r _ _) (xs_r _ _) c2
  have z1 := (k1 (rr1.cut (subO_b hp) getO_b)).1.2.2.2
  refine r_callV (j := some 1) 3 [ti (xs (nG N) (wr (i + 1))), ti (xs (nG N) (wr (i + 2))), ti (xs (nG N) (wr (i + 3)))] (rec_sg (j := 1) (r := (RX6, TX6, 63)) rfl (by rw [hp]; rfl)) rfl k1 (injO_xm hp) (subO_b hp) getO_b setO_b (lw_V q1901 q1902 q1903 q123 q1904) (by decide +kernel) rfl (Nat.le_of_ble_eq_true rfl) (Nat.le_of_ble_eq_true rfl) rfl (Nat.le_of_ble_eq_true rfl) dL_law_671 rfl ?_
  refine r_rr (fun rr2 => ?_)
  exact r_icmp_eq z0 z1 742 dL_law_674 (by decide) (fun _ => K) (fun c => absurd c3 c)
def fL_17 (G : Gx) (adx : Nat → Nat) (i : Int) (sx sm : Sg) (h : hS) : Option (Sg × Sg × hS) := bd (fX0_image sx h) fun p => bd (fX6_image sm) fun q => gd (p.1 = q.1) (some (p.2, q.2, h))
theorem wL_17 {N : Nx} {bx bm : Nat} {adx adm : Nat → Nat} {sx sm : Sg} {h : hS} {i : Int} {z : Sg × Sg × hS} (hp : np N = [(0, bx, adx), (6, bm, adm)]) (e : fL_17 (nG N) adx i sx sm h = some z) (K : AtPc cL_law LN 8192 104096 N [z.1, z.2.1] z.2.2 742 [(3, ti i), (2, tr (some bm)), (1, tr (some bx)), (0, tr (some (xA (nG N))))] []) : AtPc cL_law LN 8192 104096 N [sx, sm] h 679 [(3, ti i), (2, tr (some bm)), (1, tr (some bx)), (0, tr (some (xA (nG N))))] [] := by
  unfold fL_17 at e
  obtain ⟨p, c1, e⟩ := bd_o e
  obtain ⟨q, c2, e⟩ := bd_o e
  obtain ⟨c3, e⟩ := gd_o e
  cases e
  refine r_rr (fun rr => ?_)
  refine r_aload_n dL_law_679 rfl 2 rfl ?_
  have k0 := kX0_image (G := nG N) (b := bx) (ad := adx)  c1
  have z0 := (k0 (rr.cut (subO_a hp) getO_a)).1.2.2.2
  refine r_callV (j := some 0) 0 [] (rec_sg (j := 0) (r := (RX0, TX0, 36)) rfl (by rw [hp]; rfl)) rfl k0 (injO_xm hp) (subO_a hp) getO_a setO_a (lw_V q1353 q1354 q1355 q115 q1356) (by decide +kernel) rfl (Nat.le_of_ble_eq_true rfl) (Nat.le_of_ble_eq_true rfl) rfl (Nat.le_of_ble_eq_true rfl) dL_law_680 rfl ?_
  refine r_rr (fun rr1 => ?_)
  refine r_aload_n dL_law_683 rfl 1 rfl ?_
  have k1 := kX6_image (G := nG N) (b := bm) (ad := adm) (h := h) c2
  have z1 := (k1 (rr1.cut (subO_b hp) getO_b)).1.2.2.2
  refine r_callV (j := some 1) 0 [] (rec_sg (j := 1) (r := (RX6, TX6, 63)) rfl (by rw [hp]; rfl)) rfl k1 (injO_xm hp) (subO_b hp) getO_b setO_b (lw_V q1928 q1929 q1930 q123 q1931) (by decide +kernel) rfl (Nat.le_of_ble_eq_true rfl) (Nat.le_of_ble_eq_true rfl) rfl (Nat.le_of_ble_eq_true rfl) dL_law_684 rfl ?_
  refine r_rr (fun rr2 => ?_)
  exact r_icmp_eq z0 z1 742 dL_law_687 (by decide) (fun _ => K) (fun c => absurd c3 c)
def fL_18 (G : Gx) (adx : Nat → Nat) (i : Int) (sx sm : Sg) (h : hS) : Option (Sg × Sg × hS) := bd (fX0_restore (some (adx 20)) sx h) fun p => bd (fX6_restore sm) fun q => gd (p.1 = q.1) (some (p.2.1, q.2, p.2.2))
theorem wL_18 {N : Nx} {bx bm : Nat} {adx adm : Nat → Nat} {sx sm : Sg} {h : hS} {i : Int} {z : Sg × Sg × hS} (hp : np N = [(0, bx, adx), (6, bm, adm)]) (e : fL_18 (nG N) adx i sx sm h = some z) (K : AtPc cL_law LN 8192 104096 N [z.1, z.2.1] z.2.2 742 [(3, ti i), (2, tr (some bm)), (1, tr (some bx)), (0, tr (some (xA (nG N))))] []) : AtPc cL_law LN 8192 104096 N [sx, sm] h 692 [(3, ti i), (2, tr (some bm)), (1, tr (some bx)), (0, tr (some (xA (nG N))))] [] := by
  unfold fL_18 at e
  obtain ⟨p, c1, e⟩ := bd_o e
  obtain ⟨q, c2, e⟩ := bd_o e
  obtain ⟨c3, e⟩ := gd_o e
  cases e
  refine r_rr (fun rr => ?_)
  refine r_aload_n dL_law_692 rfl 2 rfl ?_
  have k0 := kX0_restore (G := nG N) (b := bx) (ad := adx)  c1
  have z0 := (k0 (rr.cut (subO_a hp) getO_a)).1.2.2.2
  refine r_callV (j := some 0) 0 [] (rec_sg (j := 0) (r := (RX0, TX0, 36)) rfl (by rw [hp]; rfl)) rfl k0 (injO_xm hp) (subO_a hp) getO_a setO_a (lw_V q1362 q1363 q1364 q115 q1365) (by decide +kernel) rfl (Nat.le_of_ble_eq_true rfl) (Nat.le_of_ble_eq_true rfl) rfl (Nat.le_of_ble_eq_true rfl) dL_law_693 rfl ?_
  refine r_rr (fun rr1 => ?_)
  refine r_aload_n dL_law_696 rfl 1 rfl ?_
  have k1 := kX6_restore (G := nG N) (b := bm) (ad := adm) (h := p.2.2) c2
  have z1 := (k1 (rr1.cut (subO_b hp) getO_b)).1.2.2.2
  refine r_callV (j := some 1) 0 [] (rec_sg (j := 1) (r := (RX6, TX6, 63)) rfl (by rw [hp]; rfl)) rfl k1 (injO_xm hp) (subO_b hp) getO_b setO_b (lw_V q1936 q1937 q1938 q123 q1939) (by decide +kernel) rfl (Nat.le_of_ble_eq_true rfl) (Nat.le_of_ble_eq_true rfl) rfl (Nat.le_of_ble_eq_true rfl) dL_law_697 rfl ?_
  refine r_rr (fun rr2 => ?_)
  exact r_icmp_eq z0 z1 742 dL_law_700 (by decide) (fun _ => K) (fun c => absurd c3 c)
def fL_19 (G : Gx) (adx : Nat → Nat) (i : Int) (sx sm : Sg) (h : hS) : Option (Sg × Sg × hS) := gd (inb (wr (i + 1)) (xL G)) (bd (fX0_count G.2.2.2 (some (adx 20)) sx h (xs G (wr (i + 1)))) fun p => bd (fX6_count sm (xs G (wr (i + 1)))) fun q => gd (p.1 = q.1) (some (sx, q.2, p.2)))
theorem wL_19 {N : Nx} {bx bm : Nat} {adx adm : Nat → Nat} {sx sm : Sg} {h : hS} {i : Int} {z : Sg × Sg × hS} (hp : np N = [(0, bx, adx), (6, bm, adm)]) (e : fL_19 (nG N) adx i sx sm h = some z) (K : AtPc cL_law LN 8192 104096 N [z.1, z.2.1] z.2.2 742 [(3, ti i), (2, tr (some bm)), (1, tr (some bx)), (0, tr (some (xA (nG N))))] []) : AtPc cL_law LN 8192 104096 N [sx, sm] h 705 [(3, ti i), (2, tr (some bm)), (1, tr (some bx)), (0, tr (some (xA (nG N))))] [] := by
  unfold fL_19 at e
  obtain ⟨g9, e⟩ := gd_o e
  obtain ⟨p, c1, e⟩ := bd_o e
  obtain ⟨q, c2, e⟩ := bd_o e
  obtain ⟨c3, e⟩ := gd_o e
  cases e
  refine r_rr (fun rr => ?_)
  refine r_aload_n dL_law_705 rfl 2 rfl ?_
  refine r_aload_n dL_law_706 rfl 3 rfl ?_
  refine r_iload_n dL_law_707 rfl 0 rfl ?_
  refine r_iconst dL_law_708 ?_
  refine r_iadd dL_law_709 ?_
  refine r_xld (rI_wr _) (g9) dL_law_710 ?_
  have k0 := kX0_count (G := nG N) (b := bx) (ad := adx)  (xs_r _ _) c1
  have z0 := (k0 (rr.cut (subO_a hp) getO_a)).1.2.2.2
  refine r_callV (j := some 0) 1 [ti (xs (nG N) (wr (i + 1)))] (rec_sg (j := 0) (r := (RX0, TX0, 36)) rfl (by rw [hp]; rfl)) rfl k0 (injO_xm hp) (subO_a hp) getO_a setO_a (lw_V q1366 q1367 q1368 q115 q1369) (by decide +kernel) rfl (Nat.le_of_ble_eq_true rfl) (Nat.le_of_ble_eq_true rfl) rfl (Nat.le_of_ble_eq_true rfl) dL_law_711 rfl ?_
  refine r_rr (fun rr1 => ?_)
  refine r_aload_n dL_law_714 rfl 1 rfl ?_
  refine r_aload_n dL_law_715 rfl 3 rfl ?_
  refine r_iload_n dL_law_716 rfl 0 rfl ?_
  refine r_iconst dL_law_717 ?_
  refine r_iadd dL_law_718 ?_
  refine r_xld (rI_wr _) (g9) dL_law_719 ?_
  have k1 := kX6_count (G := nG N) (b := bm) (ad := adm) (h := p.2) (xs_r _ _) c2
  have z1 := (k1 (rr1.cut (subO_b hp) getO_b)).1.2.2.2
  refine r_callV (j := some 1) 1 [ti (xs (nG N) (wr (i + 1)))] (rec_sg (j := 1) (r := (RX6, TX6, 63)) rfl (by rw [hp]; rfl)) rfl k1 (injO_xm hp) (subO_b hp) getO_b setO_b (lw_V q1940 q1941 q1942 q123 q1943) (by decide +kernel) rfl (Nat.le_of_ble_eq_true rfl) (Nat.le_of_ble_eq_true rfl) rfl (Nat.le_of_ble_eq_true rfl) dL_law_720 rfl ?_
  refine r_rr (fun rr2 => ?_)
  exact r_icmp_eq z0 z1 742 dL_law_723 (by decide) (fun _ => K) (fun c => absurd c3 c)
def fL_20 (G : Gx) (adx : Nat → Nat) (i : Int) (sx sm : Sg) (h : hS) : Option (Sg × Sg × hS) := bd (fX0_digest G.2.2.2 (some (adx 20)) sx h) fun p => bd (fX6_digest sm) fun q => gd (p.1 = q.1) (some (p.2.1, q.2, p.2.2))
theorem wL_20 {N : Nx} {bx bm : Nat} {adx adm : Nat → Nat} {sx sm : Sg} {h : hS} {i : Int} {z : Sg × Sg × hS} (hp : np N = [(0, bx, adx), (6, bm, adm)]) (e : fL_20 (nG N) adx i sx sm h = some z) (K : AtPc cL_law LN 8192 104096 N [z.1, z.2.1] z.2.2 742 [(3, ti i), (2, tr (some bm)), (1, tr (some bx)), (0, tr (some (xA (nG N))))] []) : AtPc cL_law LN 8192 104096 N [sx, sm] h 728 [(3, ti i), (2, tr (some bm)), (1, tr (some bx)), (0, tr (some (xA (nG N))))] [] := by
  unfold fL_20 at e
  obtain ⟨p, c1, e⟩ := bd_o e
  obtain ⟨q, c2, e⟩ := bd_o e
  obtain ⟨c3, e⟩ := gd_o e
  cases e
  refine r_rr (fun rr => ?_)
  refine r_aload_n dL_law_728 rfl 2 rfl ?_
  have k0 := kX0_digest (G := nG N) (b := bx) (ad := adx)  c1
  have z0 := (k0 (rr.cut (subO_a hp) getO_a)).1.2.2.2
  refine r_callV (j := some 0) 0 [] (rec_sg (j := 0) (r := (RX0, TX0, 36)) rfl (by rw [hp]; rfl)) rfl k0 (injO_xm hp) (subO_a hp) getO_a setO_a (lw_V q1387 q1388 q1389 q115 q1390) (by decide +kernel) rfl (Nat.le_of_ble_eq_true rfl) (Nat.le_of_ble_eq_true rfl) rfl (Nat.le_of_ble_eq_true rfl) dL_law_729 rfl ?_
  refine r_rr (fun rr1 => ?_)
  refine r_aload_n dL_law_732 rfl 1 rfl ?_
  have k1 := kX6_digest (G := nG N) (b := bm) (ad := adm) (h := p.2.2) c2
  have z1 := (k1 (rr1.cut (subO_b hp) getO_b)).1.2.2.2
  refine r_callV (j := some 1) 0 [] (rec_sg (j := 1) (r := (RX6, TX6, 63)) rfl (by rw [hp]; rfl)) rfl k1 (injO_xm hp) (subO_b hp) getO_b setO_b (lw_V q1968 q1969 q1970 q123 q1971) (by decide +kernel) rfl (Nat.le_of_ble_eq_true rfl) (Nat.le_of_ble_eq_true rfl) rfl (Nat.le_of_ble_eq_true rfl) dL_law_733 rfl ?_
  refine r_rr (fun rr2 => ?_)
  refine r_lcmp z0 z1 dL_law_736 ?_
  exact r_if_eq (lcm3_r _ _) 742 dL_law_737 (by decide) (fun _ => K) (fun c => absurd (lcm3_z c3) c)
/-- one call of the law -/
def fL_call (G : Gx) (adx : Nat → Nat) (i c : Int) (sx sm : Sg) (h : hS) : Option (Sg × Sg × hS) := if c = 0 then fL_0 G adx i sx sm h else if c = 1 then fL_1 G adx i sx sm h else if c = 2 then fL_2 G adx i sx sm h else if c = 3 then fL_3 G adx i sx sm h else if c = 4 then fL_4 G adx i sx sm h else if c = 5 then fL_5 G adx i sx sm h else if c = 6 then fL_6 G adx i sx sm h else if c = 7 then fL_7 G adx i sx sm h else if c = 8 then fL_8 G adx i sx sm h else if c = 9 then fL_9 G adx i sx sm h else if c = 10 then fL_10 G adx i sx sm h else if c = 11 then fL_11 G adx i sx sm h else if c = 12 then fL_12 G adx i sx sm h else if c = 13 then fL_13 G adx i sx sm h else if c = 14 then fL_14 G adx i sx sm h else if c = 15 then fL_15 G adx i sx sm h else if c = 16 then fL_16 G adx i sx sm h else if c = 17 then fL_17 G adx i sx sm h else if c = 18 then fL_18 G adx i sx sm h else if c = 19 then fL_19 G adx i sx sm h else if c = 20 then fL_20 G adx i sx sm h else some (sx, sm, h)
/-- the law's loop -/
def fL_loop (G : Gx) (adx : Nat → Nat) : Nat → Int → Sg → Sg → hS → Option (Sg × Sg × hS)
  | 0, _, _, _, _ => none
  | f + 1, i, sx, sm, h => if wr ((xL G : Int) - 5) < i then some (sx, sm, h) else gd (inb i (xL G)) (bd (fL_call G adx i (iand (xs G i) 31) sx sm h) fun z => fL_loop G adx f (wr (i + 5)) z.1 z.2.1 z.2.2)
theorem wL_call {N : Nx} {bx bm : Nat} {adx adm : Nat → Nat} {sx sm : Sg} {h : hS} {i c : Int} {z : Sg × Sg × hS} (hp : np N = [(0, bx, adx), (6, bm, adm)]) (hc : rI c) (hc9 : 0 ≤ c) (e : fL_call (nG N) adx i c sx sm h = some z) (K : AtPc cL_law LN 8192 104096 N [z.1, z.2.1] z.2.2 742 [(3, ti i), (2, tr (some bm)), (1, tr (some bx)), (0, tr (some (xA (nG N))))] []) : AtPc cL_law LN 8192 104096 N [sx, sm] h 32 [(3, ti i), (2, tr (some bm)), (1, tr (some bx)), (0, tr (some (xA (nG N))))] [ti c] := by
  unfold fL_call at e
  by_cases v0 : c = 0
  · rw [if_pos v0] at e
    exact r_tswI hc dL_law_32 0 v0 132 (by decide) (by decide) (by rfl) (by rfl) (wL_0 hp e K)
  rw [if_neg v0] at e
  by_cases v1 : c = 1
  · rw [if_pos v1] at e
    exact r_tswI hc dL_law_32 1 v1 155 (by decide) (by decide) (by rfl) (by rfl) (wL_1 hp e K)
  rw [if_neg v1] at e
  by_cases v2 : c = 2
  · rw [if_pos v2] at e
    exact r_tswI hc dL_law_32 2 v2 168 (by decide) (by decide) (by rfl) (by rfl) (wL_2 hp e K)
  rw [if_neg v2] at e
  by_cases v3 : c = 3
  · rw [if_pos v3] at e
    exact r_tswI hc dL_law_32 3 v3 181 (by decide) (by decide) (by rfl) (by rfl) (wL_3 hp e K)
  rw [if_neg v3] at e
  by_cases v4 : c = 4
  · rw [if_pos v4] at e
    exact r_tswI hc dL_law_32 4 v4 194 (by decide) (by decide) (by rfl) (by rfl) (wL_4 hp e K)
  rw [if_neg v4] at e
  by_cases v5 : c = 5
  · rw [if_pos v5] at e
    exact r_tswI hc dL_law_32 5 v5 217 (by decide) (by decide) (by rfl) (by rfl) (wL_5 hp e K)
  rw [if_neg v5] at e
  by_cases v6 : c = 6
  · rw [if_pos v6] at e
    exact r_tswI hc dL_law_32 6 v6 250 (by decide) (by decide) (by rfl) (by rfl) (wL_6 hp e K)
  rw [if_neg v6] at e
  by_cases v7 : c = 7
  · rw [if_pos v7] at e
    exact r_tswI hc dL_law_32 7 v7 283 (by decide) (by decide) (by rfl) (by rfl) (wL_7 hp e K)
  rw [if_neg v7] at e
  by_cases v8 : c = 8
  · rw [if_pos v8] at e
    exact r_tswI hc dL_law_32 8 v8 316 (by decide) (by decide) (by rfl) (by rfl) (wL_8 hp e K)
  rw [if_neg v8] at e
  by_cases v9 : c = 9
  · rw [if_pos v9] at e
    exact r_tswI hc dL_law_32 9 v9 349 (by decide) (by decide) (by rfl) (by rfl) (wL_9 hp e K)
  rw [if_neg v9] at e
  by_cases v10 : c = 10
  · rw [if_pos v10] at e
    exact r_tswI hc dL_law_32 10 v10 392 (by decide) (by decide) (by rfl) (by rfl) (wL_10 hp e K)
  rw [if_neg v10] at e
  by_cases v11 : c = 11
  · rw [if_pos v11] at e
    exact r_tswI hc dL_law_32 11 v11 425 (by decide) (by decide) (by rfl) (by rfl) (wL_11 hp e K)
  rw [if_neg v11] at e
  by_cases v12 : c = 12
  · rw [if_pos v12] at e
    exact r_tswI hc dL_law_32 12 v12 468 (by decide) (by decide) (by rfl) (by rfl) (wL_12 hp e K)
  rw [if_neg v12] at e
  by_cases v13 : c = 13
  · rw [if_pos v13] at e
    exact r_tswI hc dL_law_32 13 v13 511 (by decide) (by decide) (by rfl) (by rfl) (wL_13 hp e K)
  rw [if_neg v13] at e
  by_cases v14 : c = 14
  · rw [if_pos v14] at e
    exact r_tswI hc dL_law_32 14 v14 564 (by decide) (by decide) (by rfl) (by rfl) (wL_14 hp e K)
  rw [if_neg v14] at e
  by_cases v15 : c = 15
  · rw [if_pos v15] at e
    exact r_tswI hc dL_law_32 15 v15 623 (by decide) (by decide) (by rfl) (by rfl) (wL_15 hp e K)
  rw [if_neg v15] at e
  by_cases v16 : c = 16
  · rw [if_pos v16] at e
    exact r_tswI hc dL_law_32 16 v16 636 (by decide) (by decide) (by rfl) (by rfl) (wL_16 hp e K)
  rw [if_neg v16] at e
  by_cases v17 : c = 17
  · rw [if_pos v17] at e
    exact r_tswI hc dL_law_32 17 v17 679 (by decide) (by decide) (by rfl) (by rfl) (wL_17 hp e K)
  rw [if_neg v17] at e
  by_cases v18 : c = 18
  · rw [if_pos v18] at e
    exact r_tswI hc dL_law_32 18 v18 692 (by decide) (by decide) (by rfl) (by rfl) (wL_18 hp e K)
  rw [if_neg v18] at e
  by_cases v19 : c = 19
  · rw [if_pos v19] at e
    exact r_tswI hc dL_law_32 19 v19 705 (by decide) (by decide) (by rfl) (by rfl) (wL_19 hp e K)
  rw [if_neg v19] at e
  by_cases v20 : c = 20
  · rw [if_pos v20] at e
    exact r_tswI hc dL_law_32 20 v20 728 (by decide) (by decide) (by rfl) (by rfl) (wL_20 hp e K)
  rw [if_neg v20] at e
  cases e
  exact r_tswO hc dL_law_32 742 (Or.inr (by omega)) (by rfl) K
theorem wL_loop {N : Nx} {bx bm : Nat} {adx adm : Nat → Nat} (hp : np N = [(0, bx, adx), (6, bm, adm)]) (h4 : nL N = 4) (hrt : nrt N = some .boolean) (hr : nr N = some (ti 1)) (hL : xL (nG N) < 2147483648) : ∀ (f : Nat) (i : Int) (sx sm : Sg) (h : hS) (z : Sg × Sg × hS), rI i → fL_loop (nG N) adx f i sx sm h = some z → nσF N = [z.1, z.2.1] → nF N = z.2.2 → AtPc cL_law LN 8192 104096 N [sx, sm] h 18 [(3, ti i), (2, tr (some bm)), (1, tr (some bx)), (0, tr (some (xA (nG N))))] [] := by
  intro f
  induction f with
  | zero => intro i sx sm h z _ e; cases e
  | succ f ih =>
    intro i sx sm h z hi e e1 e2
    rw [fL_loop] at e
    refine r_iload_n dL_law_18 rfl 0 rfl ?_
    refine r_aload_n dL_law_19 rfl 3 rfl ?_
    refine r_xlen hL dL_law_20 ?_
    refine r_iconst dL_law_21 ?_
    refine r_isub dL_law_22 ?_
    refine r_icmp_gt hi (rI_wr _) 748 dL_law_23 (by decide) (fun c => ?_) (fun c => ?_)
    · rw [if_pos c] at e
      cases e
      refine r_iconst dL_law_748 ?_
      exact r_zret e1 e2 hrt hr (Or.inr rfl) dL_law_749
    · rw [if_neg c] at e
      obtain ⟨g, e⟩ := gd_o e
      obtain ⟨y, c1, e⟩ := bd_o e
      refine r_aload_n dL_law_26 rfl 3 rfl ?_
      refine r_iload_n dL_law_27 rfl 0 rfl ?_
      refine r_xld hi g dL_law_28 ?_
      refine r_bipush dL_law_29 (by decide) ?_
      refine r_iand dL_law_31 ?_
      refine wL_call hp (iand_r _ _) (iand31 _) c1 ?_
      refine r_iinc (lv' := [(3, ti (wr (i + 5))), (2, tr (some bm)), (1, tr (some bx)), (0, tr (some (xA (nG N))))]) dL_law_742 0 rfl (by rw [h4]; decide) rfl ?_
      refine r_goto 18 dL_law_745 (by decide) ?_
      exact ih _ _ _ _ z (rI_wr _) e e1 e2
