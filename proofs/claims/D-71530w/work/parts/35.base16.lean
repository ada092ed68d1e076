/-! BASE 16: constructors through a reference that isn't null -/
set_option maxRecDepth 100000
section RW
variable {N : Nx} {cc : ByteArray} {own : String} {fR lO : Nat} {σs : List Sg} {st : hS} {pc : Nat} {lv : List (Nat × Tv)} {stk : List Tv}
variable {y : MethodName} {code : ByteArray} {maxL f' l' index : Nat} {ret : Option FieldType} {sps' : List Sp} {σs' σs1 σsN : List Sg} {st1 : hS} {r : Option Tv} {stk0 : List Tv} {j : Option Nat}
theorem r_objInitO {index : Nat} {o : Option Nat} (he : ¬ o = none) (hl : Cond.methodLink own index Lib.objectInit ∈ lw_all) (hi : Cond.instanceMethod Lib.objectInit ∈ lw_all) (hco : Cond.code Lib.objectInit ⟨#[0xb1]⟩ 1 none ∈ lw_all) (hfr : 1 ≤ fR) (hlo : 20 ≤ lO) (hroom : (stk.map tc).sum ≤ 8) (hd : decode cc pc = .ok (.invokespecial index, 3)) (h : AtPc cc own fR lO N σs st (pc + 3) lv stk) : AtPc cc own fR lO N σs st pc lv (tr o :: stk) := by
  cases o with
  | none => exact absurd rfl he
  | some b => exact r_objInit hl hi hco hfr hlo hroom hd h
theorem r_callIo (n : Nat) (av : List Tv) {o : Option Nat} (he : ¬ o = none) (hyn : y.name = "<init>") (hret : ret = none) (hc : CtX (nG N) y code maxL ret f' l' sps' σs' st (tr o :: av) r σs1 st1) (hinj : injO N) (hsub : subO N j sps') (hget : getO j σs σs') (hset : setO j σs σs1 σsN)
    (hco : Cond.code y code maxL ret ∈ lw_all) (hini : Cond.initialized y.cls ∈ lw_all) (hl : Cond.methodLink own index y ∈ lw_all) (hins : Cond.instanceMethod y ∈ lw_all) (hd9 : y.cls ≠ "java/lang/invoke/MethodHandle" ∧ y.cls ≠ "java/lang/invoke/VarHandle" ∧ (parseMethodDescriptor y.desc).map (fun d => d.parameters.length) = some n) (hn : av.length = n) (hfr : f' + 1 ≤ fR) (hlo : 8 + (maxL + 11) + l' ≤ lO) (hstk : stk0 = av.reverse ++ tr o :: stk) (hroom : (stk.map tc).sum ≤ 8) (hd : decode cc pc = .ok (.invokespecial index, 3))
    {stk1 : List Tv} (hs1 : r.toList ++ stk = stk1) (h : AtPc cc own fR lO N σsN st1 (pc + 3) lv stk1) : AtPc cc own fR lO N σs st pc lv stk0 := by
  cases o with
  | none => exact absurd rfl he
  | some b => exact r_callI n av hyn hret hc hinj hsub hget hset hco hini hl hins hd9 hn hfr hlo hstk hroom hd hs1 h
theorem r_callINo (n : Nat) (av : List Tv) {host : String} {o : Option Nat} (he : ¬ o = none) (hyn : y.name = "<init>") (hret : ret = none) (hc : CtX (nG N) y code maxL ret f' l' sps' σs' st (tr o :: av) r σs1 st1) (hinj : injO N) (hsub : subO N j sps') (hget : getO j σs σs') (hset : setO j σs σs1 σsN)
    (hco : Cond.code y code maxL ret ∈ lw_all) (hini : Cond.initialized y.cls ∈ lw_all) (hl : Cond.methodLinkNest own index y host ∈ lw_tbl) (hins : Cond.instanceMethod y ∈ lw_all) (hd9 : y.cls ≠ "java/lang/invoke/MethodHandle" ∧ y.cls ≠ "java/lang/invoke/VarHandle" ∧ (parseMethodDescriptor y.desc).map (fun d => d.parameters.length) = some n) (hn : av.length = n) (hfr : f' + 1 ≤ fR) (hlo : 8 + (maxL + 11) + l' ≤ lO) (hstk : stk0 = av.reverse ++ tr o :: stk) (hroom : (stk.map tc).sum ≤ 8) (hd : decode cc pc = .ok (.invokespecial index, 3))
    {stk1 : List Tv} (hs1 : r.toList ++ stk = stk1) (h : AtPc cc own fR lO N σsN st1 (pc + 3) lv stk1) : AtPc cc own fR lO N σs st pc lv stk0 := by
  cases o with
  | none => exact absurd rfl he
  | some b => exact r_callIN n av (host := host) hyn hret hc hinj hsub hget hset hco hini hl hins hd9 hn hfr hlo hstk hroom hd hs1 h
end RW
