/-! ROWS for methods that catch; contracts whose world behind them is known but for the next address -/
set_option maxRecDepth 100000
def jQw (g : jG) (R : Int32 → jW → Prop) : Array Value → State → Outcome → State → Prop := fun _ st oc t => ∃ v M', R v M' ∧ oc = .returned (some (.int v)) ∧ jHd g M' t.heap ∧ va_F (jA g) st t
def jMetN (l : Launch) (g : jG) (y : MethodName) (bytes : ByteArray) (maxL : Nat) (hh : List (Nat × Nat × Nat × Nat)) (rmc : Room) (args : List jV) (M : jW) (R : Int32 → jW → Prop) : Prop :=
  Met l y (wsW_ y bytes maxL (some .int) hh) rmc (va_Pc (args.map jv) (jB g M)) (jQw g R) rmc.cells rmc.slots (jA g)
abbrev jEndN (x : jX) (rm : Room) (hh : List (Nat × Nat × Nat × Nat)) (R : Int32 → jW → Prop) : Prop := xQ x = MQ (xb x) (jQw (xg x) R) (xa x) (xs x) rm.cells rm.slots (jA (xg x)) ∧ (xc x).exceptionTable.toList = tableOf hh ∧ (xl x).stackTraces = false
section jNn
variable {x : jX} {cc : ByteArray} {own : String} {rm : Room} {rt : Option FieldType} {pc : Nat} {L L' : List (Nat × jV)} {st : List jV} {M : jW} {k n : Nat}
theorem jj_nret (C : jOk x cc own rm (some .int)) {hh : List (Nat × Nat × Nat × Nat)} {R : Int32 → jW → Prop} {v : Int32} (hQ : jEndN x rm hh R) (d : decode cc pc = .ok (.ireturn, 1)) (hR : R v M) (hk : k ≤ rm.cells) (hn : n ≤ rm.slots) : jJ x pc L [jI v] M k n := by
  intro H locs ls hM hS hl
  rw [hQ.1]
  refine W.widen hk hn ?_
  exact W.iret C.ex C.cb C.re (fun t ht hW => ⟨v, M, hR, rfl, hM.moved ht, hS.F ht⟩) hS.2.2 d C.lk
theorem jj_backXc (C : jOk x cc own rm rt) {mc ms e : Nat} {st0 rest : List jV} {M' : jW} {a : Array Value} {nm : String} (hr : jRunX x pc L st0 rest M k n mc ms (.inr e) M' a) (pre : List ExceptionTableEntry) (y : ExceptionTableEntry) (suf : List ExceptionTableEntry) (hsplit : (xc x).exceptionTable.toList = pre ++ y :: suf)
    (hpass : ∀ z ∈ pre, covers z pc = false ∨ (z.catchType ≠ 0 ∧ ∃ nm : String, (Cond.classLink own z.catchType nm).before (xa x) (xs x) = true ∧ va_Nc (jexn e) nm (xs x))) (hx : covers y pc = true) (h0 : y.catchType ≠ 0) (hlink : Cond.classLink own y.catchType nm ∈ lw_all) (hcast : Cond.castable (jexn e) nm ∈ lw_tbl)
    (h : ∀ (q n' : Nat), jJ x y.handlerPc L [jR (some q)] (M'.1, (n', M'.2.2)) (k + mc) (n + ms)) : jJ x pc L st0 M k n := by
  intro H locs ls hM hS hl T hT X
  rcases hr H locs ls hM hS hl T hT X with ⟨v, s0, t, T', L1, h0, X', hL, e1, e2, ⟨⟨ov', ho, hv⟩, hM', hz, hk⟩, st⟩ | ⟨q, s0, t, T', L1, E, ce, h1, X', hL, e1, e2, ⟨⟨e', ho, hE⟩, ⟨n', hM'⟩, hz, hk1⟩, hce, hcv, hcl, st⟩
  · cases ho
  · cases ho
    rw [h1] at hz hk1
    rw [← e1] at hM' hz hk1 hce
    have hS' : va_S (jA (xg x)) (xs x).heap T'.heap (locs ++ L1) := ⟨Nat.le_trans hS.1 hz, fun q h1 h2 => (hk1 q (Nat.lt_of_lt_of_le h1 hS.1) h2).trans (hS.2.1 q h1 h2), fun q hq => by
        rcases List.mem_append.mp hq with h | h
        · exact hS.2.2 q h
        · exact hL q h⟩
    subst hE
    have := vx_catch (Q := xQ x) (ls := ls) (rest := rest.map jv) C.ow pre y suf hsplit hpass hx h0 (C.ts _ hlink) (va_Nw.use rfl (C.nw hcast rfl)) hce hcv hcl (h q n' T'.heap (locs ++ L1) ls hM' hS' hl)
    obtain ⟨t2, a1, b1⟩ := this T' rfl X'
    exact ⟨t2, st.trans a1, b1⟩
theorem jj_callVXc (C : jOk x cc own rm rt) {y : MethodName} {bytes : ByteArray} {maxL ix b ci N e : Nat} {ret : Option FieldType} {rmc : Room} {M' : jW} {res : Option jV ⊕ Nat} {Cn : String} {T : u_T} {fs : List Value} {r : Option Nat} {nm : String} (As rest : List jV) {k' n2 : Nat} (hr : r = some b)
    (hMet : jMetX (xl x) (xg x) y bytes maxL ret rmc (jR (some b) :: As) M res M') (hres : res = .inr e) (hb : M.1 b = some (.inr (ci, fs))) (hc0 : jCl[ci]? = some (Cn, T, N)) (h1 : Cond.methodLink own ix y ∈ lw_all) (h2 : Cond.instanceMethod y ∈ lw_all) (h3 : Cond.selects Cn y y ∈ lw_all) (h4 : Cond.initialized Cn ∈ lw_all) (h5 : Cond.code y bytes maxL ret ∈ lw_all)
    (hd : y.cls = Cn ∧ y.cls ≠ "java/lang/invoke/MethodHandle" ∧ y.cls ≠ "java/lang/invoke/VarHandle" ∧ (parseMethodDescriptor y.desc).map (fun d => d.parameters.length) = some As.length)
    (hst : st = As.reverse ++ jR r :: rest) (h8 : (rest.map jc).sum ≤ 8) (hR : rmc.frames + 1 ≤ rm.frames ∧ 8 + (maxL + 11) + rmc.locals ≤ rm.locals) (hc : k + rmc.cells ≤ k' ∧ n + rmc.slots ≤ n2 ∧ k' ≤ rm.cells ∧ n2 ≤ rm.slots) (d : decode cc pc = .ok (.invokevirtual ix, 3))
    (pre : List ExceptionTableEntry) (z : ExceptionTableEntry) (suf : List ExceptionTableEntry) (hsplit : (xc x).exceptionTable.toList = pre ++ z :: suf)
    (hpass : ∀ z ∈ pre, covers z pc = false ∨ (z.catchType ≠ 0 ∧ ∃ nm : String, (Cond.classLink own z.catchType nm).before (xa x) (xs x) = true ∧ va_Nc (jexn e) nm (xs x))) (hx : covers z pc = true) (h0 : z.catchType ≠ 0) (hlink : Cond.classLink own z.catchType nm ∈ lw_all) (hcast : Cond.castable (jexn e) nm ∈ lw_tbl)
    (h : ∀ (q n' : Nat), jJ x z.handlerPc L [jR (some q)] (M'.1, (n', M'.2.2)) k' n2) : jJ x pc L st M k n := by
  subst hres
  subst hr
  refine jj_backXc C (mc := rmc.cells) (ms := rmc.slots) (rest := rest) (M' := M') (a := (Value.ref b :: As.map jv).toArray) (fun H locs ls hM hS hl => ?_) pre z suf hsplit hpass hx h0 hlink hcast (fun q n' => jj_widen C hc.1 hc.2.1 (h q n'))
  exact vx_runV (C := Cn) (b := b) (As := As.map jv) (jfix C) hMet (cwV As.length C.ts (lw_V h1 h2 h3 h4 h5) rfl rfl rfl hd (by rw [C.R]; exact hR)) ⟨jB.blind, jrecv C hM hb hc0, fun U hU hW => ⟨rfl, jB.at C hM hS hU hW⟩⟩ rfl (by simp) hl.1 (by rw [hst]; simp [jv, va_rf]) (by show 2 * 0 + _ ≤ 8; rw [jcat_sum]; omega) d (by rw [C.R]; exact ⟨Nat.le_trans hc.1 hc.2.2.1, Nat.le_trans hc.2.1 hc.2.2.2⟩)
/-- a call of a method that catches -/
theorem jj_callN (C : jOk x cc own rm rt) {y : MethodName} {bytes : ByteArray} {maxL ix : Nat} {hh : List (Nat × Nat × Nat × Nat)} {rmc : Room} {R : Int32 → jW → Prop} (As rest : List jV) {k' n' : Nat}
    (hMet : jMetN (xl x) (xg x) y bytes maxL hh rmc As M R) (h1 : Cond.methodLink own ix y ∈ lw_all) (h2 : Cond.static y ∈ lw_all) (h3 : Cond.initialized y.cls ∈ lw_all) (h4 : Cond.codeWith y bytes maxL (some .int) hh ∈ lw_all)
    (hd : y.cls ≠ "java/lang/invoke/MethodHandle" ∧ y.cls ≠ "java/lang/invoke/VarHandle" ∧ (parseMethodDescriptor y.desc).map (fun d => d.parameters.length) = some As.length)
    (hst : st = As.reverse ++ rest) (h8 : (rest.map jc).sum ≤ 8) (hR : rmc.frames + 1 ≤ rm.frames ∧ 8 + (maxL + 11) + rmc.locals ≤ rm.locals) (hc : k + rmc.cells ≤ k' ∧ n + rmc.slots ≤ n' ∧ k' ≤ rm.cells ∧ n' ≤ rm.slots) (d : decode cc pc = .ok (.invokestatic ix, 3))
    (h : ∀ v M', R v M' → (∀ a e, M'.1 a = some e → a < M'.2.1) → jJ x (pc + 3) L (jI v :: rest) M' k' n') : jJ x pc L st M k n := by
  intro H locs ls hM hS hl T hT X
  obtain ⟨v, s0, t, T', L1, h0, X', hL, e1, e2, ⟨v', M', hRv, hv, hM', hz, hk⟩, st9⟩ := vx_runSW (rest := rest.map jv) (g := F0 (xm x) pc ls (st.map jv)) (As := As.map jv) (jfix C) hMet (vx_cwSW As.length C.ts (lw_SW h1 h2 h3 h4) rfl rfl rfl hd (by rw [C.R]; exact hR)) ⟨jB.blind, fun U hU hW => ⟨rfl, jB.at C hM hS hU hW⟩⟩ rfl (by simp) hl.1 (by rw [hst]; simp) (by show 2 * 0 + _ ≤ 8; rw [jcat_sum]; omega) d (by rw [C.R]; exact ⟨Nat.le_trans hc.1 hc.2.2.1, Nat.le_trans hc.2.1 hc.2.2.2⟩) T hT X
  cases hv
  rw [h0] at hz hk
  rw [← e1] at hM' hz hk
  have hlt : ∀ a e, M'.1 a = some e → a < M'.2.1 := fun a e ha => by rw [← hM'.2.1]; exact (hM'.at ha).lt
  obtain ⟨t2, a1, b1⟩ := jj_widen C hc.1 hc.2.1 (h v' M' hRv hlt) T'.heap (locs ++ L1) ls hM' ⟨Nat.le_trans hS.1 hz, fun q h1 h2 => (hk q (Nat.lt_of_lt_of_le h1 hS.1) h2).trans (hS.2.1 q h1 h2), fun q hq => by
      rcases List.mem_append.mp hq with h | h
      · exact hS.2.2 q h
      · exact hL q h⟩ hl T' rfl X'
  exact ⟨t2, st9 t2 a1, b1⟩
/-- what lies in the pure heap lies below its next address -/
theorem jj_lt (h : (∀ a e, M.1 a = some e → a < M.2.1) → jJ x pc L st M k n) : jJ x pc L st M k n := fun H locs ls hM hS hl => h (fun a e ha => by rw [← hM.2.1]; exact (hM.at ha).lt) H locs ls hM hS hl
end jNn
theorem jMetN.of {l : Launch} {g : jG} {y : MethodName} {bytes : ByteArray} {maxL : Nat} {hh : List (Nat × Nat × Nat × Nat)} {rm : Room} {args : List jV} {M : jW} {R : Int32 → jW → Prop} {L : List (Nat × jV)} (hfl : l.stackTraces = false) (hy : plainName y.cls = true) (hL0 : jargs 0 args = L) (hn0 : (args.map jc).sum ≤ maxL)
    (body : ∀ x : jX, jOk x bytes y.cls rm (some .int) → xn x = maxL → xg x = g → xl x = l → jEndN x rm hh R → jJ x 0 L [] M 0 0) : jMetN l g y bytes maxL hh rm args M R := by
  have hL : lv_args 0 (args.map jv) = L.map jlv := by rw [jargs_map, hL0]
  have hn : (lg_sl (args.map jv)).length ≤ maxL := by rw [jlen_map]; exact hn0
  unfold jMetN Met
  refine MetFree.of_bodyS (code := bytes) (maxLocals := maxL) (ret := some .int) hy ?_ ?_
  · intro args s m h hn
    obtain ⟨m9, meth, c, hn9, h1, h2, h3, h4, -, h5, h6, -⟩ := Cond.codeWith_spec (atoms_spec (ws := wsW_ y bytes maxL (some .int) hh) h _ List.mem_cons_self)
    cases hn.symm.trans hn9
    exact ⟨meth, c, h1, h2, h3, h4, h5, h6⟩
  · intro p e s m as below meth c s₁ B hml hv _
    have hh0 : s₁.heap = s.heap := by rw [B.state]; rfl
    obtain ⟨rfl, hM, hKK, hz⟩ := hv
    have hts0 := atoms_spec (ws := wsW_ y bytes maxL (some .int) hh) B.pre
    have hts : ∀ w ∈ lw_all, w.before _ s = true := fun w h => hts0 w (List.mem_cons_of_mem _ h)
    have hown : s.vm.findClass y.cls = some m.cls := findClass_of_methodNamed B.named
    have hl := lv_entry (args.map jv) hn
    rw [hL] at hl
    have h := body (p, l, e, (headSpec (wsW_ y bytes maxL (some .int) hh) rm).room, s, m, (args.map jv).toArray, below, meth, c, MQ below (jQw g R) (args.map jv).toArray s rm.cells rm.slots (jA g), maxL, g)
      ⟨B.exec, B.bytes, hml, hown, hts, B.notSynchronized, B.returns, hKK, hz, rfl⟩ rfl rfl rfl ⟨rfl, vx_table (x := y) B (hts0 _ List.mem_cons_self), hfl⟩
    have h := h s.heap [] _ hM va_S.rf hl
    rw [lg_entry_eq]
    obtain ⟨t, a1, o, b1, b2, b3⟩ := h s₁ hh0 (Stand.of_body B)
    exact ⟨t, o, a1, b1, b2, b3⟩
