/-! THROWS: contracts of methods that return or throw; nothing is caught inside the system -/
set_option maxRecDepth 100000
def jexn : Nat → String
  | 1 => "java/lang/IndexOutOfBoundsException"
  | 2 => "java/lang/IllegalArgumentException"
  | _ => "java/lang/IllegalStateException"
def jri : Int32 ⊕ Nat → Option jV ⊕ Nat
  | .inl v => .inl (some (jI v))
  | .inr k => .inr k
def jrr : Option Nat ⊕ Nat → Option jV ⊕ Nat
  | .inl v => .inl (some (jR v))
  | .inr k => .inr k
def jru : Unit ⊕ Nat → Option jV ⊕ Nat
  | .inl _ => .inl none
  | .inr k => .inr k
def jQn (g : jG) (res : Option jV ⊕ Nat) (M : jW) : Array Value → State → Outcome → State → Prop := fun _ st oc t => (∃ ov, res = .inl ov ∧ oc = .returned (ov.map jv)) ∧ jHd g M t.heap ∧ va_F (jA g) st t
def jQe (g : jG) (res : Option jV ⊕ Nat) (M : jW) : String → State → State → Prop := fun E st t => (∃ k, res = .inr k ∧ E = jexn k) ∧ (∃ n', jHd g (M.1, (n', M.2.2)) t.heap) ∧ va_F (jA g) st t
/-- the method y, called with args in the world M, returns or throws as res says, in the world M' -/
def jMetX (l : Launch) (g : jG) (y : MethodName) (bytes : ByteArray) (maxL : Nat) (ret : Option FieldType) (rmc : Room) (args : List jV) (M : jW) (res : Option jV ⊕ Nat) (M' : jW) : Prop :=
  vx_Met l y (ws_ y bytes maxL ret) rmc (va_Pc (args.map jv) (jB g M)) (jQn g res M') (jQe g res M') rmc.cells rmc.slots (jA g)
abbrev jEndX (x : jX) (rm : Room) (res : Option jV ⊕ Nat) (M' : jW) : Prop := xQ x = vx_MQ (xb x) (jQn (xg x) res M') (jQe (xg x) res M') (xa x) (xs x) rm.cells rm.slots (jA (xg x)) ∧ (∀ z ∈ (xc x).exceptionTable.toList, False) ∧ (xl x).stackTraces = false
def pRZX (v : Int32) (M : jW) : Option ((Int32 ⊕ Nat) × jW) := if v = 0 ∨ v = 1 then some (.inl v, M) else none
theorem jNk_on {w : Cond} (h : jNk w = true) : w.onTables = true := by
  cases w <;> first | rfl | cases h
section jT
variable {x : jX} {cc : ByteArray} {own : String} {rm : Room} {rt : Option FieldType} {pc : Nat} {L L' : List (Nat × jV)} {st : List jV} {M : jW} {k n : Nat} {β : Type} {out : β}
theorem jat (C : jOk x cc own rm rt) {ws : List Cond} (ps : List Nat) (hp : ws = ps.filterMap (fun i => lw_tbl[i]?)) (hg : ws.all (fun w => goodWord w || jNk w) = true) : ∀ w ∈ ws, w.before (xa x) (xs x) = true := by
  intro w hw
  have h1 := List.all_eq_true.mp hg w hw
  rw [hp] at hw
  obtain ⟨i, -, hi⟩ := List.mem_filterMap.mp hw
  have hm : w ∈ lw_tbl := List.mem_of_getElem? hi
  rcases Bool.or_eq_true_iff.mp h1 with h | h
  · exact C.ts _ (lw_g hm h)
  · exact va_Nw.use (jNk_on h) (C.nw hm h)
theorem jj_throw (C : jOk x cc own rm rt) {e : Nat} (hQ : jEndX x rm (.inr e) M) {cls : String} {names : List String} {ik ic : Nat} (hcls : Bundle.fit cls = true) (hnames : ∀ n ∈ names, Bundle.fit n = true) (h1 : Cond.classLink own ik cls ∈ lw_all) (h2 : Cond.initialized cls ∈ lw_all) (hat : ∀ w ∈ vx_at0 own ic cls names, w.before (xa x) (xs x) = true) (hgood : ∀ w ∈ Cond.classLink own ik cls :: Cond.initialized cls :: vx_at0 own ic cls names, vx_ot w = true) (he : cls = jexn e)
    (d0 : decode cc pc = .ok (.new ik, 3)) (d3 : decode cc (pc + 3) = .ok (.dup, 1)) (d4 : decode cc (pc + 4) = .ok (.invokespecial ic, 3)) (d7 : decode cc (pc + 7) = .ok (.athrow, 1))
    (hR : names.length + 3 < rm.frames ∧ (st.map jc).sum + (13 * (names.length + 1) + 42) ≤ rm.locals) (hk : k + 1 ≤ rm.cells) (hn : n + 6 ≤ rm.slots) : jJ x pc L st M k n := by
  intro H locs ls hM hS hl
  rw [hQ.1]
  refine vx_throw0 C.ex C.cb hQ.2.2 (A := jA (xg x)) C.ow hcls hnames (C.ts _ h1) (C.ts _ h2) hat hgood C.kk.2.2.2.2.2.2.2.2.2.2.2.1.1 C.kk.2.2.2.2.2.2.2.2.2.2.2.1.2 hS (by rw [C.ml]; exact hl.1) d0 d3 d4 d7 (fun z hz => absurd hz (fun h => hQ.2.1 z h)) (by rw [C.R]; exact hR.1) (by rw [jcat_sum, C.R]; exact hR.2) (by rw [C.R]; exact hk) (by rw [C.R]; exact hn) C.lk (fun t hA hz hq => ?_) hS.2.2 hk hn
  refine ⟨⟨e, rfl, he⟩, ⟨t.heap.size, fun a c ha => ?_, rfl, hM.2.2⟩, Nat.le_trans hS.1 hz, fun q h1 h2 => (hq q (Nat.lt_of_lt_of_le h1 hS.1)).trans (hS.2.1 q h1 h2)⟩
  have h3 := hM.1 a c ha
  exact ⟨h3.1, h3.2.kept (hq a h3.2.lt)⟩
theorem jat_1 : vx_at0 "Phrasehall" 3 "java/lang/IndexOutOfBoundsException" ["java/lang/RuntimeException", "java/lang/Exception"] = ([47, 258, 267, 272, 275, 277, 259, 260, 85, 86, 261, 266, 273, 290, 248, 291, 250, 292, 252, 262, 264, 254, 441, 442, 443, 282, 239, 282, 283, 284, 285, 241, 285, 286, 287, 259, 243, 440, 432, 433, 434, 271, 435, 436, 437, 438, 257, 256, 439] : List Nat).filterMap (fun i => lw_tbl[i]?) := by decide +kernel
theorem jag_1 : (vx_at0 "Phrasehall" 3 "java/lang/IndexOutOfBoundsException" ["java/lang/RuntimeException", "java/lang/Exception"]).all (fun w => goodWord w || jNk w) = true := by decide +kernel
theorem jah_1 : (Cond.classLink "Phrasehall" 1 "java/lang/IndexOutOfBoundsException" :: Cond.initialized "java/lang/IndexOutOfBoundsException" :: vx_at0 "Phrasehall" 3 "java/lang/IndexOutOfBoundsException" ["java/lang/RuntimeException", "java/lang/Exception"]).all vx_ot = true := by decide +kernel
theorem jat_2 : vx_at0 "Phrasehall" 9 "java/lang/IllegalArgumentException" ["java/lang/RuntimeException", "java/lang/Exception"] = ([47, 258, 267, 272, 275, 277, 259, 260, 85, 86, 261, 266, 273, 290, 248, 291, 250, 292, 252, 262, 264, 254, 464, 465, 466, 282, 239, 282, 283, 284, 285, 241, 285, 286, 287, 259, 243, 463, 455, 456, 457, 270, 458, 459, 460, 461, 257, 256, 462] : List Nat).filterMap (fun i => lw_tbl[i]?) := by decide +kernel
theorem jag_2 : (vx_at0 "Phrasehall" 9 "java/lang/IllegalArgumentException" ["java/lang/RuntimeException", "java/lang/Exception"]).all (fun w => goodWord w || jNk w) = true := by decide +kernel
theorem jah_2 : (Cond.classLink "Phrasehall" 7 "java/lang/IllegalArgumentException" :: Cond.initialized "java/lang/IllegalArgumentException" :: vx_at0 "Phrasehall" 9 "java/lang/IllegalArgumentException" ["java/lang/RuntimeException", "java/lang/Exception"]).all vx_ot = true := by decide +kernel
theorem jat_3 : vx_at0 "Phrasehall" 12 "java/lang/IllegalStateException" ["java/lang/RuntimeException", "java/lang/Exception"] = ([47, 258, 267, 272, 275, 277, 259, 260, 85, 86, 261, 266, 273, 290, 248, 291, 250, 292, 252, 262, 264, 254, 279, 280, 281, 282, 239, 282, 283, 284, 285, 241, 285, 286, 287, 259, 243, 278, 237, 238, 245, 246, 247, 249, 251, 253, 257, 256, 255] : List Nat).filterMap (fun i => lw_tbl[i]?) := by decide +kernel
theorem jag_3 : (vx_at0 "Phrasehall" 12 "java/lang/IllegalStateException" ["java/lang/RuntimeException", "java/lang/Exception"]).all (fun w => goodWord w || jNk w) = true := by decide +kernel
theorem jah_3 : (Cond.classLink "Phrasehall" 10 "java/lang/IllegalStateException" :: Cond.initialized "java/lang/IllegalStateException" :: vx_at0 "Phrasehall" 12 "java/lang/IllegalStateException" ["java/lang/RuntimeException", "java/lang/Exception"]).all vx_ot = true := by decide +kernel
/-! returns of such methods -/
theorem jj_iretX (C : jOk x cc own rm (some .int)) {v : Int32} {v0 : Int32 ⊕ Nat} {M0 : jW} (hQ : jEndX x rm (jri v0) M0) (d : decode cc pc = .ok (.ireturn, 1)) (hF : some (Sum.inl v, M) = some (v0, M0)) (hk : k ≤ rm.cells) (hn : n ≤ rm.slots) : jJ x pc L [jI v] M k n := by
  cases hF
  intro H locs ls hM hS hl
  rw [hQ.1]
  refine W.widen hk hn (vx_ret ?_)
  exact W.iret C.ex C.cb C.re (fun t ht hW => ⟨⟨_, rfl, rfl⟩, hM.moved ht, hS.F ht⟩) hS.2.2 d C.lk
theorem jj_aretX {ft : FieldType} (C : jOk x cc own rm (some ft)) (hft : (∃ n, ft = .object n) ∨ ∃ t, ft = .array t) {v : Option Nat} {v0 : Option Nat ⊕ Nat} {M0 : jW} (hQ : jEndX x rm (jrr v0) M0) (d : decode cc pc = .ok (.areturn, 1)) (hF : some (Sum.inl v, M) = some (v0, M0)) (hk : k ≤ rm.cells) (hn : n ≤ rm.slots) : jJ x pc L [jR v] M k n := by
  cases hF
  intro H locs ls hM hS hl
  rw [hQ.1]
  refine W.widen hk hn (vx_ret ?_)
  exact W.aret C.ex C.cb C.re hft (by cases v with | none => exact Or.inl rfl | some a => exact Or.inr ⟨a, rfl⟩) (fun t ht hW => ⟨⟨_, rfl, rfl⟩, hM.moved ht, hS.F ht⟩) hS.2.2 d C.lk
theorem jj_vretX (C : jOk x cc own rm none) {v0 : Unit ⊕ Nat} {M0 : jW} (hQ : jEndX x rm (jru v0) M0) (d : decode cc pc = .ok (.return_, 1)) (hF : some (Sum.inl (), M) = some (v0, M0)) (hk : k ≤ rm.cells) (hn : n ≤ rm.slots) : jJ x pc L [] M k n := by
  cases hF
  intro H locs ls hM hS hl
  rw [hQ.1]
  refine W.widen hk hn (vx_ret ?_)
  exact W.vret C.ex C.cb C.re (fun t ht hW => ⟨⟨_, rfl, rfl⟩, hM.moved ht, hS.F ht⟩) hS.2.2 d C.lk
/-! calls of such methods -/
abbrev jRunX (x : jX) (pc : Nat) (L : List (Nat × jV)) (st0 rest : List jV) (M : jW) (k n mc ms : Nat) (res : Option jV ⊕ Nat) (M' : jW) (a : Array Value) : Prop := ∀ H locs ls, jHd (xg x) M H → va_S (jA (xg x)) (xs x).heap H locs → lv_has ls (xn x) (L.map jlv) → vx_Run (xp x) (xl x) (xe x) (xR x) (xs x) (xm x) (xa x) (xb x) (xM x) (xc x) H locs k n mc ms (F0 (xm x) pc ls (st0.map jv)) (rest.map jv) (jQn (xg x) res M' a) (jQe (xg x) res M') (jA (xg x))
theorem jj_backX (C : jOk x cc own rm rt) {mc ms : Nat} {st0 rest : List jV} {ov : Option jV} {M' : jW} {a : Array Value} (hr : jRunX x pc L st0 rest M k n mc ms (.inl ov) M' a)
    (h : jJ x (pc + 3) L (ov.toList ++ rest) M' (k + mc) (n + ms)) : jJ x pc L st0 M k n := by
  intro H locs ls hM hS hl T hT X
  rcases hr H locs ls hM hS hl T hT X with ⟨v, s0, t, T', L1, h0, X', hL, e1, e2, ⟨⟨ov', ho, hv⟩, hM', hz, hk⟩, st⟩ | ⟨q, s0, t, T', L1, E, ce, h0, X', hL, e1, e2, ⟨⟨_, ho, _⟩, _⟩, _⟩
  · cases ho
    cases hv
    rw [h0] at hz hk
    rw [← e1] at hM' hz hk
    obtain ⟨t2, a1, b1⟩ := h T'.heap (locs ++ L1) ls hM' ⟨Nat.le_trans hS.1 hz, fun q h1 h2 => (hk q (Nat.lt_of_lt_of_le h1 hS.1) h2).trans (hS.2.1 q h1 h2), fun q hq => by
        rcases List.mem_append.mp hq with h | h
        · exact hS.2.2 q h
        · exact hL q h⟩ hl T' rfl X'
    refine ⟨t2, st t2 ?_, b1⟩
    cases ov with
    | none => exact a1
    | some v => exact a1
  · cases ho
theorem jj_backXe (C : jOk x cc own rm rt) {mc ms e : Nat} {st0 rest : List jV} {M' : jW} {a : Array Value} (hr : jRunX x pc L st0 rest M k n mc ms (.inr e) M' a) (hQ : jEndX x rm (.inr e) M') (hk : k + mc ≤ rm.cells) (hn : n + ms ≤ rm.slots) : jJ x pc L st0 M k n := by
  intro H locs ls hM hS hl T hT X
  rcases hr H locs ls hM hS hl T hT X with ⟨v, s0, t, T', L1, h0, X', hL, e1, e2, ⟨⟨ov', ho, hv⟩, hM', hz, hk⟩, st⟩ | ⟨q, s0, t, T', L1, E, ce, h0, X', hL, e1, e2, ⟨⟨e', ho, hE⟩, ⟨n', hM'⟩, hz, hk1⟩, hce, hcv, hcl, st⟩
  · cases ho
  · cases ho
    rw [h0] at hz hk1
    rw [← e1] at hM' hz hk1 hce
    have hS' : va_S (jA (xg x)) (xs x).heap T'.heap (locs ++ L1) := ⟨Nat.le_trans hS.1 hz, fun q h1 h2 => (hk1 q (Nat.lt_of_lt_of_le h1 hS.1) h2).trans (hS.2.1 q h1 h2), fun q hq => by
        rcases List.mem_append.mp hq with h | h
        · exact hS.2.2 q h
        · exact hL q h⟩
    have := vx_out (p := xp x) (l := xl x) (e := xe x) (R := xR x) (s := xs x) (m := xm x) (args := xa x) (below := xb x) (meth := xM x) (c := xc x) (H := T'.heap) (locs := locs ++ L1) (cells := k + mc) (slots := n + ms) (free := jA (xg x)) (ls := ls) (rest := rest.map jv) (Qc := jQn (xg x) (.inr e) M') (XC := jQe (xg x) (.inr e) M') (pc := pc) (mc := rm.cells) (ms := rm.slots) (fun z hz => absurd hz (fun h => hQ.2.1 z h)) C.lk hce hcv hcl (fun t ht hA => ⟨⟨e, rfl, hE⟩, ⟨n', by rw [ht]; exact hM'⟩, hS'.F ht⟩) hS'.2.2 hk hn
    obtain ⟨t2, a1, b1⟩ := this T' rfl X'
    rw [hQ.1]
    exact ⟨t2, st.trans a1, b1⟩
theorem jj_callSX (C : jOk x cc own rm rt) {y : MethodName} {bytes : ByteArray} {maxL ix : Nat} {ret : Option FieldType} {rmc : Room} {M' : jW} {ov : Option jV} {res : Option jV ⊕ Nat} (As rest st' : List jV) {k' n' : Nat}
    (hMet : jMetX (xl x) (xg x) y bytes maxL ret rmc As M res M') (hres : res = .inl ov) (h1 : Cond.methodLink own ix y ∈ lw_all) (h2 : Cond.static y ∈ lw_all) (h3 : Cond.initialized y.cls ∈ lw_all) (h4 : Cond.code y bytes maxL ret ∈ lw_all)
    (hd : y.cls ≠ "java/lang/invoke/MethodHandle" ∧ y.cls ≠ "java/lang/invoke/VarHandle" ∧ (parseMethodDescriptor y.desc).map (fun d => d.parameters.length) = some As.length)
    (hst : st = As.reverse ++ rest) (h8 : (rest.map jc).sum ≤ 8) (hR : rmc.frames + 1 ≤ rm.frames ∧ 8 + (maxL + 11) + rmc.locals ≤ rm.locals) (hc : k + rmc.cells ≤ k' ∧ n + rmc.slots ≤ n' ∧ k' ≤ rm.cells ∧ n' ≤ rm.slots) (d : decode cc pc = .ok (.invokestatic ix, 3)) (hst' : ov.toList ++ rest = st')
    (h : jJ x (pc + 3) L st' M' k' n') : jJ x pc L st M k n := by
  subst hres
  rw [← hst'] at h
  refine jj_backX C (mc := rmc.cells) (ms := rmc.slots) (rest := rest) (ov := ov) (M' := M') (a := (As.map jv).toArray) (fun H locs ls hM hS hl => ?_) (jj_widen C hc.1 hc.2.1 h)
  exact vx_runS (As := As.map jv) (jfix C) hMet (va_cwS As.length C.ts (lw_S h1 h2 h3 h4) rfl rfl rfl hd (by rw [C.R]; exact hR)) ⟨jB.blind, fun U hU hW => ⟨rfl, jB.at C hM hS hU hW⟩⟩ rfl (by simp) hl.1 (by rw [hst]; simp) (by show 2 * 0 + _ ≤ 8; rw [jcat_sum]; omega) d (by rw [C.R]; exact ⟨Nat.le_trans hc.1 hc.2.2.1, Nat.le_trans hc.2.1 hc.2.2.2⟩)
theorem jj_callSXx (C : jOk x cc own rm rt) {y : MethodName} {bytes : ByteArray} {maxL ix e : Nat} {ret : Option FieldType} {rmc : Room} {M' : jW} {res res0 : Option jV ⊕ Nat} (hQ : jEndX x rm res0 M') (As rest : List jV) {k' n' : Nat}
    (hMet : jMetX (xl x) (xg x) y bytes maxL ret rmc As M res M') (hres : res = .inr e) (hres0 : res0 = .inr e) (h1 : Cond.methodLink own ix y ∈ lw_all) (h2 : Cond.static y ∈ lw_all) (h3 : Cond.initialized y.cls ∈ lw_all) (h4 : Cond.code y bytes maxL ret ∈ lw_all)
    (hd : y.cls ≠ "java/lang/invoke/MethodHandle" ∧ y.cls ≠ "java/lang/invoke/VarHandle" ∧ (parseMethodDescriptor y.desc).map (fun d => d.parameters.length) = some As.length)
    (hst : st = As.reverse ++ rest) (h8 : (rest.map jc).sum ≤ 8) (hR : rmc.frames + 1 ≤ rm.frames ∧ 8 + (maxL + 11) + rmc.locals ≤ rm.locals) (hc : k + rmc.cells ≤ k' ∧ n + rmc.slots ≤ n' ∧ k' ≤ rm.cells ∧ n' ≤ rm.slots) (d : decode cc pc = .ok (.invokestatic ix, 3)) : jJ x pc L st M k n := by
  subst hres
  subst hres0
  refine jj_backXe C (mc := rmc.cells) (ms := rmc.slots) (rest := rest) (M' := M') (a := (As.map jv).toArray) (fun H locs ls hM hS hl => ?_) hQ (Nat.le_trans hc.1 hc.2.2.1) (Nat.le_trans hc.2.1 hc.2.2.2)
  exact vx_runS (As := As.map jv) (jfix C) hMet (va_cwS As.length C.ts (lw_S h1 h2 h3 h4) rfl rfl rfl hd (by rw [C.R]; exact hR)) ⟨jB.blind, fun U hU hW => ⟨rfl, jB.at C hM hS hU hW⟩⟩ rfl (by simp) hl.1 (by rw [hst]; simp) (by show 2 * 0 + _ ≤ 8; rw [jcat_sum]; omega) d (by rw [C.R]; exact ⟨Nat.le_trans hc.1 hc.2.2.1, Nat.le_trans hc.2.1 hc.2.2.2⟩)
theorem jj_callVX (C : jOk x cc own rm rt) {y : MethodName} {bytes : ByteArray} {maxL ix b ci N : Nat} {ret : Option FieldType} {rmc : Room} {M' : jW} {ov : Option jV} {res : Option jV ⊕ Nat} {Cn : String} {T : u_T} {fs : List Value} {r : Option Nat} (As rest st' : List jV) {k' n' : Nat} (hr : r = some b)
    (hMet : jMetX (xl x) (xg x) y bytes maxL ret rmc (jR (some b) :: As) M res M') (hres : res = .inl ov) (hb : M.1 b = some (.inr (ci, fs))) (hc0 : jCl[ci]? = some (Cn, T, N)) (h1 : Cond.methodLink own ix y ∈ lw_all) (h2 : Cond.instanceMethod y ∈ lw_all) (h3 : Cond.selects Cn y y ∈ lw_all) (h4 : Cond.initialized Cn ∈ lw_all) (h5 : Cond.code y bytes maxL ret ∈ lw_all)
    (hd : y.cls = Cn ∧ y.cls ≠ "java/lang/invoke/MethodHandle" ∧ y.cls ≠ "java/lang/invoke/VarHandle" ∧ (parseMethodDescriptor y.desc).map (fun d => d.parameters.length) = some As.length)
    (hst : st = As.reverse ++ jR r :: rest) (h8 : (rest.map jc).sum ≤ 8) (hR : rmc.frames + 1 ≤ rm.frames ∧ 8 + (maxL + 11) + rmc.locals ≤ rm.locals) (hc : k + rmc.cells ≤ k' ∧ n + rmc.slots ≤ n' ∧ k' ≤ rm.cells ∧ n' ≤ rm.slots) (d : decode cc pc = .ok (.invokevirtual ix, 3)) (hst' : ov.toList ++ rest = st')
    (h : jJ x (pc + 3) L st' M' k' n') : jJ x pc L st M k n := by
  subst hres
  subst hr
  rw [← hst'] at h
  refine jj_backX C (mc := rmc.cells) (ms := rmc.slots) (rest := rest) (ov := ov) (M' := M') (a := (Value.ref b :: As.map jv).toArray) (fun H locs ls hM hS hl => ?_) (jj_widen C hc.1 hc.2.1 h)
  exact vx_runV (C := Cn) (b := b) (As := As.map jv) (jfix C) hMet (cwV As.length C.ts (lw_V h1 h2 h3 h4 h5) rfl rfl rfl hd (by rw [C.R]; exact hR)) ⟨jB.blind, jrecv C hM hb hc0, fun U hU hW => ⟨rfl, jB.at C hM hS hU hW⟩⟩ rfl (by simp) hl.1 (by rw [hst]; simp [jv, va_rf]) (by show 2 * 0 + _ ≤ 8; rw [jcat_sum]; omega) d (by rw [C.R]; exact ⟨Nat.le_trans hc.1 hc.2.2.1, Nat.le_trans hc.2.1 hc.2.2.2⟩)
theorem jj_callVXx (C : jOk x cc own rm rt) {y : MethodName} {bytes : ByteArray} {maxL ix b ci N e : Nat} {ret : Option FieldType} {rmc : Room} {M' : jW} {res res0 : Option jV ⊕ Nat} {Cn : String} {T : u_T} {fs : List Value} {r : Option Nat} (hQ : jEndX x rm res0 M') (As rest : List jV) {k' n' : Nat} (hr : r = some b)
    (hMet : jMetX (xl x) (xg x) y bytes maxL ret rmc (jR (some b) :: As) M res M') (hres : res = .inr e) (hres0 : res0 = .inr e) (hb : M.1 b = some (.inr (ci, fs))) (hc0 : jCl[ci]? = some (Cn, T, N)) (h1 : Cond.methodLink own ix y ∈ lw_all) (h2 : Cond.instanceMethod y ∈ lw_all) (h3 : Cond.selects Cn y y ∈ lw_all) (h4 : Cond.initialized Cn ∈ lw_all) (h5 : Cond.code y bytes maxL ret ∈ lw_all)
    (hd : y.cls = Cn ∧ y.cls ≠ "java/lang/invoke/MethodHandle" ∧ y.cls ≠ "java/lang/invoke/VarHandle" ∧ (parseMethodDescriptor y.desc).map (fun d => d.parameters.length) = some As.length)
    (hst : st = As.reverse ++ jR r :: rest) (h8 : (rest.map jc).sum ≤ 8) (hR : rmc.frames + 1 ≤ rm.frames ∧ 8 + (maxL + 11) + rmc.locals ≤ rm.locals) (hc : k + rmc.cells ≤ k' ∧ n + rmc.slots ≤ n' ∧ k' ≤ rm.cells ∧ n' ≤ rm.slots) (d : decode cc pc = .ok (.invokevirtual ix, 3)) : jJ x pc L st M k n := by
  subst hres
  subst hres0
  subst hr
  refine jj_backXe C (mc := rmc.cells) (ms := rmc.slots) (rest := rest) (M' := M') (a := (Value.ref b :: As.map jv).toArray) (fun H locs ls hM hS hl => ?_) hQ (Nat.le_trans hc.1 hc.2.2.1) (Nat.le_trans hc.2.1 hc.2.2.2)
  exact vx_runV (C := Cn) (b := b) (As := As.map jv) (jfix C) hMet (cwV As.length C.ts (lw_V h1 h2 h3 h4 h5) rfl rfl rfl hd (by rw [C.R]; exact hR)) ⟨jB.blind, jrecv C hM hb hc0, fun U hU hW => ⟨rfl, jB.at C hM hS hU hW⟩⟩ rfl (by simp) hl.1 (by rw [hst]; simp [jv, va_rf]) (by show 2 * 0 + _ ≤ 8; rw [jcat_sum]; omega) d (by rw [C.R]; exact ⟨Nat.le_trans hc.1 hc.2.2.1, Nat.le_trans hc.2.1 hc.2.2.2⟩)
end jT
theorem jMetX.of {l : Launch} {g : jG} {y : MethodName} {bytes : ByteArray} {maxL : Nat} {ret : Option FieldType} {rm : Room} {args : List jV} {M M' : jW} {res : Option jV ⊕ Nat} {L : List (Nat × jV)} (hfl : l.stackTraces = false) (hy : plainName y.cls = true) (hL0 : jargs 0 args = L) (hn0 : (args.map jc).sum ≤ maxL)
    (body : ∀ x : jX, jOk x bytes y.cls rm ret → xn x = maxL → xg x = g → xl x = l → jEndX x rm res M' → jJ x 0 L [] M 0 0) : jMetX l g y bytes maxL ret rm args M res M' := by
  have hL : lv_args 0 (args.map jv) = L.map jlv := by rw [jargs_map, hL0]
  have hn : (lg_sl (args.map jv)).length ≤ maxL := by rw [jlen_map]; exact hn0
  refine vx_ofW (cc := bytes) (maxL := maxL) (ret := ret) hy rfl ?_
  intro p e s m as below meth c s₁ B hml hx0 hv
  obtain ⟨rfl, hM, hKK, hz⟩ := hv
  have hts := atoms_spec (ws := ws_ y bytes maxL ret) B.pre
  have hts : ∀ w ∈ lw_all, w.before _ s = true := fun w h => hts w (List.mem_cons_of_mem _ h)
  have hown : s.vm.findClass y.cls = some m.cls := findClass_of_methodNamed B.named
  have hl := lv_entry (args.map jv) hn
  rw [hL] at hl
  have h := body (p, l, e, (headSpec (ws_ y bytes maxL ret) rm).room, s, m, (args.map jv).toArray, below, meth, c, vx_MQ below (jQn g res M') (jQe g res M') (args.map jv).toArray s rm.cells rm.slots (jA g), maxL, g)
    ⟨B.exec, B.bytes, hml, hown, hts, B.notSynchronized, B.returns, hKK, hz, rfl⟩ rfl rfl rfl ⟨rfl, hx0, hfl⟩
  have h := h s.heap [] _ hM va_S.rf hl
  rw [lg_entry_eq]
  exact h
