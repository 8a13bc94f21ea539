/-! CONTRACTS: a method's start and end over the pure heap; calls and returns -/
set_option maxRecDepth 100000
def jB (g : jG) (M : jW) (U : State) : Prop := jHd g M U.heap ∧ jKK g U ∧ gz g ≤ U.heap.size
def jQ (g : jG) (ov : Option jV) (M : jW) : Array Value → State → Outcome → State → Prop := fun _ st oc t => oc = .returned (ov.map jv) ∧ jHd g M t.heap ∧ va_F (jA g) st t
/-- the method y, called with args in the world M, returns ov in the world M' -/
def jMet (l : Launch) (g : jG) (y : MethodName) (bytes : ByteArray) (maxL : Nat) (ret : Option FieldType) (rmc : Room) (args : List jV) (M : jW) (ov : Option jV) (M' : jW) : Prop :=
  Met l y (ws_ y bytes maxL ret) rmc (va_Pc (args.map jv) (jB g M)) (jQ g ov M') rmc.cells rmc.slots (jA g)
theorem jB.blind {g : jG} {M : jW} {av : List Value} : FrameBlind (va_Pc av (jB g M)) := by
  intro a U fr mk q
  obtain ⟨q0, q1, q2, q3⟩ := q
  exact ⟨q0, q1, jKK.to (U := U.calling fr mk a) q2 (State.WarmedH.refl U) (fun _ _ _ => rfl), q3⟩
theorem jB.at {x : jX} {cc : ByteArray} {own : String} {rm : Room} {rt : Option FieldType} (C : jOk x cc own rm rt) {M : jW} {H : Heap} {locs : List Loc} (hM : jHd (xg x) M H) (hS : va_S (jA (xg x)) (xs x).heap H locs) {U : State} (hU : U.heap = H) (hW : (xs x).WarmedH U.vm) : jB (xg x) M U :=
  ⟨by rw [hU]; exact hM, jKK.to C.kk hW (fun q h1 h2 => by rw [hU]; exact hS.2.1 q h1 h2), by rw [hU]; exact Nat.le_trans C.z hS.1⟩
theorem jcat_sum (st : List jV) : ((st.map jv).map fun v => v.category).sum = (st.map jc).sum := by
  rw [List.map_map]
  congr 1
  apply List.map_congr_left
  intro v _
  exact jv_cat v
section jC
variable {x : jX} {cc : ByteArray} {own : String} {rm : Room} {rt : Option FieldType} {pc : Nat} {L L' : List (Nat × jV)} {st : List jV} {M : jW} {k n : Nat} {β : Type} {out : β}
theorem jj_back (C : jOk x cc own rm rt) {mc ms : Nat} {st0 rest : List jV} {ov : Option jV} {M' : jW} {a : Array Value} {w : Nat}
    (hr : ∀ H locs ls, jHd (xg x) M H → va_S (jA (xg x)) (xs x).heap H locs → lv_has ls (xn x) (L.map jlv) → va_Run (xp x) (xl x) (xe x) (xR x) (xs x) (xm x) (xa x) (xb x) (xM x) (xc x) H locs k n mc ms (F0 (xm x) pc ls (st0.map jv)) (rest.map jv) (jQ (xg x) ov M' a) (jA (xg x)))
    (h : jJ x (pc + 3) L (ov.toList ++ rest) M' (k + mc) (n + ms)) : jJ x pc L st0 M k n := by
  intro H locs ls hM hS hl T hT X
  obtain ⟨v, s0, t, T', L1, h0, X', hL, e1, e2, ⟨hv, hM', hz, hk⟩, st⟩ := hr H locs ls hM hS hl T hT X
  cases hv
  rw [h0] at hz hk
  rw [← e1] at hM' hz hk
  obtain ⟨t2, a1, b1⟩ := h T'.heap (locs ++ L1) ls hM' ⟨Nat.le_trans hS.1 hz, fun q h1 h2 => (hk q (Nat.lt_of_lt_of_le h1 hS.1) h2).trans (hS.2.1 q h1 h2), fun q hq => by
      rcases List.mem_append.mp hq with h | h
      · exact hS.2.2 q h
      · exact hL q h⟩ hl T' rfl X'
  refine ⟨t2, st t2 ?_, b1⟩
  cases ov with
  | none => exact a1
  | some v => exact a1
theorem jfix (C : jOk x cc own rm rt) : CallFix (xp x) (xm x) (xc x) cc (xn x) (xs x) (xa x) lw_all own := ⟨C.ex, C.cb, C.ml, C.ow, C.ts⟩
/-- a static call -/
theorem jj_callS (C : jOk x cc own rm rt) {y : MethodName} {bytes : ByteArray} {maxL ix : Nat} {ret : Option FieldType} {rmc : Room} {M' : jW} {ov : Option jV} (As rest st' : List jV) {k' n' : Nat}
    (hMet : jMet (xl x) (xg x) y bytes maxL ret rmc As M ov M') (h1 : Cond.methodLink own ix y ∈ lw_all) (h2 : Cond.static y ∈ lw_all) (h3 : Cond.initialized y.cls ∈ lw_all) (h4 : Cond.code y bytes maxL ret ∈ lw_all)
    (hd : y.cls ≠ "java/lang/invoke/MethodHandle" ∧ y.cls ≠ "java/lang/invoke/VarHandle" ∧ (parseMethodDescriptor y.desc).map (fun d => d.parameters.length) = some As.length)
    (hst : st = As.reverse ++ rest) (h8 : (rest.map jc).sum ≤ 8) (hR : rmc.frames + 1 ≤ rm.frames ∧ 8 + (maxL + 11) + rmc.locals ≤ rm.locals) (hc : k + rmc.cells ≤ k' ∧ n + rmc.slots ≤ n' ∧ k' ≤ rm.cells ∧ n' ≤ rm.slots) (d : decode cc pc = .ok (.invokestatic ix, 3)) (hst' : ov.toList ++ rest = st')
    (h : jJ x (pc + 3) L st' M' k' n') : jJ x pc L st M k n := by
  rw [← hst'] at h
  refine jj_back (w := 0) C (mc := rmc.cells) (ms := rmc.slots) (rest := rest) (ov := ov) (M' := M') (a := (As.map jv).toArray) (fun H locs ls hM hS hl => ?_) (jj_widen C hc.1 hc.2.1 h)
  exact va_runS (As := As.map jv) (jfix C) hMet (va_cwS As.length C.ts (lw_S h1 h2 h3 h4) rfl rfl rfl hd (by rw [C.R]; exact hR)) ⟨jB.blind, fun U hU hW => ⟨rfl, jB.at C hM hS hU hW⟩⟩ rfl (by simp) hl.1 (by rw [hst]; simp) (by show 2 * 0 + _ ≤ 8; rw [jcat_sum]; omega) d (by rw [C.R]; exact ⟨Nat.le_trans hc.1 hc.2.2.1, Nat.le_trans hc.2.1 hc.2.2.2⟩)
theorem jrecv (C : jOk x cc own rm rt) {H : Heap} (hM : jHd (xg x) M H) {a ci N : Nat} {fs : List Value} {Cn : String} {T : u_T} (ha : M.1 a = some (.inr (ci, fs))) (hc : jCl[ci]? = some (Cn, T, N)) : ∃ cell : Cell, H[a]? = some cell ∧ cell.vm.isStatics = false ∧ (xs x).vm.findClass Cn = some cell.cls := va_recv C.K (hM.P ha) (ci := ci) (q0 := 0) hc rfl
/-- a call through an object of a known class -/
theorem jj_callV (C : jOk x cc own rm rt) {y : MethodName} {bytes : ByteArray} {maxL ix b ci N : Nat} {ret : Option FieldType} {rmc : Room} {M' : jW} {ov : Option jV} {Cn : String} {T : u_T} {fs : List Value} {r : Option Nat} (As rest st' : List jV) {k' n' : Nat} (hr : r = some b)
    (hMet : jMet (xl x) (xg x) y bytes maxL ret rmc (jR (some b) :: As) M ov M') (hb : M.1 b = some (.inr (ci, fs))) (hc0 : jCl[ci]? = some (Cn, T, N)) (h1 : Cond.methodLink own ix y ∈ lw_all) (h2 : Cond.instanceMethod y ∈ lw_all) (h3 : Cond.selects Cn y y ∈ lw_all) (h4 : Cond.initialized Cn ∈ lw_all) (h5 : Cond.code y bytes maxL ret ∈ lw_all)
    (hd : y.cls = Cn ∧ y.cls ≠ "java/lang/invoke/MethodHandle" ∧ y.cls ≠ "java/lang/invoke/VarHandle" ∧ (parseMethodDescriptor y.desc).map (fun d => d.parameters.length) = some As.length)
    (hst : st = As.reverse ++ jR r :: rest) (h8 : (rest.map jc).sum ≤ 8) (hR : rmc.frames + 1 ≤ rm.frames ∧ 8 + (maxL + 11) + rmc.locals ≤ rm.locals) (hc : k + rmc.cells ≤ k' ∧ n + rmc.slots ≤ n' ∧ k' ≤ rm.cells ∧ n' ≤ rm.slots) (d : decode cc pc = .ok (.invokevirtual ix, 3)) (hst' : ov.toList ++ rest = st')
    (h : jJ x (pc + 3) L st' M' k' n') : jJ x pc L st M k n := by
  subst hr
  rw [← hst'] at h
  refine jj_back (w := 0) C (mc := rmc.cells) (ms := rmc.slots) (rest := rest) (ov := ov) (M' := M') (a := (Value.ref b :: As.map jv).toArray) (fun H locs ls hM hS hl => ?_) (jj_widen C hc.1 hc.2.1 h)
  exact va_runV (C := Cn) (b := b) (As := As.map jv) (jfix C) hMet (cwV As.length C.ts (lw_V h1 h2 h3 h4 h5) rfl rfl rfl hd (by rw [C.R]; exact hR)) ⟨jB.blind, jrecv C hM hb hc0, fun U hU hW => ⟨rfl, jB.at C hM hS hU hW⟩⟩ rfl (by simp) hl.1 (by rw [hst]; simp [jv, va_rf]) (by show 2 * 0 + _ ≤ 8; rw [jcat_sum]; omega) d (by rw [C.R]; exact ⟨Nat.le_trans hc.1 hc.2.2.1, Nat.le_trans hc.2.1 hc.2.2.2⟩)
/-- a constructor's call -/
theorem jj_callI (C : jOk x cc own rm rt) {y : MethodName} {bytes : ByteArray} {maxL ix b : Nat} {rmc : Room} {M' : jW} {r : Option Nat} (As rest : List jV) {k' n' : Nat} (hr : r = some b)
    (hMet : jMet (xl x) (xg x) y bytes maxL none rmc (jR (some b) :: As) M none M') (h1 : Cond.methodLink own ix y ∈ lw_all) (h2 : Cond.instanceMethod y ∈ lw_all) (h4 : Cond.initialized y.cls ∈ lw_all) (h5 : Cond.code y bytes maxL none ∈ lw_all) (hn : y.name = "<init>")
    (hd : y.cls ≠ "java/lang/invoke/MethodHandle" ∧ y.cls ≠ "java/lang/invoke/VarHandle" ∧ (parseMethodDescriptor y.desc).map (fun d => d.parameters.length) = some As.length)
    (hst : st = As.reverse ++ jR r :: rest) (h8 : (rest.map jc).sum ≤ 8) (hR : rmc.frames + 1 ≤ rm.frames ∧ 8 + (maxL + 11) + rmc.locals ≤ rm.locals) (hc : k + rmc.cells ≤ k' ∧ n + rmc.slots ≤ n' ∧ k' ≤ rm.cells ∧ n' ≤ rm.slots) (d : decode cc pc = .ok (.invokespecial ix, 3))
    (h : jJ x (pc + 3) L rest M' k' n') : jJ x pc L st M k n := by
  subst hr
  refine jj_back (w := 0) C (mc := rmc.cells) (ms := rmc.slots) (rest := rest) (ov := none) (M' := M') (a := (Value.ref b :: As.map jv).toArray) (fun H locs ls hM hS hl => ?_) (jj_widen C hc.1 hc.2.1 h)
  exact va_runI (b := b) (As := As.map jv) (jfix C) hMet (cwI As.length C.ts (lw_meth h5) rfl rfl rfl (C.ts _ h4) (C.ts _ h1) (C.ts _ h2) hn hd (by rw [C.R]; exact hR)) ⟨jB.blind, fun U hU hW => ⟨rfl, jB.at C hM hS hU hW⟩⟩ rfl (by simp) hl.1 (by rw [hst]; simp [jv, va_rf]) (by show 2 * 0 + _ ≤ 8; rw [jcat_sum]; omega) d (by rw [C.R]; exact ⟨Nat.le_trans hc.1 hc.2.2.1, Nat.le_trans hc.2.1 hc.2.2.2⟩)
/-- nest mates: private members of another class of the nest -/
theorem jj_callIN (C : jOk x cc own rm rt) {y : MethodName} {host : String} {bytes : ByteArray} {maxL ix b : Nat} {rmc : Room} {M' : jW} {r : Option Nat} (As rest : List jV) {k' n' : Nat} (hr : r = some b)
    (hMet : jMet (xl x) (xg x) y bytes maxL none rmc (jR (some b) :: As) M none M') (h1 : Cond.methodLinkNest own ix y host ∈ lw_tbl) (h2 : Cond.instanceMethod y ∈ lw_all) (h4 : Cond.initialized y.cls ∈ lw_all) (h5 : Cond.code y bytes maxL none ∈ lw_all) (hn : y.name = "<init>")
    (hd : y.cls ≠ "java/lang/invoke/MethodHandle" ∧ y.cls ≠ "java/lang/invoke/VarHandle" ∧ (parseMethodDescriptor y.desc).map (fun d => d.parameters.length) = some As.length)
    (hst : st = As.reverse ++ jR r :: rest) (h8 : (rest.map jc).sum ≤ 8) (hR : rmc.frames + 1 ≤ rm.frames ∧ 8 + (maxL + 11) + rmc.locals ≤ rm.locals) (hc : k + rmc.cells ≤ k' ∧ n + rmc.slots ≤ n' ∧ k' ≤ rm.cells ∧ n' ≤ rm.slots) (d : decode cc pc = .ok (.invokespecial ix, 3))
    (h : jJ x (pc + 3) L rest M' k' n') : jJ x pc L st M k n := by
  subst hr
  refine jj_back (w := 0) C (mc := rmc.cells) (ms := rmc.slots) (rest := rest) (ov := none) (M' := M') (a := (Value.ref b :: As.map jv).toArray) (fun H locs ls hM hS hl => ?_) (jj_widen C hc.1 hc.2.1 h)
  exact va_runIN (b := b) (As := As.map jv) (jfix C) hMet ⟨va_cnB As.length C.ts (lw_meth h5) rfl rfl rfl (C.nw h1 rfl) (C.ts _ h4) hd (by rw [C.R]; exact hR), hn, C.ts _ h2⟩ ⟨jB.blind, fun U hU hW => ⟨rfl, jB.at C hM hS hU hW⟩⟩ rfl (by simp) hl.1 (by rw [hst]; simp [jv, va_rf]) (by show 2 * 0 + _ ≤ 8; rw [jcat_sum]; omega) d (by rw [C.R]; exact ⟨Nat.le_trans hc.1 hc.2.2.1, Nat.le_trans hc.2.1 hc.2.2.2⟩)
theorem jj_callVN (C : jOk x cc own rm rt) {y : MethodName} {host : String} {bytes : ByteArray} {maxL ix b ci N : Nat} {ret : Option FieldType} {rmc : Room} {M' : jW} {ov : Option jV} {Cn : String} {T : u_T} {fs : List Value} {r : Option Nat} (As rest st' : List jV) {k' n' : Nat} (hr : r = some b)
    (hMet : jMet (xl x) (xg x) y bytes maxL ret rmc (jR (some b) :: As) M ov M') (hb : M.1 b = some (.inr (ci, fs))) (hc0 : jCl[ci]? = some (Cn, T, N)) (h1 : Cond.methodLinkNest own ix y host ∈ lw_tbl) (h2 : Cond.instanceMethod y ∈ lw_all) (h3 : Cond.selects Cn y y ∈ lw_all) (h4 : Cond.initialized y.cls ∈ lw_all) (h5 : Cond.code y bytes maxL ret ∈ lw_all)
    (hd : y.cls ≠ "java/lang/invoke/MethodHandle" ∧ y.cls ≠ "java/lang/invoke/VarHandle" ∧ (parseMethodDescriptor y.desc).map (fun d => d.parameters.length) = some As.length)
    (hst : st = As.reverse ++ jR r :: rest) (h8 : (rest.map jc).sum ≤ 8) (hR : rmc.frames + 1 ≤ rm.frames ∧ 8 + (maxL + 11) + rmc.locals ≤ rm.locals) (hc : k + rmc.cells ≤ k' ∧ n + rmc.slots ≤ n' ∧ k' ≤ rm.cells ∧ n' ≤ rm.slots) (d : decode cc pc = .ok (.invokevirtual ix, 3)) (hst' : ov.toList ++ rest = st')
    (h : jJ x (pc + 3) L st' M' k' n') : jJ x pc L st M k n := by
  subst hr
  rw [← hst'] at h
  refine jj_back (w := 0) C (mc := rmc.cells) (ms := rmc.slots) (rest := rest) (ov := ov) (M' := M') (a := (Value.ref b :: As.map jv).toArray) (fun H locs ls hM hS hl => ?_) (jj_widen C hc.1 hc.2.1 h)
  exact va_runVN (C := Cn) (b := b) (As := As.map jv) (jfix C) hMet ⟨va_cnB As.length C.ts (lw_meth h5) rfl rfl rfl (C.nw h1 rfl) (C.ts _ h4) hd (by rw [C.R]; exact hR), C.ts _ h2, C.ts _ h3⟩ ⟨jB.blind, jrecv C hM hb hc0, fun U hU hW => ⟨rfl, jB.at C hM hS hU hW⟩⟩ rfl (by simp) hl.1 (by rw [hst]; simp [jv, va_rf]) (by show 2 * 0 + _ ≤ 8; rw [jcat_sum]; omega) d (by rw [C.R]; exact ⟨Nat.le_trans hc.1 hc.2.2.1, Nat.le_trans hc.2.1 hc.2.2.2⟩)
/-- Object's constructor -/
theorem jj_objInit (C : jOk x cc own rm rt) {ix : Nat} {r : Option Nat} (hr : ∃ a, r = some a) (h1 : Cond.methodLink own ix objectInit ∈ lw_all) (h2 : Cond.instanceMethod objectInit ∈ lw_all) (h3 : Cond.code objectInit ⟨#[0xb1]⟩ 1 none ∈ lw_all) (hR : 1 ≤ rm.frames ∧ (st.map jc).sum + 12 ≤ rm.locals) (d : decode cc pc = .ok (.invokespecial ix, 3)) (h : jJ x (pc + 3) L st M k n) : jJ x pc L (jR r :: st) M k n := by
  obtain ⟨a, rfl⟩ := hr
  exact fun H locs ls hM hS hl => W.objInit C.ex C.cb C.ow (C.ts _ h1) (C.ts _ h2) (C.ts _ h3) rfl (by rw [C.ml]; exact hl.1) rfl d (by rw [C.R]; exact hR.1) (by rw [C.R]; show 2 * 0 + _ + 12 ≤ _; rw [jcat_sum]; omega) (h H locs ls hM hS hl)
/-- not null -/
def pSm {β : Type} (r : Option Nat) (K : Nat → Option β) : Option β := match r with
  | none => none
  | some a => K a
theorem pSm_spec {r : Option Nat} {K : Nat → Option β} (h : pSm r K = some out) : ∃ a, r = some a ∧ K a = some out := by
  cases r with
  | none => cases h
  | some a => exact ⟨a, rfl, h⟩
/-- a computed number gets a name -/
abbrev pLt {β γ : Type} (e : γ) (K : γ → Option β) : Option β := K e
theorem jj_letI {e : Int32} {K : Int32 → Option β} (hF : pLt e K = some out) (h : ∀ v, K v = some out → jJ x pc L (jI v :: st) M k n) : jJ x pc L (jI e :: st) M k n := h e hF
theorem jj_letL {e : Int64} {K : Int64 → Option β} (hF : pLt e K = some out) (h : ∀ v, K v = some out → jJ x pc L (jL v :: st) M k n) : jJ x pc L (jL e :: st) M k n := h e hF
theorem jj_letR {e : Option Nat} {K : Option Nat → Option β} (hF : pLt e K = some out) (h : ∀ v, K v = some out → jJ x pc L (jR v :: st) M k n) : jJ x pc L (jR e :: st) M k n := h e hF
/-- fewer locals -/
theorem jj_sub (ks : List Nat) (hL : ks.filterMap (fun j => L[j]?) = L') (h : jJ x pc L' st M k n) : jJ x pc L st M k n := fun H locs ls hM hS hl => h H locs ls hM hS (lv_sub hl ks (by
  rw [← hL]
  unfold lv_pick
  rw [List.map_filterMap]
  congr 1
  funext j
  rw [List.getElem?_map]))
/-- a switch by a table -/
theorem jj_tabIn (C : jOk x cc own rm rt) {dflt lo hi : Int} {offs : Array Int} {len : Nat} {a c : Int32} {off : Int} {tgt : Nat} (hac : a = c) (d : decode cc pc = .ok (.tableswitch dflt lo hi offs, len)) (h1 : ¬ c.toInt < lo) (h2 : ¬ hi < c.toInt) (ho : offs[(c.toInt - lo).toNat]? = some off) (ht : (pc : Int) + off = (tgt : Int)) (h : jJ x tgt L st M k n) : jJ x pc L (jI a :: st) M k n := by
  subst hac
  exact fun H locs ls hM hS hl => lv_tableIn C.ex C.cb d h1 h2 ho ht (h H locs ls hM hS hl)
theorem jj_tabOut (C : jOk x cc own rm rt) {dflt lo hi : Int} {offs : Array Int} {len : Nat} {a : Int32} {tgt : Nat} (d : decode cc pc = .ok (.tableswitch dflt lo hi offs, len)) (h1 : a.toInt < lo ∨ hi < a.toInt) (ht : (pc : Int) + dflt = (tgt : Int)) (h : jJ x tgt L st M k n) : jJ x pc L (jI a :: st) M k n := fun H locs ls hM hS hl => lv_tableOut C.ex C.cb d h1 ht (h H locs ls hM hS hl)
theorem jne {a c : Int32} (h : ¬ a = c) : ¬ a.toInt = c.toInt := fun e => h (Int32.toInt_inj.mp e)
/-! returns -/
/-- the walk's aim: the method's end with ov and M' -/
abbrev jEnd (x : jX) (rm : Room) (ov : Option jV) (M' : jW) : Prop := xQ x = MQ (xb x) (jQ (xg x) ov M') (xa x) (xs x) rm.cells rm.slots (jA (xg x))
def pRZ (v : Int32) (M : jW) : Option (Int32 × jW) := if v = 0 ∨ v = 1 then some (v, M) else none
theorem jj_iret (C : jOk x cc own rm (some .int)) {v v0 : Int32} {M0 : jW} (hQ : jEnd x rm (some (jI v0)) M0) (d : decode cc pc = .ok (.ireturn, 1)) (hF : some (v, M) = some (v0, M0)) (hk : k ≤ rm.cells) (hn : n ≤ rm.slots) : jJ x pc L [jI v] M k n := by
  cases hF
  intro H locs ls hM hS hl
  rw [hQ]
  refine W.widen hk hn ?_
  exact W.iret C.ex C.cb C.re (fun t ht hW => ⟨rfl, hM.moved ht, hS.F ht⟩) hS.2.2 d C.lk
theorem jj_zret (C : jOk x cc own rm (some .boolean)) {v v0 : Int32} {M0 : jW} (hQ : jEnd x rm (some (jI v0)) M0) (d : decode cc pc = .ok (.ireturn, 1)) (hF : pRZ v M = some (v0, M0)) (hk : k ≤ rm.cells) (hn : n ≤ rm.slots) : jJ x pc L [jI v] M k n := by
  unfold pRZ at hF
  by_cases hv : v = 0 ∨ v = 1
  · rw [if_pos hv] at hF
    cases hF
    intro H locs ls hM hS hl
    rw [hQ]
    refine W.widen hk hn ?_
    exact W.zret C.ex C.cb C.re (jfit_z hv).1 (fun t ht hW => ⟨rfl, hM.moved ht, hS.F ht⟩) hS.2.2 d C.lk
  · rw [if_neg hv] at hF; cases hF
theorem jj_lret (C : jOk x cc own rm (some .long)) {v v0 : Int64} {M0 : jW} (hQ : jEnd x rm (some (jL v0)) M0) (d : decode cc pc = .ok (.lreturn, 1)) (hF : some (v, M) = some (v0, M0)) (hk : k ≤ rm.cells) (hn : n ≤ rm.slots) : jJ x pc L [jL v] M k n := by
  cases hF
  intro H locs ls hM hS hl
  rw [hQ]
  refine W.widen hk hn ?_
  exact W.lret C.ex C.cb C.re (fun t ht hW => ⟨rfl, hM.moved ht, hS.F ht⟩) hS.2.2 d C.lk
theorem jj_aret {ft : FieldType} (C : jOk x cc own rm (some ft)) (hft : (∃ n, ft = .object n) ∨ ∃ t, ft = .array t) {v v0 : Option Nat} {M0 : jW} (hQ : jEnd x rm (some (jR v0)) M0) (d : decode cc pc = .ok (.areturn, 1)) (hF : some (v, M) = some (v0, M0)) (hk : k ≤ rm.cells) (hn : n ≤ rm.slots) : jJ x pc L [jR v] M k n := by
  cases hF
  intro H locs ls hM hS hl
  rw [hQ]
  refine W.widen hk hn ?_
  exact W.aret C.ex C.cb C.re hft (by cases v with | none => exact Or.inl rfl | some a => exact Or.inr ⟨a, rfl⟩) (fun t ht hW => ⟨rfl, hM.moved ht, hS.F ht⟩) hS.2.2 d C.lk
theorem jj_vret (C : jOk x cc own rm none) {M0 : jW} (hQ : jEnd x rm none M0) (d : decode cc pc = .ok (.return_, 1)) (hF : some ((), M) = some ((), M0)) (hk : k ≤ rm.cells) (hn : n ≤ rm.slots) : jJ x pc L [] M k n := by
  cases hF
  intro H locs ls hM hS hl
  rw [hQ]
  refine W.widen hk hn ?_
  exact W.vret C.ex C.cb C.re (fun t ht hW => ⟨rfl, hM.moved ht, hS.F ht⟩) hS.2.2 d C.lk
end jC
def jargs : Nat → List jV → List (Nat × jV)
  | _, [] => []
  | i, v :: vs => (i, v) :: jargs (if jc v = 2 then i + 2 else i + 1) vs
theorem jargs_map : ∀ (vs : List jV) (i : Nat), lv_args i (vs.map jv) = (jargs i vs).map jlv
  | [], i => rfl
  | v :: vs, i => by
    show (i, jv v) :: lv_args (if (jv v).category = 2 then i + 2 else i + 1) (vs.map jv) = (i, jv v) :: (jargs (if jc v = 2 then i + 2 else i + 1) vs).map jlv
    rw [jv_cat, jargs_map vs]
theorem jlen_map : ∀ (vs : List jV), (lg_sl (vs.map jv)).length = (vs.map jc).sum
  | [] => rfl
  | v :: vs => by
    have ih := jlen_map vs
    have hc := jv_cat v
    simp only [List.map_cons, List.sum_cons]
    rw [← ih, ← hc]
    rcases lv_cat (jv v) with h | h
    · rw [h]; simp [lg_sl, h]; omega
    · rw [h]; simp [lg_sl, h]; omega
/-- a contract from its method's walk -/
theorem jMet.of {l : Launch} {g : jG} {y : MethodName} {bytes : ByteArray} {maxL : Nat} {ret : Option FieldType} {rm : Room} {args : List jV} {M M' : jW} {ov : Option jV} {L : List (Nat × jV)} (hy : plainFor y = true) (hL0 : jargs 0 args = L) (hn0 : (args.map jc).sum ≤ maxL)
    (body : ∀ x : jX, jOk x bytes y.cls rm ret → xn x = maxL → xg x = g → xl x = l → jEnd x rm ov M' → (y.name = "<init>" → (xM x).name = "<init>") → jJ x 0 L [] M 0 0) : jMet l g y bytes maxL ret rm args M ov M' := by
  have hL : lv_args 0 (args.map jv) = L.map jlv := by rw [jargs_map, hL0]
  have hn : (lg_sl (args.map jv)).length ≤ maxL := by rw [jlen_map]; exact hn0
  refine va_MetF (cc := bytes) (maxL := maxL) (ret := ret) hy rfl ?_
  intro p e s m as below meth c s₁ B hml hv
  obtain ⟨rfl, hM, hKK, hz⟩ := hv
  have hts := atoms_spec (ws := ws_ y bytes maxL ret) B.pre
  have hts : ∀ w ∈ lw_all, w.before _ s = true := fun w h => hts w (List.mem_cons_of_mem _ h)
  have hown : s.vm.findClass y.cls = some m.cls := findClass_of_methodNamed B.named
  have hl := lv_entry (args.map jv) hn
  rw [hL] at hl
  have h := body (p, l, e, (headSpec (ws_ y bytes maxL ret) rm).room, s, m, (args.map jv).toArray, below, meth, c, MQ below (jQ g ov M') (args.map jv).toArray s rm.cells rm.slots (jA g), maxL, g)
    ⟨B.exec, B.bytes, hml, hown, hts, B.notSynchronized, B.returns, hKK, hz, rfl⟩ rfl rfl rfl rfl (fun hi => (name_of_methodNamed B.named B.method).1.trans hi)
  have h := h s.heap [] _ hM va_S.rf hl
  rw [lg_entry_eq]
  exact h
