/-! ROWS: interface calls, a weapon's counts, boxes as receivers, arraycopy -/
set_option maxRecDepth 100000
section jC2
variable {x : jX} {cc : ByteArray} {own : String} {rm : Room} {rt : Option FieldType} {pc : Nat} {L L' : List (Nat × jV)} {st : List jV} {M : jW} {k n : Nat} {β : Type} {out : β}
theorem jj_back5 (C : jOk x cc own rm rt) {mc ms : Nat} {st0 rest : List jV} {ov : Option jV} {M' : jW} {a : Array Value}
    (hr : ∀ H locs ls, jHd (xg x) M H → va_S (jA (xg x)) (xs x).heap H locs → lv_has ls (xn x) (L.map jlv) → va_Run5 (xp x) (xl x) (xe x) (xR x) (xs x) (xm x) (xa x) (xb x) (xM x) (xc x) H locs k n mc ms (F0 (xm x) pc ls (st0.map jv)) (rest.map jv) (jQ (xg x) ov M' a) (jA (xg x)))
    (h : jJ x (pc + 5) L (ov.toList ++ rest) M' (k + mc) (n + ms)) : jJ x pc L st0 M k n := by
  intro H locs ls hM hS hl T hT X
  obtain ⟨v, s0, t, T', L1, h0, X', hL, e1, e2, ⟨hv, hM', hz, hk⟩, st⟩ := hr H locs ls hM hS hl T hT X
  cases hv
  rw [h0] at hz hk
  rw [← e1] at hM' hz hk
  obtain ⟨t2, a1, b1⟩ := h T'.heap (locs ++ L1) ls hM' ⟨Nat.le_trans hS.1 hz, fun q h1 h2 => (hk q (Nat.lt_of_lt_of_le h1 hS.1) h2).trans (hS.2.1 q h1 h2), fun q hq => by
      rcases List.mem_append.mp hq with h | h
      · exact hS.2.2 q h
      · exact hL q h⟩ hl T' rfl X'
  refine ⟨t2, st t2 ?_, b1⟩
  cases ov with
  | none => exact a1
  | some v => exact a1
/-- a call through an interface, on an object of a known class -/
theorem jj_callF (C : jOk x cc own rm rt) {xi y : MethodName} {bytes : ByteArray} {maxL ix cnt b ci N : Nat} {ret : Option FieldType} {rmc : Room} {M' : jW} {ov : Option jV} {Cn : String} {T : u_T} {fs : List Value} {r : Option Nat} (As rest st' : List jV) {k' n' : Nat} (hr : r = some b)
    (hMet : jMet (xl x) (xg x) y bytes maxL ret rmc (jR (some b) :: As) M ov M') (hb : M.1 b = some (.inr (ci, fs))) (hc0 : jCl[ci]? = some (Cn, T, N)) (hF : va_Fw Cn xi y (xs x)) (h1 : Cond.methodLink own ix xi ∈ lw_all) (h2 : Cond.instanceMethod y ∈ lw_all) (h3 : Cond.selects Cn xi y ∈ lw_all) (h4 : Cond.initialized y.cls ∈ lw_all) (h5 : Cond.code y bytes maxL ret ∈ lw_all)
    (hd : xi.cls ≠ "java/lang/invoke/MethodHandle" ∧ xi.cls ≠ "java/lang/invoke/VarHandle" ∧ (parseMethodDescriptor xi.desc).map (fun d => d.parameters.length) = some As.length)
    (hst : st = As.reverse ++ jR r :: rest) (h8 : (rest.map jc).sum ≤ 8) (hR : rmc.frames + 1 ≤ rm.frames ∧ 8 + (maxL + 11) + rmc.locals ≤ rm.locals) (hc : k + rmc.cells ≤ k' ∧ n + rmc.slots ≤ n' ∧ k' ≤ rm.cells ∧ n' ≤ rm.slots) (d : decode cc pc = .ok (.invokeinterface ix cnt, 5)) (hst' : ov.toList ++ rest = st')
    (h : jJ x (pc + 5) L st' M' k' n') : jJ x pc L st M k n := by
  subst hr
  rw [← hst'] at h
  refine jj_back5 C (mc := rmc.cells) (ms := rmc.slots) (rest := rest) (ov := ov) (M' := M') (a := (Value.ref b :: As.map jv).toArray) (fun H locs ls hM hS hl => ?_) (jj_widen C hc.1 hc.2.1 h)
  refine va_runF (C := Cn) (b := b) (As := As.map jv) (C.K.1 ci _ hc0).2 (jfix C) hMet (va_cwF As.length C.ts (lw_app ?_ (lw_meth h5)) rfl rfl rfl hF hd (by rw [C.R]; exact hR)) ⟨jB.blind, jrecv C hM hb hc0, fun U hU hW => ⟨rfl, jB.at C hM hS hU hW⟩⟩ rfl (by simp) hl.1 (by rw [hst]; simp [jv, va_rf]) (by show 2 * 0 + _ ≤ 8; rw [jcat_sum]; omega) d (by rw [C.R]; exact ⟨Nat.le_trans hc.1 hc.2.2.1, Nat.le_trans hc.2.1 hc.2.2.2⟩)
  intro w hw
  simp only [List.mem_cons, List.not_mem_nil, or_false] at hw
  rcases hw with e | e | e | e
  · rw [e]; exact h1
  · rw [e]; exact h3
  · rw [e]; exact h2
  · rw [e]; exact h4
/-- a call of a method on a box -/
theorem jj_callB (C : jOk x cc own rm rt) {y : MethodName} {bytes : ByteArray} {maxL ix b : Nat} {ret : Option FieldType} {rmc : Room} {M' : jW} {ov : Option jV} {r : Option Nat} (As rest st' : List jV) {k' n' : Nat} (hr : r = some b)
    (hMet : jMet (xl x) (xg x) y bytes maxL ret rmc (jR (some b) :: As) M ov M') (hb : jbx M b = true) (h1 : Cond.methodLink own ix y ∈ lw_all) (h2 : Cond.instanceMethod y ∈ lw_all) (h3 : Cond.selects "java/lang/Integer" y y ∈ lw_all) (h4 : Cond.initialized "java/lang/Integer" ∈ lw_all) (h5 : Cond.code y bytes maxL ret ∈ lw_all)
    (hd : y.cls = "java/lang/Integer" ∧ y.cls ≠ "java/lang/invoke/MethodHandle" ∧ y.cls ≠ "java/lang/invoke/VarHandle" ∧ (parseMethodDescriptor y.desc).map (fun d => d.parameters.length) = some As.length)
    (hst : st = As.reverse ++ jR r :: rest) (h8 : (rest.map jc).sum ≤ 8) (hR : rmc.frames + 1 ≤ rm.frames ∧ 8 + (maxL + 11) + rmc.locals ≤ rm.locals) (hc : k + rmc.cells ≤ k' ∧ n + rmc.slots ≤ n' ∧ k' ≤ rm.cells ∧ n' ≤ rm.slots) (d : decode cc pc = .ok (.invokevirtual ix, 3)) (hst' : ov.toList ++ rest = st')
    (h : jJ x (pc + 3) L st' M' k' n') : jJ x pc L st M k n := by
  subst hr
  rw [← hst'] at h
  refine jj_back (w := 0) C (mc := rmc.cells) (ms := rmc.slots) (rest := rest) (ov := ov) (M' := M') (a := (Value.ref b :: As.map jv).toArray) (fun H locs ls hM hS hl => ?_) (jj_widen C hc.1 hc.2.1 h)
  exact va_runV (C := "java/lang/Integer") (b := b) (As := As.map jv) (jfix C) hMet (cwV As.length C.ts (lw_V h1 h2 h3 h4 h5) rfl rfl rfl hd (by rw [C.R]; exact hR)) ⟨jB.blind, jbox C hM hS hb, fun U hU hW => ⟨rfl, jB.at C hM hS hU hW⟩⟩ rfl (by simp) hl.1 (by rw [hst]; simp [jv, va_rf]) (by show 2 * 0 + _ ≤ 8; rw [jcat_sum]; omega) d (by rw [C.R]; exact ⟨Nat.le_trans hc.1 hc.2.2.1, Nat.le_trans hc.2.1 hc.2.2.2⟩)
/-- a weapon, by its number: 0 the foil -/
def pWp (M : jW) (r : Option Nat) (A B : Nat → Option β) : Option β := match r with
  | none => none
  | some a => if a = M.2.2 0 then A a else if a = M.2.2 1 ∨ a = M.2.2 2 then B a else none
theorem pWp_spec {r : Option Nat} {A B : Nat → Option β} (h : pWp M r A B = some out) : ∃ a, r = some a ∧ ((a = M.2.2 0 ∧ A a = some out) ∨ ((a = M.2.2 1 ∨ a = M.2.2 2) ∧ B a = some out)) := by
  unfold pWp at h
  cases r with
  | none => cases h
  | some a =>
    dsimp only at h
    by_cases h0 : a = M.2.2 0
    · rw [if_pos h0] at h; exact ⟨a, rfl, Or.inl ⟨h0, h⟩⟩
    · rw [if_neg h0] at h
      by_cases h1 : a = M.2.2 1 ∨ a = M.2.2 2
      · rw [if_pos h1] at h; exact ⟨a, rfl, Or.inr ⟨h1, h⟩⟩
      · rw [if_neg h1] at h; cases h
theorem jOk.os (C : jOk x cc own rm rt) : ∀ q ∈ jOL (gk (xg x)), va_O q.1 q.2 (jA (xg x)) (xs x) (xs x).heap := C.kk.2.2.2.2.2.2.2.1
theorem jwp0 (C : jOk x cc own rm rt) {H : Heap} {locs : List Loc} (hM : jHd (xg x) M H) (hS : va_S (jA (xg x)) (xs x).heap H locs) {b : Nat} (hb : b = M.2.2 0) : ∃ cell : Cell, H[b]? = some cell ∧ cell.vm.isStatics = false ∧ (xs x).vm.findClass "Phrasehall$Weapon$1" = some cell.cls := by
  rw [hM.2.2] at hb
  subst hb
  exact va_Orecv (C.os _ (List.mem_of_getElem? (i := 0) rfl)) hS
theorem jwp1 (C : jOk x cc own rm rt) {H : Heap} {locs : List Loc} (hM : jHd (xg x) M H) (hS : va_S (jA (xg x)) (xs x).heap H locs) {b : Nat} (hb : b = M.2.2 1 ∨ b = M.2.2 2) : ∃ cell : Cell, H[b]? = some cell ∧ cell.vm.isStatics = false ∧ (xs x).vm.findClass "Phrasehall$Weapon" = some cell.cls := by
  rw [hM.2.2] at hb
  rcases hb with rfl | rfl
  · exact va_Orecv (C.os _ (List.mem_of_getElem? (i := 1) rfl)) hS
  · exact va_Orecv (C.os _ (List.mem_of_getElem? (i := 2) rfl)) hS
theorem jj_callW1 (C : jOk x cc own rm rt) {y : MethodName} {bytes : ByteArray} {maxL ix b : Nat} {ret : Option FieldType} {rmc : Room} {M' : jW} {ov : Option jV} {r : Option Nat} (As rest st' : List jV) {k' n' : Nat} (hr : r = some b)
    (hMet : jMet (xl x) (xg x) y bytes maxL ret rmc (jR (some b) :: As) M ov M') (hb : b = M.2.2 1 ∨ b = M.2.2 2) (h1 : Cond.methodLink own ix y ∈ lw_all) (h2 : Cond.instanceMethod y ∈ lw_all) (h3 : Cond.selects "Phrasehall$Weapon" y y ∈ lw_all) (h4 : Cond.initialized "Phrasehall$Weapon" ∈ lw_all) (h5 : Cond.code y bytes maxL ret ∈ lw_all)
    (hd : y.cls = "Phrasehall$Weapon" ∧ y.cls ≠ "java/lang/invoke/MethodHandle" ∧ y.cls ≠ "java/lang/invoke/VarHandle" ∧ (parseMethodDescriptor y.desc).map (fun d => d.parameters.length) = some As.length)
    (hst : st = As.reverse ++ jR r :: rest) (h8 : (rest.map jc).sum ≤ 8) (hR : rmc.frames + 1 ≤ rm.frames ∧ 8 + (maxL + 11) + rmc.locals ≤ rm.locals) (hc : k + rmc.cells ≤ k' ∧ n + rmc.slots ≤ n' ∧ k' ≤ rm.cells ∧ n' ≤ rm.slots) (d : decode cc pc = .ok (.invokevirtual ix, 3)) (hst' : ov.toList ++ rest = st')
    (h : jJ x (pc + 3) L st' M' k' n') : jJ x pc L st M k n := by
  subst hr
  rw [← hst'] at h
  refine jj_back (w := 0) C (mc := rmc.cells) (ms := rmc.slots) (rest := rest) (ov := ov) (M' := M') (a := (Value.ref b :: As.map jv).toArray) (fun H locs ls hM hS hl => ?_) (jj_widen C hc.1 hc.2.1 h)
  exact va_runV (C := "Phrasehall$Weapon") (b := b) (As := As.map jv) (jfix C) hMet (cwV As.length C.ts (lw_V h1 h2 h3 h4 h5) rfl rfl rfl hd (by rw [C.R]; exact hR)) ⟨jB.blind, jwp1 C hM hS hb, fun U hU hW => ⟨rfl, jB.at C hM hS hU hW⟩⟩ rfl (by simp) hl.1 (by rw [hst]; simp [jv, va_rf]) (by show 2 * 0 + _ ≤ 8; rw [jcat_sum]; omega) d (by rw [C.R]; exact ⟨Nat.le_trans hc.1 hc.2.2.1, Nat.le_trans hc.2.1 hc.2.2.2⟩)
/-! System.arraycopy, of references into an array of objects -/
def pAC (M : jW) (r0 : Option Nat) (sp : Int32) (r1 : Option Nat) (dp q : Int32) (K : jW → Option β) : Option β := pA M r0 3 fun _ A0 => pA M r1 3 fun a1 A1 => match A0, A1 with
  | (n0, .inr (.inr (.inr (.inr f)))), (n1, .inr (.inr (.inr (.inr g)))) => if ¬ sp < 0 ∧ ¬ dp < 0 ∧ ¬ q < 0 ∧ sp.toNatClampNeg + q.toNatClampNeg ≤ n0 ∧ dp.toNatClampNeg + q.toNatClampNeg ≤ n1 ∧ (List.range q.toNatClampNeg).all (fun i => jel M 3 (f (sp.toNatClampNeg + i))) = true then K (jU M a1 (.inl (3, (n1, .inr (.inr (.inr (.inr (va_cpy f g sp.toNatClampNeg dp.toNatClampNeg q.toNatClampNeg)))))))) else none
  | _, _ => none
theorem jj_copy (C : jOk x cc own rm rt) {ix : Nat} {r0 r1 : Option Nat} {sp dp q : Int32} {K : jW → Option β} (hw : Cond.methodLink own ix arraycopyName ∈ lw_all) (hR : 1 ≤ rm.frames ∧ (st.map jc).sum + (nativeFrameWords "java/lang/System" "arraycopy" 5 + 11) ≤ rm.locals) (d : decode cc pc = .ok (.invokestatic ix, 3)) (hF : pAC M r0 sp r1 dp q K = some out) (h : ∀ M', K M' = some out → jJ x (pc + 3) L st M' k n) : jJ x pc L (jI q :: jI dp :: jR r1 :: jI sp :: jR r0 :: st) M k n := by
  obtain ⟨a0, A0, rfl, ha0, hF⟩ := pA_spec hF
  obtain ⟨a, A1, rfl, ha1, hF⟩ := pA_spec hF
  split at hF
  case h_2 => cases hF
  rename_i n0 f n1 g _e9
  by_cases hc : ¬ sp < 0 ∧ ¬ dp < 0 ∧ ¬ q < 0 ∧ sp.toNatClampNeg + q.toNatClampNeg ≤ n0 ∧ dp.toNatClampNeg + q.toNatClampNeg ≤ n1 ∧ (List.range q.toNatClampNeg).all (fun i => jel M 3 (f (sp.toNatClampNeg + i))) = true
  case neg => rw [if_neg hc] at hF; cases hF
  rw [if_pos hc] at hF
  obtain ⟨h1, h2, h3, h4, h5, h6⟩ := hc
  have nn : ∀ z : Int32, ¬ z < 0 → z.toInt = (z.toNatClampNeg : Int) := by
    intro z hz
    have hz0 : (0 : Int) ≤ z.toInt := by
      have := Int32.not_lt.mp hz
      simpa using Int32.le_iff_toInt_le.mp this
    show z.toInt = ((z.toInt.toNat : Nat) : Int)
    omega
  intro H locs ls hM hS hl
  intro T hT X
  have ht1 := C.K.2 3 (gA (xg x) 3, .object "java/lang/Object") rfl
  have hc0 : H[a0]? = some (vp_cell (gA (xg x) 3) (n0, .inr (.inr (.inr (.inr f))))) := hM.at ha0
  have hc1 : H[a]? = some (vp_cell (gA (xg x) 3) (n1, .inr (.inr (.inr (.inr g))))) := hM.at ha1
  obtain ⟨-, k0, hk0, cm0, hkk0⟩ := ht1.1 n0 (fun j => va_rf (f j))
  obtain ⟨-, k1, hk1, cm1, hkk1⟩ := ht1.1 n1 (fun j => va_rf (g j))
  obtain ⟨vm', X', step⟩ := X.arraycopy C.ex C.ow (C.ts _ hw) (C.ts _ q378) (C.ts _ q377) (C.ts _ q55) (src := a0) (dst := a) (cs := vp_cell (gA (xg x) 3) (n0, .inr (.inr (.inr (.inr f))))) (cd := vp_cell (gA (xg x) 3) (n1, .inr (.inr (.inr (.inr g))))) (srcPos := sp) (destPos := dp) (n := q) (by rw [hT]; exact hc0) (by rw [hT]; exact hc1)
    (fun _ h => by cases h) (fun _ h => by cases h) (fun h => by cases h) (fun h => by cases h) hk0 hk1 hkk0 hkk1 rfl h1 h2 h3
    (by rw [nn sp h1, nn q h3]; show ¬ _ > ((arrV (gA (xg x) 3) n0 (fun j => va_rf (f j))).slots.size : Int); rw [arrV_size]; omega)
    (by rw [nn dp h2, nn q h3]; show ¬ _ > ((arrV (gA (xg x) 3) n1 (fun j => va_rf (g j))).slots.size : Int); rw [arrV_size]; omega)
    (fun vm₁ hal i hi => by
      have e : (vp_cell (gA (xg x) 3) (n0, .inr (.inr (.inr (.inr f))))).slots.getD (sp.toNatClampNeg + i) .null = va_rf (f (sp.toNatClampNeg + i)) := by
        show (arrV (gA (xg x) 3) n0 (fun j => va_rf (f j))).slots.getD _ _ = _
        rw [Array.getD_eq_getD_getElem?, arrV_read _ _ (by omega)]
        rfl
      rw [e]
      have h9 := List.all_eq_true.mp h6 i (List.mem_range.mpr hi)
      cases hy : f (sp.toNatClampNeg + i) with
      | none => exact ⟨rfl, trivial⟩
      | some y =>
        rw [hy] at h9
        obtain ⟨cellV, g1, g2, ⟨kC, hkC⟩, hasg⟩ := jj_any C hM hS (Or.inl ⟨rfl, rfl⟩) h9
        obtain ⟨kA, comp, r1, r2, r3, -⟩ := ht1.2
        cases hk1.symm.trans r1
        cases hkk1.symm.trans r2
        obtain ⟨kE, hkE, -⟩ := Vm.findClass_spec r3
        obtain ⟨kC', hkC', -⟩ := hal.2.2 _ _ hkC
        obtain ⟨kE', hkE', -⟩ := hal.2.2 _ _ hkE
        refine ⟨rfl, cellV, (show T.heap[y]? = some cellV by rw [hT]; exact g1), (fun q h => by rw [h] at g2; cases g2), ⟨kC', hkC'⟩, ?_, ?_⟩
        · exact ⟨kE', hkE'⟩
        · show vm₁.assignable _ _ = true
          rw [hal.assignable]
          exact hasg _ r3)
    (g := F0 (xm x) pc ls (.int q :: .int dp :: .ref a :: .int sp :: .ref a0 :: st.map jv)) rfl (by rw [C.ml]; exact hl.1) (rest := st.map jv) rfl (by rw [C.cb]; exact d) (by rw [C.R]; exact hR.1) (by show 2 * 0 + _ + _ ≤ _; rw [jcat_sum, C.R]; omega)
  have e1 : copied (vp_cell (gA (xg x) 3) (n0, .inr (.inr (.inr (.inr f))))) (vp_cell (gA (xg x) 3) (n1, .inr (.inr (.inr (.inr g))))) sp dp q = vp_cell (gA (xg x) 3) (n1, .inr (.inr (.inr (.inr (va_cpy f g sp.toNatClampNeg dp.toNatClampNeg q.toNatClampNeg))))) := by
    rw [vp_cell_q, vp_cell_q, vp_cell_q]
    exact va_copied (fun z => va_rf z) (gA (xg x) 3) (gA (xg x) 3) f g h4
  rw [e1] at X' step
  have hlt : a < H.size := (Array.getElem?_eq_some_iff.mp hc1).1
  generalize hNC : vp_cell (gA (xg x) 3) (n1, .inr (.inr (.inr (.inr (va_cpy f g sp.toNatClampNeg dp.toNatClampNeg q.toNatClampNeg))))) = NC at X' step
  have hheap : ((T.setVm vm').setCell a NC).heap = H.setIfInBounds a NC := by rw [← hT]; rfl
  have oq : ∀ q : Nat, q ≠ a → (H.setIfInBounds a NC)[q]? = H[q]? := fun q hq => by simp [Array.getElem?_setIfInBounds, Ne.symm hq]
  have hz : (H.setIfInBounds a NC).size = H.size := by simp
  obtain ⟨t, a1, b1⟩ := h _ hF _ _ ls (hM.upd ha1 (show (H.setIfInBounds a NC)[a]? = some _ by rw [← hNC]; simp [Array.getElem?_setIfInBounds, hlt, jx]) hz oq) ⟨by rw [hz]; exact hS.1, fun q g1 g2 => by
      rw [oq q (fun e => g2 (by rw [e]; exact (hM.1 a _ ha1).1))]
      exact hS.2.1 q g1 g2, fun q hq => by
      rcases List.mem_append.mp hq with h | h
      · exact hS.2.2 q h
      · obtain ⟨z, -, hz⟩ := List.mem_map.mp h
        rw [← hz]
        exact (hM.1 a _ ha1).1⟩ hl _ hheap X'
  exact ⟨t, step t a1, b1⟩
end jC2
