/-! DISPATCH: the time of a part of the phrase; what a weapon counts. (The class Phrasehall$Weapon$1 has no word 'initialized' in the tables: its method is stepped through at the call itself, by no contract.) -/
set_option maxRecDepth 100000
def pTime (M : jW) (r : Option Nat) : Option (Int32 × jW) := match r with
  | none => none
  | some b => match M.1 b with
    | some (.inr (c, _)) => if c = 4 then f_X6_time (some b) M else if c = 5 then f_X7_time (some b) M else none
    | _ => none
section jD
variable {x : jX} {cc : ByteArray} {own : String} {rm : Room} {rt : Option FieldType} {pc : Nat} {L L' : List (Nat × jV)} {st : List jV} {M : jW} {k n : Nat} {β : Type} {out : β}
theorem jj_time (C : jOk x cc "Phrasehall" rm rt) (rest st' : List jV) {k' n' : Nat} {r : Option Nat} {r0 : Int32} {M' : jW} (hG : pTime M r = some (r0, M')) (hR : rm_X6_time.frames + 1 ≤ rm.frames ∧ 8 + (1 + 11) + rm_X6_time.locals ≤ rm.locals) (hc : k ≤ k' ∧ n ≤ n' ∧ k' ≤ rm.cells ∧ n' ≤ rm.slots) (hst' : jI r0 :: rest = st') (h8 : (rest.map jc).sum ≤ 8) (d : decode cc pc = .ok (.invokeinterface 120 1, 5)) (h : jJ x (pc + 5) L st' M' k' n') : jJ x pc L (jR r :: rest) M k n := by
  unfold pTime at hG
  cases r with
  | none => cases hG
  | some b =>
    dsimp only at hG
    split at hG
    · rename_i c fs e
      by_cases h4 : c = 4
      · rw [if_pos h4] at hG
        subst h4
        exact jj_callF (k' := k') (n' := n') C [] rest st' rfl (m_X6_time _ _ hG) e rfl C.kk.2.2.2.1.1 q584 q202 q588 q66 q204 ⟨by decide, by decide, by decide +kernel⟩ rfl h8 hR hc d hst' h
      · rw [if_neg h4] at hG
        by_cases h5 : c = 5
        · rw [if_pos h5] at hG
          subst h5
          exact jj_callF (k' := k') (n' := n') C [] rest st' rfl (m_X7_time _ _ hG) e rfl C.kk.2.2.2.1.2.1 q584 q594 q592 q67 q596 ⟨by decide, by decide, by decide +kernel⟩ rfl h8 hR hc d hst' h
        · rw [if_neg h5] at hG; cases hG
    · cases hG
theorem jpay {s U : State} {args : Array Value} {w : Cond} (hw : w ∈ lw_all) (ht : ∀ w ∈ lw_all, w.before args s = true) (hW : s.WarmedH U.vm) : w.before #[] U = true := pay_in ht lw_self w hw #[] U hW
/-- a call of the foil's own counts, stepped through: nothing changes, the answer by its argument -/
theorem jback_W1 {p : Program} {l : Launch} {e : Env} {R : Room} {below : List Frame} {s : State} {sargs : Array Value} (hexec : p.tables.exec = Jvm.exec) (hframes : 1 ≤ R.frames) (hlocals : 8 + (2 + 11) ≤ R.locals) (hcode : ∀ U : State, s.WarmedH U.vm → (Cond.code yX11_counts cX11_counts 2 (some .boolean)).before #[] U = true) (b : Nat) (q : Int32) :
    Back l R p e below s sargs yX11_counts 3 8 (fun A a => a = #[.ref b, .int q]) (fun A _ v B => v = some (.int (if q = 2 then 0 else 1)) ∧ B = A) := by
  intro m meth c A g ig mk a X hg hsize hdg hW hn hp
  subst hp
  obtain ⟨U, Ls, c0, s0⟩ := A
  dsimp only [Pt.U, Pt.locs, Pt.cells, Pt.slots] at X hn ⊢
  obtain ⟨methY, cY, hmY, hcY, hbY, hlY, hrY, hkY, -, -⟩ := Cond.code_spec hn (hcode U X.warmed)
  have hplain : U.plainMethod mk := State.plainMethod.of_named (s := U) (x := yX11_counts) (by decide) hn hmY
  have h : At U g.method c below := by rw [hg]; exact X.here
  have hfull := X.notFull (g := g) hsize (vars := cY.maxLocals) hframes (by rw [hlY]; omega)
  have hAt := h.enter (g := g) (#[.ref b, .int q] : Array Value) hmY hcY hplain
  have hf := frames_entered (g := g) h.top (.java (entryFrame mk (#[.ref b, .int q] : Array Value) cY.maxLocals))
  refine ⟨some (.int (if q = 2 then 0 else 1)), ⟨U, Ls, c0, s0⟩, X, ⟨rfl, rfl⟩, ?_⟩
  rw [doInvoke_enter h.top [] hmY hcY hkY hfull]
  have hleave : ∀ (f : JFrame) (v : Int32) (acts : List Action), f.method = mk → f.locked = none → f.entered = [] → (doReturn e (((U.setTop g).pushFrame (.java (entryFrame mk (#[.ref b, .int q] : Array Value) cY.maxLocals))).setTop f) acts (some (.int v))).1 = U.setTop { g with pc := g.pc + 3, stack := .int v :: g.stack } := by
    intro f v acts h1 h2 h3
    have hcg : ((U.setTop g).pushFrame (.java (entryFrame mk (#[.ref b, .int q] : Array Value) cY.maxLocals))).code? g.method = some c := by
      have := h.code
      rw [State.code?_eq] at this ⊢
      simpa [State.pushFrame, State.setFrames] using this
    rw [doReturn_leave acts hf (by rw [h1]; simpa [State.pushFrame, State.setFrames] using hmY) hkY h2 h3 hcg hdg, setFrames_entered h.top]
    simp
  have hmY1 : ((U.setTop g).pushFrame (.java (entryFrame mk (#[.ref b, .int q] : Array Value) cY.maxLocals))).vm.method? mk = some methY := by simpa [State.pushFrame, State.setFrames] using hmY
  generalize hT1 : (U.setTop g).pushFrame (.java (entryFrame mk (#[.ref b, .int q] : Array Value) cY.maxLocals)) = T1 at hAt hleave hmY1 ⊢
  have hl := lv_entry ([.ref b, .int q]) (n := 2) (Nat.le_of_ble_eq_true rfl)
  rw [hlY]
  have hent : entryFrame mk (#[.ref b, .int q] : Array Value) 2 = F0 mk 0 ((lg_sl ([.ref b, .int q]) ++ List.replicate (2 - (lg_sl ([.ref b, .int q])).length) Slot.unset).toArray) [] := lg_entry_eq (vs := [.ref b, .int q]) ..
  rw [hent]
  generalize (lg_sl ([.ref b, .int q]) ++ List.replicate (2 - (lg_sl ([.ref b, .int q])).length) Slot.unset).toArray = ls at hl ⊢
  have hl1 : ls[1]? = some (.val (.int q)) := lv_at hl 1 rfl
  have hend : ∀ v : Int32, narrow .boolean (.int v) = .int v → Steps p.tables e below (T1.setTop (F0 mk 10 ls [.int v])) (U.setTop { g with pc := g.pc + 3, stack := .int v :: g.stack }) := by
    intro v hn
    jvm_step hAt [hAt.top, hexec, hbY, dX11_counts_10, hmY1, hrY, hn]
    (try refine ⟨rfl, ?_⟩); (try refine ⟨rfl, ?_⟩)
    first | (intro acts; rw [hleave _ _ acts rfl rfl rfl]) | rw [hleave _ _ _ rfl rfl rfl]
    exact Steps.refl _
  have h9 : Steps p.tables e below (T1.setTop (F0 mk 9 ls [])) (U.setTop { g with pc := g.pc + 3, stack := .int 0 :: g.stack }) := by
    jvm_step hAt [hAt.top, hexec, hbY, dX11_counts_9, Op.iconst.sem]
    exact hend 0 (by decide)
  have h6 : Steps p.tables e below (T1.setTop (F0 mk 6 ls [.int 1])) (U.setTop { g with pc := g.pc + 3, stack := .int 1 :: g.stack }) := by
    jvm_step hAt [hAt.top, hexec, hbY, dX11_counts_6]
    exact hend 1 (by decide)
  have h5 : Steps p.tables e below (T1.setTop (F0 mk 5 ls [])) (U.setTop { g with pc := g.pc + 3, stack := .int 1 :: g.stack }) := by
    jvm_step hAt [hAt.top, hexec, hbY, dX11_counts_5, Op.iconst.sem]
    exact h6
  have h2 : Steps p.tables e below (T1.setTop (F0 mk 2 ls [.int 2, .int q])) (U.setTop { g with pc := g.pc + 3, stack := (some (Value.int (if q = 2 then 0 else 1))).toList ++ g.stack }) := by
    by_cases hq : q = 2
    · rw [if_pos hq]
      jvm_step hAt [hAt.top, hexec, hbY, dX11_counts_2, Op.if_icmp.holds, hq]
      exact h9
    · rw [if_neg hq]
      jvm_step hAt [hAt.top, hexec, hbY, dX11_counts_2, Op.if_icmp.holds, hq]
      exact h5
  have h1 : Steps p.tables e below (T1.setTop (F0 mk 1 ls [.int q])) (U.setTop { g with pc := g.pc + 3, stack := (some (Value.int (if q = 2 then 0 else 1))).toList ++ g.stack }) := by
    jvm_step hAt [hAt.top, hexec, hbY, dX11_counts_1, Op.iconst.sem]
    exact h2
  jvm_step hAt [hAt.top, hexec, hbY, dX11_counts_0, hl1]
  exact h1
def pWcounts (M : jW) (r : Option Nat) (q : Int32) : Option (Int32 × jW) := match r with
  | none => none
  | some a => if a = M.2.2 0 then some (if q = 2 then 0 else 1, M) else if a = M.2.2 1 ∨ a = M.2.2 2 then f_X5_counts (some a) q M else none
theorem jj_callW0 (C : jOk x cc "Phrasehall" rm rt) {b : Nat} {q : Int32} (rest : List jV) (hb : b = M.2.2 0) (hR : 1 ≤ rm.frames ∧ 8 + (2 + 11) ≤ rm.locals) (h8 : (rest.map jc).sum ≤ 8) (d : decode cc pc = .ok (.invokevirtual 154, 3)) (h : jJ x (pc + 3) L (jI (if q = 2 then 0 else 1) :: rest) M k n) : jJ x pc L (jI q :: jR (some b) :: rest) M k n := by
  intro H locs ls hM hS hl T hT X
  obtain ⟨cellB, hcB, hoB, hclB⟩ := jwp0 C hM hS hb
  have hcode : (Cond.code yX11_counts cX11_counts 2 (some .boolean)).before (xa x) (xs x) = true := C.ts _ q648
  obtain ⟨v, vm₁, B, hW₁, X', ⟨hv, hB⟩, st⟩ := va_callVU X C.ex (C := "Phrasehall$Weapon$1") (owner := "Phrasehall$Weapon") (x := yX5_counts) (y := yX11_counts) (bytes := cX11_counts) (maxL := 2) (ret := some .boolean) C.ow (C.ts _ q642) (C.ts _ q645) (va_Decl.of (C.ts _ q643) (C.ts _ q649)) ⟨by decide, by decide⟩ (C.ts _ q646) (C.ts _ q647) hcode
    (jback_W1 C.ex (by rw [C.R]; exact hR.1) (by rw [C.R]; exact hR.2) (fun U hW => jpay q648 C.ts hW) b q) (by rw [hT]; exact hcB) hoB hclB (g := F0 (xm x) pc ls (.int q :: .ref b :: rest.map jv)) rfl (hl.1.trans C.ml.symm) (argsL := [.int q]) (rest := rest.map jv) (fun sig h => by
      have h2 : (parseMethodDescriptor yX5_counts.desc).map (fun d => d.parameters.length) = some 1 := by decide +kernel
      rw [h] at h2
      exact (Option.some.inj h2).symm) rfl (by show 2 * 0 + _ ≤ 8; rw [jcat_sum]; omega) (by rw [C.cb]; exact d) (fun vm₁ hW₁ => rfl)
  subst hB
  subst hv
  obtain ⟨t2, a1, b1⟩ := h H locs ls hM hS hl (T.setVm vm₁) hT X'
  exact ⟨t2, st t2 a1, b1⟩
theorem jj_wcounts (C : jOk x cc "Phrasehall" rm rt) (rest st' : List jV) {k' n' : Nat} {r : Option Nat} {q r0 : Int32} {M' : jW} (hG : pWcounts M r q = some (r0, M')) (hR : rm_X5_counts.frames + 1 ≤ rm.frames ∧ 8 + (2 + 11) + rm_X5_counts.locals ≤ rm.locals) (hc : k ≤ k' ∧ n ≤ n' ∧ k' ≤ rm.cells ∧ n' ≤ rm.slots) (hst' : jI r0 :: rest = st') (h8 : (rest.map jc).sum ≤ 8) (d : decode cc pc = .ok (.invokevirtual 154, 3)) (h : jJ x (pc + 3) L st' M' k' n') : jJ x pc L (jI q :: jR r :: rest) M k n := by
  unfold pWcounts at hG
  cases r with
  | none => cases hG
  | some b =>
    dsimp only at hG
    by_cases h0 : b = M.2.2 0
    · rw [if_pos h0] at hG
      cases hG
      rw [← hst'] at h
      exact jj_callW0 C rest h0 ⟨by have := hR.1; omega, by have := hR.2; omega⟩ h8 d (jj_widen C hc.1 hc.2.1 h)
    · rw [if_neg h0] at hG
      by_cases h1 : b = M.2.2 1 ∨ b = M.2.2 2
      · rw [if_pos h1] at hG
        exact jj_callW1 (k' := k') (n' := n') C [jI q] rest st' rfl (m_X5_counts _ _ hG) h1 q642 q643 q644 q64 q649 ⟨rfl, hd_X5_counts⟩ rfl h8 hR hc d hst' h
      · rw [if_neg h1] at hG; cases hG
end jD
