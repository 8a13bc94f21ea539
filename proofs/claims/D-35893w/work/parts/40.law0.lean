/-! LAW: the script's rows; what an operation's simulation says; the tail of a case -/
set_option maxRecDepth 100000
def jWF (M : jW) : Prop := ∀ a e, M.1 a = some e → a < M.2.1
/-- the law's code for what an operation answered -/
def lC {α : Type} (codes : List (Nat × Int32)) : (α ⊕ Nat) → Int32 → Prop
  | .inl _, c => c = 0
  | .inr e, c => (e, c) ∈ codes
/-- one operation: the class (F1), then the reference (F2); between them only the array of the answer may change -/
def lSim {α : Type} (LI : jW → Prop) (mo ao : Nat) (F1 : jW → Option ((α ⊕ Nat) × jW)) (F2 : jW → Option (α × jW)) (codes : List (Nat × Int32)) : Prop :=
  ∀ M, LI M → jWF M → ∃ res M1 c, F1 M = some (res, M1) ∧ lC codes res c ∧ (∃ A, M1.1 ao = some (.inl (2, (1, .inr (.inl A))))) ∧ (∃ fs, M1.1 mo = some (.inr (1, fs))) ∧
    ∀ M2, (∀ q, q ≠ ao → M2.1 q = M1.1 q) → M2.2.2 = M1.2.2 → jWF M2 → (∃ A, M2.1 ao = some (.inl (2, (1, .inr (.inl A))))) → ∃ v M3, F2 M2 = some (v, M3) ∧ LI M3 ∧ M3.1 ao = M2.1 ao ∧ f_X2_thrown (some mo) M3 = some (c, M3) ∧ (∀ r, res = .inl r → v = r)
/-- an answer of both, without an array -/
def lAns (LI : jW → Prop) (F1 F2 : jW → Option (Int32 × jW)) : Prop :=
  ∀ M, LI M → jWF M → ∃ v M1, F1 M = some (v, M1) ∧ LI M1 ∧ (jWF M1 → ∃ M3, F2 M1 = some (v, M3) ∧ LI M3)
section lRows
variable {x : jX} {cc : ByteArray} {own : String} {rm : Room} {rt : Option FieldType} {pc : Nat} {L L' : List (Nat × jV)} {st : List jV} {M : jW} {k n : Nat}
theorem jj_sld (C : jOk x cc own rm rt) {b Ln : Nat} {q : Nat → Int32} {i : Int32} (hX : va_X b Ln q (xs x) (xs x).heap) (hbl : b < (xs x).heap.size) (hbA : b < gz (xg x)) (hin : vp_in i Ln) (d : decode cc pc = .ok (.iaload, 1)) (h : jJ x (pc + 1) L (jI (q i.toNatClampNeg) :: st) M k n) : jJ x pc L (jI i :: jR (some b) :: st) M k n :=
  fun H locs ls hM hS hl => va_sld C.ex C.cb hX hbl (Nat.not_le.mpr hbA) hS hin d (h H locs ls hM hS hl)
theorem jj_slen (C : jOk x cc own rm rt) {b Ln : Nat} {q : Nat → Int32} (hX : va_X b Ln q (xs x) (xs x).heap) (hbl : b < (xs x).heap.size) (hbA : b < gz (xg x)) (d : decode cc pc = .ok (.arraylength, 1)) (h : jJ x (pc + 1) L (jI (Int32.ofNat Ln) :: st) M k n) : jJ x pc L (jR (some b) :: st) M k n :=
  fun H locs ls hM hS hl => va_slen C.ex C.cb hX hbl (Nat.not_le.mpr hbA) hS d (h H locs ls hM hS hl)
theorem jj_ifT {a b : Int32} (C : jOk x cc own rm rt) {off : Int} {tgt : Nat} (d : decode cc pc = .ok (.if_icmp .eq off, 3)) (ht : (pc : Int) + off = (tgt : Int)) (hab : a = b) (h : jJ x tgt L st M k n) : jJ x pc L (jI b :: jI a :: st) M k n :=
  jj_icmp_eq (β := Unit) (A := some ()) (B := none) (out := ()) C d ht (by rw [if_pos hab]) (fun _ => h) (fun q => nomatch q)
/-- from the end of a case to the loop's head -/
theorem law_next (C : jOk x cL_law own rm rt) {b z mo ao : Nat} {i : Int32} {L : List (Nat × jV)} (ks : List Nat) (hL : ks.filterMap (fun j => L[j]?) = [(0, jR (some b)), (1, jR (some z)), (2, jR (some mo)), (3, jR (some ao)), (4, jI i)]) (hn : xn x = 7)
    (h : jJ x 23 [(0, jR (some b)), (1, jR (some z)), (2, jR (some mo)), (3, jR (some ao)), (4, jI (i + 6))] [] M k n) : jJ x 1426 L [] M k n := by
  refine jj_sub ks hL ?_
  refine jj_iinc (L' := [(4, jI (i + 6)), (0, jR (some b)), (1, jR (some z)), (2, jR (some mo)), (3, jR (some ao))]) (c := 6) C 4 rfl (by decide) rfl (by rw [hn]; decide) dL_law_1426 ?_
  refine jj_goto (tgt := 23) C dL_law_1429 (by decide) ?_
  exact jj_sub [1, 2, 3, 4, 0] rfl h
/-- from the reference's answer to the loop's head -/
theorem law_tail (C : jOk x cL_law own room_1 rt) (C0 : own = "PhrasehallLaw") {b z mo ao : Nat} {i kc c v : Int32} {res : Int32 ⊕ Nat} {codes : List (Nat × Int32)} {p : Nat} {off : Int} {k' n' : Nat} (hn : xn x = 7) (hc : lC codes res c) (hcs : ∀ q ∈ codes, q.2 ≠ 0) (hkc : kc = c)
    (d0 : decode cL_law p = .ok (.istore 6, 2)) (d1 : decode cL_law (p + 2) = .ok (.aload_n 2, 1)) (d2 : decode cL_law (p + 3) = .ok (.invokevirtual 89, 3)) (d3 : decode cL_law (p + 6) = .ok (.iload 5, 2)) (d4 : decode cL_law (p + 8) = .ok (.if_icmp .eq 5, 3)) (d5 : decode cL_law (p + 13) = .ok (.iload 5, 2)) (d6 : decode cL_law (p + 15) = .ok (.ifCond .ne 15, 3)) (d7 : decode cL_law (p + 18) = .ok (.aload_n 3, 1)) (d8 : decode cL_law (p + 19) = .ok (.iconst 0, 1)) (d9 : decode cL_law (p + 20) = .ok (.laload, 1)) (d10 : decode cL_law (p + 21) = .ok (.iload 6, 2)) (d11 : decode cL_law (p + 23) = .ok (.i2l, 1)) (d12 : decode cL_law (p + 24) = .ok (.lcmp, 1)) (d13 : decode cL_law (p + 25) = .ok (.ifCond .eq 5, 3)) (d14 : decode cL_law (p + 30) = .ok (.goto off, 3)) (ht : ((p + 30 : Nat) : Int) + off = ((1426 : Nat) : Int))
    (hb : ∃ fs, M.1 mo = some (.inr (1, fs))) (hT : f_X2_thrown (some mo) M = some (c, M)) (hA : ∃ A, M.1 ao = some (.inl (2, (1, .inr (.inl A)))) ∧ ∀ r, res = .inl r → A 0 = v.toInt64) (hk : k ≤ k') (hk' : k' ≤ 603072) (hn0 : n ≤ n') (hn' : n' ≤ 7190634)
    (h : jJ x 23 [(0, jR (some b)), (1, jR (some z)), (2, jR (some mo)), (3, jR (some ao)), (4, jI (i + 6))] [] M k' n') : jJ x p [(5, jI kc), (0, jR (some b)), (1, jR (some z)), (2, jR (some mo)), (3, jR (some ao)), (4, jI i)] [jI v] M k n := by
  subst C0
  obtain ⟨fs, hb⟩ := hb
  obtain ⟨A, hA, hr⟩ := hA
  refine jj_istore (L' := [(6, jI v), (5, jI kc), (0, jR (some b)), (1, jR (some z)), (2, jR (some mo)), (3, jR (some ao)), (4, jI i)]) C rfl (by rw [hn]; decide) d0 ?_
  refine jj_aload_n C 4 rfl d1 rfl ?_
  refine jj_callV (k' := k') (n' := n') C [] [] [jI c] rfl (m_X2_thrown _ _ hT) hb rfl q1330 q1331 q1332 q46 q1333 ⟨rfl, hd_X2_thrown⟩ rfl (Nat.le_of_ble_eq_true rfl) ⟨Nat.le_of_ble_eq_true rfl, Nat.le_of_ble_eq_true rfl⟩ ⟨hk, hn0, hk', hn'⟩ d2 rfl ?_
  refine jj_iload C 1 rfl d3 ?_
  refine jj_ifT (tgt := p + 13) C d4 (by omega) hkc.symm ?_
  refine jj_iload C 1 rfl d5 ?_
  subst hkc
  refine jj_if_ne (β := Unit) (A := if kc = 0 then none else some ()) (B := if kc = 0 then some () else none) (out := ()) (tgt := p + 30) C d6 (by omega) (by by_cases h0 : kc = 0 <;> simp [h0]) (fun h0 => ?_) (fun h0 => ?_)
  · refine jj_goto (tgt := 1426) C d14 ht ?_
    exact law_next C [2, 3, 4, 5, 6] rfl hn h
  · have h0 : kc = 0 := by
      by_cases h1 : kc = 0
      · exact h1
      · rw [if_neg h1] at h0; cases h0
    have hres : ∃ r, res = .inl r := by
      cases res with
      | inl r => exact ⟨r, rfl⟩
      | inr e => exact absurd h0 (hcs _ hc)
    obtain ⟨r, hres⟩ := hres
    refine jj_aload_n C 5 rfl d7 rfl ?_
    refine jj_iconst (v := 0) C d8 (by decide) ?_
    refine jj_lald (β := Unit) (out := ()) (K := fun w => if w = v.toInt64 then some () else none) C d9 (by simp [pAL, pA, hA, jin, hr r hres]) (fun w hw => ?_)
    have hw : w = v.toInt64 := by
      by_cases h1 : w = v.toInt64
      · exact h1
      · simp only [h1, if_false] at hw; cases hw
    refine jj_iload C 0 rfl d10 ?_
    refine jj_i2l C d11 ?_
    refine jj_lcmp C d12 ?_
    refine jj_if_eq (β := Unit) (A := some ()) (B := none) (out := ()) (tgt := p + 30) C d13 (by omega) (by rw [if_pos]; rw [hw]; simp [lg_cmp]) (fun _ => ?_) (fun q => nomatch q)
    refine jj_goto (tgt := 1426) C d14 ht ?_
    exact law_next C [2, 3, 4, 5, 6] rfl hn h
end lRows
/-- the world behind a wrapper -/
def lR (M1 : jW) (ao : Nat) (c : Int32) (res : Int32 ⊕ Nat) : Int32 → jW → Prop := fun v M' => v = c ∧ (∀ q, q ≠ ao → M'.1 q = M1.1 q) ∧ M'.2.2 = M1.2.2 ∧ ∃ A, M'.1 ao = some (.inl (2, (1, .inr (.inl A)))) ∧ ∀ r, res = .inl r → A 0 = r.toInt64
theorem lR_I {M1 : jW} {ao : Nat} {c : Int32} {res : Int32 ⊕ Nat} {codes : List (Nat × Int32)} (hc : lC codes res c) (hA : ∃ A, M1.1 ao = some (.inl (2, (1, .inr (.inl A))))) {r : Int32} {M' : jW} (h : (some (Sum.inl r, M') : Option ((Int32 ⊕ Nat) × jW)) = some (res, M1)) : ∃ M2, pSL M' (some ao) 0 r.toInt64 some = some M2 ∧ lR M1 ao c res 0 M2 := by
  cases h
  obtain ⟨A, hA⟩ := hA
  refine ⟨_, by simp [pSL, pA, hA, jin]; rfl, ?_, ?_, ?_, ?_⟩
  · exact hc.symm
  · intro q hq
    simp [jU, hq]
  · rfl
  · refine ⟨_, by simp [jU]; rfl, ?_⟩
    intro r' hr'
    cases hr'
    rfl
theorem lR_E {M1 : jW} {ao : Nat} {c : Int32} {res : Int32 ⊕ Nat} {codes : List (Nat × Int32)} (hc : lC codes res c) (hA : ∃ A, M1.1 ao = some (.inl (2, (1, .inr (.inl A))))) {e : Nat} {M' : jW} (h : (some (Sum.inr e, M') : Option ((Int32 ⊕ Nat) × jW)) = some (res, M1)) : (e, c) ∈ codes ∧ ∀ n', lR M1 ao c res c (M'.1, (n', M'.2.2)) := by
  cases h
  obtain ⟨A, hA⟩ := hA
  exact ⟨hc, fun n' => ⟨rfl, fun _ _ => rfl, rfl, A, hA, fun r hr => nomatch hr⟩⟩
def lRU (M1 : jW) (c : Int32) : Int32 → jW → Prop := fun v M' => v = c ∧ M'.1 = M1.1 ∧ M'.2.2 = M1.2.2
theorem lRU_I {M1 : jW} {c : Int32} {res : Unit ⊕ Nat} {codes : List (Nat × Int32)} (hc : lC codes res c) {r : Unit} {M' : jW} (h : (some (Sum.inl r, M') : Option ((Unit ⊕ Nat) × jW)) = some (res, M1)) : lRU M1 c 0 M' := by
  cases h
  exact ⟨hc.symm, rfl, rfl⟩
theorem lRU_E {M1 : jW} {c : Int32} {res : Unit ⊕ Nat} {codes : List (Nat × Int32)} (hc : lC codes res c) {e : Nat} {M' : jW} (h : (some (Sum.inr e, M') : Option ((Unit ⊕ Nat) × jW)) = some (res, M1)) : (e, c) ∈ codes ∧ ∀ n', lRU M1 c c (M'.1, (n', M'.2.2)) := by
  cases h
  exact ⟨hc, fun n' => ⟨rfl, rfl, rfl⟩⟩
