/-! START: what the tables and the statement's start give: jKK -/
set_option maxRecDepth 100000
theorem st_arrP {s : State} {args : Array Value} {ty : FieldType} (h : (Cond.arrayClass ty).before args s = true) (h0 : ∀ C, ty ≠ .object C) : ∃ cA, ArrOfT s cA ty ∧ va_RA s cA ty := by
  obtain ⟨c, k, comp, h1, h2, h3⟩ := Cond.arrayClass_spec h
  refine ⟨c, fun n z => ⟨(fun k h => by cases h), k, h2, comp, h3⟩, ?_⟩
  cases ty with
  | object C => exact absurd rfl (h0 C)
  | _ => exact h1
theorem st_arrO {s : State} {args : Array Value} {C : String} (h : (Cond.arrayOver (.object C)).before args s = true) : ∃ cA, ArrOfT s cA (.object C) ∧ va_RA s cA (.object C) := by
  obtain ⟨comp, c, k, h1, -, h3, h4, h5⟩ := Cond.arrayOver_spec h
  exact ⟨c, fun n z => ⟨(fun k h => by cases h), k, h3, comp, h4⟩, k, comp, h3, h4, h1, h5⟩
theorem st_K {s : State} {args : Array Value} (hts : ∀ w ∈ lw_tbl, w.before args s = true) : ∃ (D : va_G) (ca : Nat → ClassId), va_K D jCl (jTy (D, (ca, (0, fun _ => 0)))) s := by
  have hall : ∀ w ∈ lw_all, w.before args s = true := fun w h => hts w (List.mem_filter.mp h).1
  have hc : ∀ c : Nat, ∃ p : ClassId × (Nat → Nat), ∀ q : vw_C, jCl[c]? = some q → u_Kn s q.1 q.2.1 q.2.2 p.1 p.2 := by
    have mk : ∀ {c n : Nat} {Cn : String} {T : u_T} {N : Nat} {ty : Nat → FieldType}, jCs c Cn T N ty → Cond.instantiable Cn n ∈ lw_all → ∃ p : ClassId × (Nat → Nat), ∀ q : vw_C, jCl[c]? = some q → u_Kn s q.1 q.2.1 q.2.2 p.1 p.2 := by
      intro c n Cn T N ty hj hi
      obtain ⟨cC, iS, hk⟩ := u_known (ws := lw_all) hall hj.1 (hall _ hi)
      refine ⟨(cC, iS), fun q hq => ?_⟩
      rw [hj.2.1] at hq
      cases hq
      exact hk
    intro c
    by_cases h0 : c = 0
    · subst h0; exact mk jcs_0 q80
    by_cases h1 : c = 1
    · subst h1; exact mk jcs_1 q1228
    by_cases h2 : c = 2
    · subst h2; exact mk jcs_2 q302
    by_cases h3 : c = 3
    · subst h3; exact mk jcs_3 q475
    by_cases h4 : c = 4
    · subst h4; exact mk jcs_4 q556
    by_cases h5 : c = 5
    · subst h5; exact mk jcs_5 q605
    by_cases h6 : c = 6
    · subst h6; exact mk jcs_6 q156
    by_cases h7 : c = 7
    · subst h7; exact mk jcs_7 q768
    by_cases h8 : c = 8
    · subst h8; exact mk jcs_8 q775
    by_cases h9 : c = 9
    · subst h9; exact mk jcs_9 q88
    by_cases h10 : c = 10
    · subst h10; exact mk jcs_10 q828
    refine ⟨(default, fun _ => 0), fun q hq => ?_⟩
    have := (List.getElem?_eq_some_iff.mp hq).1
    have e : jCl.length = 11 := rfl
    omega
  obtain ⟨f, hf⟩ := Classical.axiomOfChoice hc
  obtain ⟨c0, a0⟩ := st_arrP (hall _ q543) (fun C h => by cases h)
  obtain ⟨c1, a1⟩ := st_arrP (hall _ q544) (fun C h => by cases h)
  obtain ⟨c2, a2⟩ := st_arrP (hall _ q1527) (fun C h => by cases h)
  obtain ⟨c3, a3⟩ := st_arrO (hts _ q371)
  obtain ⟨c4, a4⟩ := st_arrO (hts _ q490)
  obtain ⟨c5, a5⟩ := st_arrO (hts _ q774)
  refine ⟨(fun c => (f c).1, fun c => (f c).2), fun t => match t with | 0 => c0 | 1 => c1 | 2 => c2 | 3 => c3 | 4 => c4 | _ => c5, fun c q hq => hf c q hq, fun k q hk => ?_⟩
  have hl := (List.getElem?_eq_some_iff.mp hk).1
  have hl : k < 6 := hl
  rcases (show k = 0 ∨ k = 1 ∨ k = 2 ∨ k = 3 ∨ k = 4 ∨ k = 5 by omega) with rfl | rfl | rfl | rfl | rfl | rfl
  · cases hk; exact a0
  · cases hk; exact a1
  · cases hk; exact a2
  · cases hk; exact a3
  · cases hk; exact a4
  · cases hk; exact a5
theorem st_OF {s : State} {args : Array Value} {A : Nat → Prop} {t : Term} {o n d : String} {v : Int32} {a : Nat} (h : (Cond.eq (.field t o n d) (.int v)).before args s = true) (ht : t.eval args s none [] s = some (.ref a)) (hA : ∀ a : Nat, a < s.heap.size → ¬ A a) : va_OF o n d (.int v) a A s s.heap := by
  have hfv := va_eqI (v := .int v) (show (Cond.eq (.field t o n d) (.int v)).value args s none s [] = some true by simpa [Cond.before, Cond.holds] using h) rfl
  cases hfo : s.fieldFound? o n d with
  | none =>
    rw [va_fe ht] at hfv
    simp [State.fieldOf?, State.fieldNamed?, hfo] at hfv
  | some x =>
    obtain ⟨cf, kf, fi, f⟩ := x
    obtain ⟨g1, cell2, g2, g3, -, -, g6⟩ := Term.field_spec hfo ht hfv
    exact ⟨cf, kf, fi, f, cell2, hfo, g1, g2, g3, g6, hA _ (Array.getElem?_eq_some_iff.mp g2).1⟩
theorem st_ex {s : State} {args : Array Value} {t : Term} {nm : String} (h : (Cond.exactly t nm).before args s = true) : ∃ a, t.eval args s none [] s = some (.ref a) := by
  obtain ⟨a2, c, cA, kA, q1, -⟩ := Cond.exactly_spec (args := args) (first := s) (o := none) (s := s) (idx := []) (t := t) (cls := nm) h
  exact ⟨a2, q1⟩
def st_k (a0 a1 a2 a3 a4 a5 : Nat) (ad : Nat → Nat) : Nat → Nat := fun j => if j < 16 then (match j with | 0 => a0 | 1 => a1 | 2 => a2 | 3 => a3 | 4 => a4 | _ => a5) else ad (j - 16)
theorem st_k16 {a0 a1 a2 a3 a4 a5 : Nat} {ad : Nat → Nat} (j : Nat) : st_k a0 a1 a2 a3 a4 a5 ad (16 + j) = ad j := by
  unfold st_k
  rw [if_neg (by omega), Nat.add_sub_cancel_left]
/-- what the pure side knows of the constants' addresses -/
def kOk (z : Nat) (k : Nat → Nat) : Prop := (k 0 ≠ k 1 ∧ k 0 ≠ k 2 ∧ k 1 ≠ k 2) ∧ (k 0 < z ∧ k 1 < z ∧ k 2 < z ∧ k 3 < z ∧ k 5 < z) ∧ (∀ j, j < 256 → k (16 + j) < z) ∧ (∀ i j, i < 256 → j < 256 → k (16 + i) = k (16 + j) → i = j)
