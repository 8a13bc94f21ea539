/-! ROWS: branches; the pure programs' words (p..) and the machine's rows that follow them -/
set_option maxRecDepth 100000
section pDefs
variable {β : Type}
/-- the object at r, of class ci -/
def pO (M : jW) (r : Option Nat) (ci : Nat) (K : Nat → List Value → Option β) : Option β := match r with
  | none => none
  | some a => match M.1 a with
    | some (.inr (c, fs)) => if c = ci then K a fs else none
    | _ => none
def pI (M : jW) (r : Option Nat) (ci k : Nat) (K : Int32 → Option β) : Option β := pO M r ci fun _ fs => match fs[k]? with
  | some (.int v) => K v
  | _ => none
def pL (M : jW) (r : Option Nat) (ci k : Nat) (K : Int64 → Option β) : Option β := pO M r ci fun _ fs => match fs[k]? with
  | some (.long v) => K v
  | _ => none
def pR (M : jW) (r : Option Nat) (ci k : Nat) (K : Option Nat → Option β) : Option β := pO M r ci fun _ fs => match fs[k]? with
  | some (.ref a) => K (some a)
  | some .null => K none
  | _ => none
/-- a field is written -/
def pP (M : jW) (r : Option Nat) (ci k : Nat) (v : jV) (K : jW → Option β) : Option β := pO M r ci fun a fs => if k < fs.length then K (jU M a (.inr (ci, fs.set k (jv v)))) else none
/-- a field of booleans is written -/
def pPZ (M : jW) (r : Option Nat) (ci k : Nat) (v : Int32) (K : jW → Option β) : Option β := if v = 0 ∨ v = 1 then pP M r ci k (jI v) K else none
def pN (M : jW) (ci : Nat) (fs : List Value) (K : Nat → jW → Option β) : Option β := K M.2.1 (jN M (.inr (ci, fs)))
/-- the array at r, of the kind t -/
def pA (M : jW) (r : Option Nat) (t : Nat) (K : Nat → vp_A → Option β) : Option β := match r with
  | none => none
  | some a => match M.1 a with
    | some (.inl (c, A)) => if c = t then K a A else none
    | _ => none
def jin (i : Int32) (n : Nat) : Bool := !(decide (i < 0)) && decide (i.toNatClampNeg < n)
theorem jin_vp {i : Int32} {n : Nat} (h : jin i n = true) : vp_in i n := by
  unfold jin at h
  simp only [Bool.and_eq_true, Bool.not_eq_true', decide_eq_false_iff_not, decide_eq_true_eq] at h
  intro q
  rcases q with q | q
  · exact h.1 q
  · omega
def pAI (M : jW) (r : Option Nat) (t : Nat) (i : Int32) (K : Int32 → Option β) : Option β := pA M r t fun _ A => match A with
  | (n, .inl f) => if jin i n = true then K (f i.toNatClampNeg) else none
  | _ => none
def pAL (M : jW) (r : Option Nat) (t : Nat) (i : Int32) (K : Int64 → Option β) : Option β := pA M r t fun _ A => match A with
  | (n, .inr (.inl f)) => if jin i n = true then K (f i.toNatClampNeg) else none
  | _ => none
def pAR (M : jW) (r : Option Nat) (t : Nat) (i : Int32) (K : Option Nat → Option β) : Option β := pA M r t fun _ A => match A with
  | (n, .inr (.inr (.inr (.inr f)))) => if jin i n = true then K (f i.toNatClampNeg) else none
  | _ => none
def pSI (M : jW) (r : Option Nat) (i v : Int32) (K : jW → Option β) : Option β := pA M r 0 fun a A => match A with
  | (n, .inl f) => if jin i n = true then K (jU M a (.inl (0, (n, .inl (upd f i.toNatClampNeg v))))) else none
  | _ => none
def pSZ (M : jW) (r : Option Nat) (i v : Int32) (K : jW → Option β) : Option β := pA M r 1 fun a A => match A with
  | (n, .inl f) => if jin i n = true then K (jU M a (.inl (1, (n, .inl (upd f i.toNatClampNeg (vp_nar .boolean v)))))) else none
  | _ => none
def pSL (M : jW) (r : Option Nat) (i : Int32) (v : Int64) (K : jW → Option β) : Option β := pA M r 2 fun a A => match A with
  | (n, .inr (.inl f)) => if jin i n = true then K (jU M a (.inl (2, (n, .inr (.inl (vp_updL f i.toNatClampNeg v)))))) else none
  | _ => none
/-- one of the cache's boxes -/
def jbx (M : jW) (b : Nat) : Bool := (List.range 256).any fun j => b == M.2.2 (16 + j)
/-- what may lie in an array of the kind t -/
def jel (M : jW) (t : Nat) (v : Option Nat) : Bool := match v with
  | none => true
  | some b => match M.1 b with
    | some (.inr (c, _)) => (t == 3 && (c == 2 || c == 3 || c == 4 || c == 5 || c == 7)) || (t == 4 && c == 2) || (t == 5 && c == 8)
    | some (.inl (c, _)) => t == 3 && c == 0
    | none => t == 3 && jbx M b
def pSR (M : jW) (r : Option Nat) (t : Nat) (i : Int32) (v : Option Nat) (K : jW → Option β) : Option β := pA M r t fun a A => match A with
  | (n, .inr (.inr (.inr (.inr f)))) => if jin i n = true ∧ jel M t v = true then K (jU M a (.inl (t, (n, .inr (.inr (.inr (.inr (va_up f i.toNatClampNeg v)))))))) else none
  | _ => none
/-- an array's length; of the one empty constant too -/
def pLen (M : jW) (r : Option Nat) (K : Int32 → Option β) : Option β := match r with
  | none => none
  | some a => if a = M.2.2 3 then K 0 else match M.1 a with
    | some (.inl (t, A)) => if t < 6 then K (Int32.ofNat A.1) else none
    | _ => none
/-- a new array of the kind t, of at most nb cells -/
def pNA (M : jW) (t nb : Nat) (n : Int32) (K : Nat → jW → Option β) : Option β := if n < 0 then none else if nb < n.toNatClampNeg then none else match t with
  | 0 => K M.2.1 (jN M (.inl (0, (n.toNatClampNeg, .inl fun _ => 0))))
  | 1 => K M.2.1 (jN M (.inl (1, (n.toNatClampNeg, .inl fun _ => 0))))
  | 2 => K M.2.1 (jN M (.inl (2, (n.toNatClampNeg, .inr (.inl fun _ => 0)))))
  | t => K M.2.1 (jN M (.inl (t, (n.toNatClampNeg, .inr (.inr (.inr (.inr fun _ => none)))))))
/-- null or not -/
def pZ (r : Option Nat) (A B : Option β) : Option β := match r with
  | none => A
  | some _ => B
/-- a call's answer -/
def pB {α : Type} (o : Option (α × jW)) (K : α → jW → Option β) : Option β := match o with
  | none => none
  | some (a, M) => K a M
/-- a call's answer, or what it throws (by its number) -/
def pX {α γ : Type} (o : Option ((α ⊕ Nat) × jW)) (K : α → jW → Option ((γ ⊕ Nat) × jW)) : Option ((γ ⊕ Nat) × jW) := match o with
  | none => none
  | some (.inl a, M) => K a M
  | some (.inr e, M) => some (.inr e, M)
end pDefs
section pSpecs
variable {β : Type} {M : jW} {r : Option Nat} {ci k t : Nat} {out : β}
theorem pO_spec {K : Nat → List Value → Option β} (h : pO M r ci K = some out) : ∃ a fs, r = some a ∧ M.1 a = some (.inr (ci, fs)) ∧ K a fs = some out := by
  unfold pO at h
  cases r with
  | none => cases h
  | some a =>
    dsimp only at h
    split at h
    · rename_i c fs e
      by_cases hc : c = ci
      · rw [if_pos hc] at h
        subst hc
        exact ⟨a, fs, rfl, e, h⟩
      · rw [if_neg hc] at h; cases h
    · cases h
theorem pI_spec {K : Int32 → Option β} (h : pI M r ci k K = some out) : ∃ a fs v, r = some a ∧ M.1 a = some (.inr (ci, fs)) ∧ fs[k]? = some (.int v) ∧ K v = some out := by
  obtain ⟨a, fs, h1, h2, h3⟩ := pO_spec h
  split at h3
  · rename_i v e
    exact ⟨a, fs, v, h1, h2, e, h3⟩
  · cases h3
theorem pL_spec {K : Int64 → Option β} (h : pL M r ci k K = some out) : ∃ a fs v, r = some a ∧ M.1 a = some (.inr (ci, fs)) ∧ fs[k]? = some (.long v) ∧ K v = some out := by
  obtain ⟨a, fs, h1, h2, h3⟩ := pO_spec h
  split at h3
  · rename_i v e
    exact ⟨a, fs, v, h1, h2, e, h3⟩
  · cases h3
theorem pR_spec {K : Option Nat → Option β} (h : pR M r ci k K = some out) : ∃ a fs v, r = some a ∧ M.1 a = some (.inr (ci, fs)) ∧ fs[k]? = some (va_rf v) ∧ K v = some out := by
  obtain ⟨a, fs, h1, h2, h3⟩ := pO_spec h
  split at h3
  · rename_i v e
    exact ⟨a, fs, some v, h1, h2, e, h3⟩
  · rename_i e
    exact ⟨a, fs, none, h1, h2, e, h3⟩
  · cases h3
theorem pP_spec {v : jV} {K : jW → Option β} (h : pP M r ci k v K = some out) : ∃ a fs, r = some a ∧ M.1 a = some (.inr (ci, fs)) ∧ k < fs.length ∧ K (jU M a (.inr (ci, fs.set k (jv v)))) = some out := by
  obtain ⟨a, fs, h1, h2, h3⟩ := pO_spec h
  by_cases hk : k < fs.length
  · rw [if_pos hk] at h3
    exact ⟨a, fs, h1, h2, hk, h3⟩
  · rw [if_neg hk] at h3; cases h3
theorem pA_spec {K : Nat → vp_A → Option β} (h : pA M r t K = some out) : ∃ a A, r = some a ∧ M.1 a = some (.inl (t, A)) ∧ K a A = some out := by
  unfold pA at h
  cases r with
  | none => cases h
  | some a =>
    dsimp only at h
    split at h
    · rename_i c A e
      by_cases hc : c = t
      · rw [if_pos hc] at h
        subst hc
        exact ⟨a, A, rfl, e, h⟩
      · rw [if_neg hc] at h; cases h
    · cases h
theorem pAI_spec {i : Int32} {K : Int32 → Option β} (h : pAI M r t i K = some out) : ∃ a n f, r = some a ∧ M.1 a = some (.inl (t, (n, .inl f))) ∧ vp_in i n ∧ K (f i.toNatClampNeg) = some out := by
  obtain ⟨a, A, h1, h2, h3⟩ := pA_spec h
  split at h3
  · rename_i n f
    by_cases hi : jin i n = true
    · rw [if_pos hi] at h3
      exact ⟨a, n, f, h1, h2, jin_vp hi, h3⟩
    · rw [if_neg hi] at h3; cases h3
  · cases h3
theorem pAL_spec {i : Int32} {K : Int64 → Option β} (h : pAL M r t i K = some out) : ∃ a n f, r = some a ∧ M.1 a = some (.inl (t, (n, .inr (.inl f)))) ∧ vp_in i n ∧ K (f i.toNatClampNeg) = some out := by
  obtain ⟨a, A, h1, h2, h3⟩ := pA_spec h
  split at h3
  · rename_i n f
    by_cases hi : jin i n = true
    · rw [if_pos hi] at h3
      exact ⟨a, n, f, h1, h2, jin_vp hi, h3⟩
    · rw [if_neg hi] at h3; cases h3
  · cases h3
theorem pAR_spec {i : Int32} {K : Option Nat → Option β} (h : pAR M r t i K = some out) : ∃ a n f, r = some a ∧ M.1 a = some (.inl (t, (n, .inr (.inr (.inr (.inr f)))))) ∧ vp_in i n ∧ K (f i.toNatClampNeg) = some out := by
  obtain ⟨a, A, h1, h2, h3⟩ := pA_spec h
  split at h3
  · rename_i n f
    by_cases hi : jin i n = true
    · rw [if_pos hi] at h3
      exact ⟨a, n, f, h1, h2, jin_vp hi, h3⟩
    · rw [if_neg hi] at h3; cases h3
  · cases h3
theorem pSI_spec {i v : Int32} {K : jW → Option β} (h : pSI M r i v K = some out) : ∃ a n f, r = some a ∧ M.1 a = some (.inl (0, (n, .inl f))) ∧ vp_in i n ∧ K (jU M a (.inl (0, (n, .inl (upd f i.toNatClampNeg v))))) = some out := by
  obtain ⟨a, A, h1, h2, h3⟩ := pA_spec h
  split at h3
  · rename_i n f
    by_cases hi : jin i n = true
    · rw [if_pos hi] at h3
      exact ⟨a, n, f, h1, h2, jin_vp hi, h3⟩
    · rw [if_neg hi] at h3; cases h3
  · cases h3
theorem pSZ_spec {i v : Int32} {K : jW → Option β} (h : pSZ M r i v K = some out) : ∃ a n f, r = some a ∧ M.1 a = some (.inl (1, (n, .inl f))) ∧ vp_in i n ∧ K (jU M a (.inl (1, (n, .inl (upd f i.toNatClampNeg (vp_nar .boolean v)))))) = some out := by
  obtain ⟨a, A, h1, h2, h3⟩ := pA_spec h
  split at h3
  · rename_i n f
    by_cases hi : jin i n = true
    · rw [if_pos hi] at h3
      exact ⟨a, n, f, h1, h2, jin_vp hi, h3⟩
    · rw [if_neg hi] at h3; cases h3
  · cases h3
theorem pSL_spec {i : Int32} {v : Int64} {K : jW → Option β} (h : pSL M r i v K = some out) : ∃ a n f, r = some a ∧ M.1 a = some (.inl (2, (n, .inr (.inl f)))) ∧ vp_in i n ∧ K (jU M a (.inl (2, (n, .inr (.inl (vp_updL f i.toNatClampNeg v)))))) = some out := by
  obtain ⟨a, A, h1, h2, h3⟩ := pA_spec h
  split at h3
  · rename_i n f
    by_cases hi : jin i n = true
    · rw [if_pos hi] at h3
      exact ⟨a, n, f, h1, h2, jin_vp hi, h3⟩
    · rw [if_neg hi] at h3; cases h3
  · cases h3
theorem pSR_spec {i : Int32} {v : Option Nat} {K : jW → Option β} (h : pSR M r t i v K = some out) : ∃ a n f, r = some a ∧ M.1 a = some (.inl (t, (n, .inr (.inr (.inr (.inr f)))))) ∧ vp_in i n ∧ jel M t v = true ∧ K (jU M a (.inl (t, (n, .inr (.inr (.inr (.inr (va_up f i.toNatClampNeg v)))))))) = some out := by
  obtain ⟨a, A, h1, h2, h3⟩ := pA_spec h
  split at h3
  · rename_i n f
    by_cases hi : jin i n = true ∧ jel M t v = true
    · rw [if_pos hi] at h3
      exact ⟨a, n, f, h1, h2, jin_vp hi.1, hi.2, h3⟩
    · rw [if_neg hi] at h3; cases h3
  · cases h3
theorem pB_spec {α : Type} {o : Option (α × jW)} {K : α → jW → Option β} (h : pB o K = some out) : ∃ a M', o = some (a, M') ∧ K a M' = some out := by
  unfold pB at h
  split at h
  · cases h
  · rename_i a M'
    exact ⟨a, M', rfl, h⟩
theorem pX_spec {α γ : Type} {o : Option ((α ⊕ Nat) × jW)} {K : α → jW → Option ((γ ⊕ Nat) × jW)} {out : (γ ⊕ Nat) × jW} (h : pX o K = some out) : (∃ a M', o = some (.inl a, M') ∧ K a M' = some out) ∨ ∃ e M', o = some (.inr e, M') ∧ out = (.inr e, M') := by
  unfold pX at h
  split at h
  · cases h
  · rename_i a M'
    exact Or.inl ⟨a, M', rfl, h⟩
  · rename_i e M'
    cases h
    exact Or.inr ⟨e, M', rfl, rfl⟩
end pSpecs
section jRows2
variable {x : jX} {cc : ByteArray} {own : String} {rm : Room} {rt : Option FieldType} {pc : Nat} {L L' : List (Nat × jV)} {st : List jV} {M : jW} {k n : Nat} {β : Type} {out : β}
/-! branches -/
theorem jj_brA {c : Prop} [Decidable c] {A B : Option β} {P Q : Prop} (hF : (if c then A else B) = some out) (hA : A = some out → P) (hB : B = some out → Q) : (c → P) ∧ (¬ c → Q) := ⟨fun h => hA (by rw [if_pos h] at hF; exact hF), fun h => hB (by rw [if_neg h] at hF; exact hF)⟩
theorem jj_if_eq (C : jOk x cc own rm rt) {a : Int32} {off : Int} {tgt : Nat} {A B : Option β} (d : decode cc pc = .ok (.ifCond .eq off, 3)) (ht : (pc : Int) + off = (tgt : Int)) (hF : (if a = 0 then A else B) = some out) (hA : A = some out → jJ x tgt L st M k n) (hB : B = some out → jJ x (pc + 3) L st M k n) : jJ x pc L (jI a :: st) M k n := fun H locs ls hM hS hl => lv_if_eq C.ex C.cb d ht (fun c => (jj_brA hF hA hB).1 c H locs ls hM hS hl) (fun c => (jj_brA hF hA hB).2 c H locs ls hM hS hl)
theorem jj_if_ne (C : jOk x cc own rm rt) {a : Int32} {off : Int} {tgt : Nat} {A B : Option β} (d : decode cc pc = .ok (.ifCond .ne off, 3)) (ht : (pc : Int) + off = (tgt : Int)) (hF : (if a = 0 then B else A) = some out) (hA : A = some out → jJ x tgt L st M k n) (hB : B = some out → jJ x (pc + 3) L st M k n) : jJ x pc L (jI a :: st) M k n := fun H locs ls hM hS hl => lv_if_ne C.ex C.cb d ht (fun c => (jj_brA hF hB hA).2 c H locs ls hM hS hl) (fun c => (jj_brA hF hB hA).1 c H locs ls hM hS hl)
theorem jj_if_lt (C : jOk x cc own rm rt) {a : Int32} {off : Int} {tgt : Nat} {A B : Option β} (d : decode cc pc = .ok (.ifCond .lt off, 3)) (ht : (pc : Int) + off = (tgt : Int)) (hF : (if a < 0 then A else B) = some out) (hA : A = some out → jJ x tgt L st M k n) (hB : B = some out → jJ x (pc + 3) L st M k n) : jJ x pc L (jI a :: st) M k n := fun H locs ls hM hS hl => lv_if_lt C.ex C.cb d ht (fun c => (jj_brA hF hA hB).1 c H locs ls hM hS hl) (fun c => (jj_brA hF hA hB).2 c H locs ls hM hS hl)
theorem jj_if_ge (C : jOk x cc own rm rt) {a : Int32} {off : Int} {tgt : Nat} {A B : Option β} (d : decode cc pc = .ok (.ifCond .ge off, 3)) (ht : (pc : Int) + off = (tgt : Int)) (hF : (if 0 ≤ a then A else B) = some out) (hA : A = some out → jJ x tgt L st M k n) (hB : B = some out → jJ x (pc + 3) L st M k n) : jJ x pc L (jI a :: st) M k n := fun H locs ls hM hS hl => lv_if_ge C.ex C.cb d ht (fun c => (jj_brA hF hA hB).1 c H locs ls hM hS hl) (fun c => (jj_brA hF hA hB).2 c H locs ls hM hS hl)
theorem jj_if_gt (C : jOk x cc own rm rt) {a : Int32} {off : Int} {tgt : Nat} {A B : Option β} (d : decode cc pc = .ok (.ifCond .gt off, 3)) (ht : (pc : Int) + off = (tgt : Int)) (hF : (if 0 < a then A else B) = some out) (hA : A = some out → jJ x tgt L st M k n) (hB : B = some out → jJ x (pc + 3) L st M k n) : jJ x pc L (jI a :: st) M k n := fun H locs ls hM hS hl => lv_if_gt C.ex C.cb d ht (fun c => (jj_brA hF hA hB).1 c H locs ls hM hS hl) (fun c => (jj_brA hF hA hB).2 c H locs ls hM hS hl)
theorem jj_if_le (C : jOk x cc own rm rt) {a : Int32} {off : Int} {tgt : Nat} {A B : Option β} (d : decode cc pc = .ok (.ifCond .le off, 3)) (ht : (pc : Int) + off = (tgt : Int)) (hF : (if a ≤ 0 then A else B) = some out) (hA : A = some out → jJ x tgt L st M k n) (hB : B = some out → jJ x (pc + 3) L st M k n) : jJ x pc L (jI a :: st) M k n := fun H locs ls hM hS hl => lv_if_le C.ex C.cb d ht (fun c => (jj_brA hF hA hB).1 c H locs ls hM hS hl) (fun c => (jj_brA hF hA hB).2 c H locs ls hM hS hl)
theorem jj_icmp_eq (C : jOk x cc own rm rt) {a b : Int32} {off : Int} {tgt : Nat} {A B : Option β} (d : decode cc pc = .ok (.if_icmp .eq off, 3)) (ht : (pc : Int) + off = (tgt : Int)) (hF : (if a = b then A else B) = some out) (hA : A = some out → jJ x tgt L st M k n) (hB : B = some out → jJ x (pc + 3) L st M k n) : jJ x pc L (jI b :: jI a :: st) M k n := fun H locs ls hM hS hl => lv_icmp_eq C.ex C.cb d ht (fun c => (jj_brA hF hA hB).1 c H locs ls hM hS hl) (fun c => (jj_brA hF hA hB).2 c H locs ls hM hS hl)
theorem jj_icmp_ne (C : jOk x cc own rm rt) {a b : Int32} {off : Int} {tgt : Nat} {A B : Option β} (d : decode cc pc = .ok (.if_icmp .ne off, 3)) (ht : (pc : Int) + off = (tgt : Int)) (hF : (if a = b then B else A) = some out) (hA : A = some out → jJ x tgt L st M k n) (hB : B = some out → jJ x (pc + 3) L st M k n) : jJ x pc L (jI b :: jI a :: st) M k n := fun H locs ls hM hS hl => lv_icmp_ne C.ex C.cb d ht (fun c => (jj_brA hF hB hA).2 c H locs ls hM hS hl) (fun c => (jj_brA hF hB hA).1 c H locs ls hM hS hl)
theorem jj_icmp_lt (C : jOk x cc own rm rt) {a b : Int32} {off : Int} {tgt : Nat} {A B : Option β} (d : decode cc pc = .ok (.if_icmp .lt off, 3)) (ht : (pc : Int) + off = (tgt : Int)) (hF : (if a < b then A else B) = some out) (hA : A = some out → jJ x tgt L st M k n) (hB : B = some out → jJ x (pc + 3) L st M k n) : jJ x pc L (jI b :: jI a :: st) M k n := fun H locs ls hM hS hl => lv_icmp_lt C.ex C.cb d ht (fun c => (jj_brA hF hA hB).1 c H locs ls hM hS hl) (fun c => (jj_brA hF hA hB).2 c H locs ls hM hS hl)
theorem jj_icmp_ge (C : jOk x cc own rm rt) {a b : Int32} {off : Int} {tgt : Nat} {A B : Option β} (d : decode cc pc = .ok (.if_icmp .ge off, 3)) (ht : (pc : Int) + off = (tgt : Int)) (hF : (if b ≤ a then A else B) = some out) (hA : A = some out → jJ x tgt L st M k n) (hB : B = some out → jJ x (pc + 3) L st M k n) : jJ x pc L (jI b :: jI a :: st) M k n := fun H locs ls hM hS hl => lv_icmp_ge C.ex C.cb d ht (fun c => (jj_brA hF hA hB).1 c H locs ls hM hS hl) (fun c => (jj_brA hF hA hB).2 c H locs ls hM hS hl)
theorem jj_icmp_gt (C : jOk x cc own rm rt) {a b : Int32} {off : Int} {tgt : Nat} {A B : Option β} (d : decode cc pc = .ok (.if_icmp .gt off, 3)) (ht : (pc : Int) + off = (tgt : Int)) (hF : (if b < a then A else B) = some out) (hA : A = some out → jJ x tgt L st M k n) (hB : B = some out → jJ x (pc + 3) L st M k n) : jJ x pc L (jI b :: jI a :: st) M k n := fun H locs ls hM hS hl => lv_icmp_gt C.ex C.cb d ht (fun c => (jj_brA hF hA hB).1 c H locs ls hM hS hl) (fun c => (jj_brA hF hA hB).2 c H locs ls hM hS hl)
theorem jj_icmp_le (C : jOk x cc own rm rt) {a b : Int32} {off : Int} {tgt : Nat} {A B : Option β} (d : decode cc pc = .ok (.if_icmp .le off, 3)) (ht : (pc : Int) + off = (tgt : Int)) (hF : (if a ≤ b then A else B) = some out) (hA : A = some out → jJ x tgt L st M k n) (hB : B = some out → jJ x (pc + 3) L st M k n) : jJ x pc L (jI b :: jI a :: st) M k n := fun H locs ls hM hS hl => lv_icmp_le C.ex C.cb d ht (fun c => (jj_brA hF hA hB).1 c H locs ls hM hS hl) (fun c => (jj_brA hF hA hB).2 c H locs ls hM hS hl)
theorem jj_acmp_eq (C : jOk x cc own rm rt) {a b : Option Nat} {off : Int} {tgt : Nat} {A B : Option β} (d : decode cc pc = .ok (.if_acmp .eq off, 3)) (ht : (pc : Int) + off = (tgt : Int)) (hF : (if a = b then A else B) = some out) (hA : A = some out → jJ x tgt L st M k n) (hB : B = some out → jJ x (pc + 3) L st M k n) : jJ x pc L (jR b :: jR a :: st) M k n := fun H locs ls hM hS hl => lv_acmp_eq C.ex C.cb d ht (fun c => (jj_brA hF hA hB).1 c H locs ls hM hS hl) (fun c => (jj_brA hF hA hB).2 c H locs ls hM hS hl)
theorem jj_acmp_ne (C : jOk x cc own rm rt) {a b : Option Nat} {off : Int} {tgt : Nat} {A B : Option β} (d : decode cc pc = .ok (.if_acmp .ne off, 3)) (ht : (pc : Int) + off = (tgt : Int)) (hF : (if a = b then B else A) = some out) (hA : A = some out → jJ x tgt L st M k n) (hB : B = some out → jJ x (pc + 3) L st M k n) : jJ x pc L (jR b :: jR a :: st) M k n := fun H locs ls hM hS hl => lv_acmp_ne C.ex C.cb d ht (fun c => (jj_brA hF hB hA).2 c H locs ls hM hS hl) (fun c => (jj_brA hF hB hA).1 c H locs ls hM hS hl)
theorem jj_ifnull (C : jOk x cc own rm rt) {a : Option Nat} {off : Int} {tgt : Nat} {A B : Option β} (d : decode cc pc = .ok (.ifnull off, 3)) (ht : (pc : Int) + off = (tgt : Int)) (hF : pZ a A B = some out) (hA : A = some out → jJ x tgt L st M k n) (hB : B = some out → jJ x (pc + 3) L st M k n) : jJ x pc L (jR a :: st) M k n := fun H locs ls hM hS hl => by
  cases a with
  | none => exact lv_ifnullN C.ex C.cb d ht (hA hF H locs ls hM hS hl)
  | some q => exact lv_ifnull C.ex C.cb d (hB hF H locs ls hM hS hl)
theorem jj_ifnonnull (C : jOk x cc own rm rt) {a : Option Nat} {off : Int} {tgt : Nat} {A B : Option β} (d : decode cc pc = .ok (.ifnonnull off, 3)) (ht : (pc : Int) + off = (tgt : Int)) (hF : pZ a B A = some out) (hA : A = some out → jJ x tgt L st M k n) (hB : B = some out → jJ x (pc + 3) L st M k n) : jJ x pc L (jR a :: st) M k n := fun H locs ls hM hS hl => by
  cases a with
  | none => exact lv_ifnonnullN C.ex C.cb d (hB hF H locs ls hM hS hl)
  | some q => exact lv_ifnonnull C.ex C.cb d ht (hA hF H locs ls hM hS hl)
/-! fields -/
/-- a class of ours, by its number -/
abbrev jCs (ci : Nat) (Cn : String) (T : u_T) (N : Nat) (ty : Nat → FieldType) : Prop := (∀ w ∈ u_ws Cn T N, w ∈ lw_all) ∧ jCl[ci]? = some (Cn, T, N) ∧ (∀ j, j < N → parseFieldDescriptor (T j).2.2.1 = some (ty j)) ∧ ∀ a, a < N → ∀ b, b < N → a ≠ b → (T a).2.1 ≠ (T b).2.1
/-- how an instruction names a field: by an entry of its class's file, or of a nest mate's -/
abbrev jLk (x : jX) (own ref : String) (T : u_T) (ix f : Nat) : Prop := ((Cond.fieldLink own ix ref (T f).2.1 (T f).2.2.1).before (xa x) (xs x) = true ∨ ∃ host, (Cond.fieldLinkNest own ix ref (T f).2.1 (T f).2.2.1 host).before (xa x) (xs x) = true) ∧ ∀ y, (xs x).fieldFound? (T f).1 (T f).2.1 (T f).2.2.1 = some y → (xs x).fieldFound? ref (T f).2.1 (T f).2.2.1 = some y
theorem jLk.of (C : jOk x cc own rm rt) {ref : String} {T : u_T} {ix f : Nat} (hw : Cond.fieldLink own ix ref (T f).2.1 (T f).2.2.1 ∈ lw_all) (hr : (T f).1 = ref) : jLk x own ref T ix f := ⟨Or.inl (C.ts _ hw), fun y h => by rw [hr] at h; exact h⟩
theorem jLk.nest (C : jOk x cc own rm rt) {ref host : String} {T : u_T} {ix f : Nat} (hw : Cond.fieldLinkNest own ix ref (T f).2.1 (T f).2.2.1 host ∈ lw_tbl) (hr : (T f).1 = ref) : jLk x own ref T ix f := ⟨Or.inr ⟨host, va_Nw.use rfl (C.nw hw rfl)⟩, fun y h => by rw [hr] at h; exact h⟩
theorem jj_gV (C : jOk x cc own rm rt) {ci N f ix : Nat} {Cn ref : String} {T : u_T} {ty : Nat → FieldType} (S : jCs ci Cn T N ty) (hf : f < N) (hk : jLk x own ref T ix f) (d : decode cc pc = .ok (.getfield ix, 3)) {a : Nat} {fs : List Value} {v : jV} (ha : M.1 a = some (.inr (ci, fs))) (hv : fs[f]? = some (jv v)) (h : jJ x (pc + 3) L (v :: st) M k n) : jJ x pc L (jR (some a) :: st) M k n := fun H locs ls hM hS hl => by
  obtain ⟨hk1 | ⟨host, hk1⟩, hk2⟩ := hk
  · exact va_get C.ex C.cb C.ts S.1 C.ow C.K (hM.P ha) 0 rfl S.2.1 f hf hk1 hk2 hv d (h H locs ls hM hS hl)
  · exact va_getN C.ex C.cb C.ts S.1 C.ow C.K (hM.P ha) 0 rfl S.2.1 f hf hk1 hk2 hv d (h H locs ls hM hS hl)
theorem jj_pI (C : jOk x cc own rm rt) {ci N f ix : Nat} {Cn ref : String} {T : u_T} {ty : Nat → FieldType} (S : jCs ci Cn T N ty) (hf : f < N) (hk : jLk x own ref T ix f) (d : decode cc pc = .ok (.getfield ix, 3)) {r : Option Nat} {K : Int32 → Option β} (hF : pI M r ci f K = some out) (h : ∀ v, K v = some out → jJ x (pc + 3) L (jI v :: st) M k n) : jJ x pc L (jR r :: st) M k n := by
  obtain ⟨a, fs, v, rfl, h2, h3, h4⟩ := pI_spec hF
  exact jj_gV (v := jI v) C S hf hk d h2 h3 (h v h4)
theorem jj_pL (C : jOk x cc own rm rt) {ci N f ix : Nat} {Cn ref : String} {T : u_T} {ty : Nat → FieldType} (S : jCs ci Cn T N ty) (hf : f < N) (hk : jLk x own ref T ix f) (d : decode cc pc = .ok (.getfield ix, 3)) {r : Option Nat} {K : Int64 → Option β} (hF : pL M r ci f K = some out) (h : ∀ v, K v = some out → jJ x (pc + 3) L (jL v :: st) M k n) : jJ x pc L (jR r :: st) M k n := by
  obtain ⟨a, fs, v, rfl, h2, h3, h4⟩ := pL_spec hF
  exact jj_gV (v := jL v) C S hf hk d h2 h3 (h v h4)
theorem jj_pR (C : jOk x cc own rm rt) {ci N f ix : Nat} {Cn ref : String} {T : u_T} {ty : Nat → FieldType} (S : jCs ci Cn T N ty) (hf : f < N) (hk : jLk x own ref T ix f) (d : decode cc pc = .ok (.getfield ix, 3)) {r : Option Nat} {K : Option Nat → Option β} (hF : pR M r ci f K = some out) (h : ∀ v, K v = some out → jJ x (pc + 3) L (jR v :: st) M k n) : jJ x pc L (jR r :: st) M k n := by
  obtain ⟨a, fs, v, rfl, h2, h3, h4⟩ := pR_spec hF
  exact jj_gV (v := jR v) C S hf hk d h2 h3 (h v h4)
/-- a value's type is its field's -/
def jfit (ty : FieldType) (v : jV) : Prop := narrow ty (jv v) = jv v ∧ fits ty (jv v) = true
theorem jfit_i (v : Int32) : jfit .int (jI v) := ⟨rfl, rfl⟩
theorem jfit_l (v : Int64) : jfit .long (jL v) := ⟨rfl, rfl⟩
theorem jfit_o (nm : String) (v : Option Nat) : jfit (.object nm) (jR v) := by cases v <;> exact ⟨rfl, rfl⟩
theorem jfit_a (t : FieldType) (v : Option Nat) : jfit (.array t) (jR v) := by cases v <;> exact ⟨rfl, rfl⟩
theorem jfit_z {v : Int32} (h : v = 0 ∨ v = 1) : jfit .boolean (jI v) := by
  rcases h with rfl | rfl
  · exact ⟨by decide, by decide⟩
  · exact ⟨by decide, by decide⟩
/-- may this class write the field: not final, or in the constructor of its class -/
abbrev jWr (x : jX) (own : String) (T : u_T) (f : Nat) : Prop := (T f).2.2.2 = false ∨ ((T f).2.2.2 = true ∧ (xM x).name = "<init>" ∧ (T f).1 = own)
theorem jj_pV (C : jOk x cc own rm rt) {ci N f ix : Nat} {Cn ref : String} {T : u_T} {ty : Nat → FieldType} (S : jCs ci Cn T N ty) (hf : f < N) (hk : jLk x own ref T ix f) (hw : jWr x own T f) (d : decode cc pc = .ok (.putfield ix, 3)) {a : Nat} {fs : List Value} {v : jV} (hfit : jfit (ty f) v) (ha : M.1 a = some (.inr (ci, fs))) (hl0 : f < fs.length) (h : jJ x (pc + 3) L st (jU M a (.inr (ci, fs.set f (jv v)))) k n) : jJ x pc L (v :: jR (some a) :: st) M k n := fun H locs ls hM hS hl => by
  have hap := va_apart (own := own) C.ts S.1 ty S.2.2.1 S.2.2.2 C.K S.2.1
  obtain ⟨r, h1, cell, q1, q2, q3, q4⟩ := hM.at ha
  have hr : r = (Cn, T, N) := Option.some.inj (h1.symm.trans S.2.1)
  subst hr
  obtain ⟨hSl, hfc, kC, hkC, hkind⟩ := C.K.1 ci _ S.2.1
  obtain ⟨cf, kf, fi, fd, hi, hsl⟩ := hSl f hf
  have hlay := C.ts _ (S.1 _ (u_in_lay hf))
  have hst := (u_facts hfc hkC (u_lays C.ts S.1 hf) hi).1
  have hd := S.2.2.1 f hf
  have key : ∀ H' : Heap, H'[a]? = some (cell.setSlot fd.slot (jv v)) → H'.size = H.size → (∀ q, q ≠ a → H'[q]? = H[q]?) → jHd (xg x) (jU M a (.inr (ci, fs.set f (jv v)))) H' := by
    intro H' e1 e2 e3
    rw [hsl] at e1
    exact hM.upd ha ⟨_, S.2.1, t_OB.to (V := updV (vp_V fs) f (jv v)) ⟨_, e1, q2, q3, t_set q4 hap hf (jv v)⟩ (fun j _ => vp_updV_set hl0 (jv v) j)⟩ e2 e3
  rcases hw with hfin | ⟨hfin, hin2, hdecl⟩
  · unfold u_lay at hlay
    rw [if_neg (by rw [hfin]; decide)] at hlay
    have h6 := u_store hfc hkC hkind hlay hi hd hfit.1 hfit.2
    obtain ⟨hk1 | ⟨host, hk1⟩, hk2⟩ := hk
    · refine W.putK C.ex C.cb (f := fd) ⟨C.ow, hk1, ⟨_, _, _, hk2 _ hi⟩, hst⟩ (by rw [q2]; exact h6) q1 q3 (by rw [hsl]; exact k2_hasslot (q4 f hf)) rfl rfl d fun H' e1 e2 e3 => ?_
      exact h H' _ ls (key H' e1 e2 e3) (hS.put e2 e3 (hM.1 a _ ha).1) hl
    · refine va_WputK C.ex C.cb (f := fd) C.ow hk1 (hk2 _ hi) hst (by rw [q2]; exact h6) q1 q3 (by rw [hsl]; exact k2_hasslot (q4 f hf)) rfl rfl d fun H' e1 e2 e3 => ?_
      exact h H' _ ls (key H' e1 e2 e3) (hS.put e2 e3 (hM.1 a _ ha).1) hl
  · unfold u_lay at hlay
    rw [if_pos hfin] at hlay
    have hcf : (xm x).cls = cf := by
      obtain ⟨_, _, c', _, _, _, -, -, hf', -, -, -, hown2, -⟩ := Cond.laysFinal_spec hlay
      have e1 : c' = cf := by have := hi.symm.trans hf'; simp at this; exact this.1.symm
      rw [hdecl] at hown2
      rw [← e1]; exact Option.some.inj (C.ow.symm.trans hown2)
    have h6 := u_fits hfc hkC hkind (Or.inr hlay) hi hd hfit.1 hfit.2
    obtain ⟨hk1 | ⟨host, hk1⟩, hk2⟩ := hk
    · refine W.putFinK C.ex C.cb C.ow hk1 (hk2 _ hi) hst hcf hin2 (by rw [q2]; exact h6) q1 q3 (by rw [hsl]; exact k2_hasslot (q4 f hf)) rfl rfl d fun H' e1 e2 e3 => ?_
      exact h H' _ ls (key H' e1 e2 e3) (hS.put e2 e3 (hM.1 a _ ha).1) hl
    · refine va_Wputf C.ex C.cb C.ow hk1 (hk2 _ hi) hst (Or.inr ⟨hcf, hin2⟩) q1 (by rw [q3]; exact fun h => by cases h) (by rw [hsl]; exact k2_hasslot (q4 f hf)) h6.1 (by rw [q2, q3]; exact h6.2) rfl rfl d ?_
      have hlt : a < H.size := (Array.getElem?_eq_some_iff.mp q1).1
      have e1 : (H.setIfInBounds a (cell.setSlot fd.slot (jv v)))[a]? = some (cell.setSlot fd.slot (jv v)) := by simp [Array.getElem?_setIfInBounds, hlt]
      have e2 : (H.setIfInBounds a (cell.setSlot fd.slot (jv v))).size = H.size := by simp
      have e3 : ∀ q, q ≠ a → (H.setIfInBounds a (cell.setSlot fd.slot (jv v)))[q]? = H[q]? := fun q hq => by simp [Array.getElem?_setIfInBounds, Ne.symm hq]
      exact h _ _ ls (key _ e1 e2 e3) (hS.put e2 e3 (hM.1 a _ ha).1) hl
theorem jj_pP (C : jOk x cc own rm rt) {ci N f ix : Nat} {Cn ref : String} {T : u_T} {ty : Nat → FieldType} (S : jCs ci Cn T N ty) (hf : f < N) (hk : jLk x own ref T ix f) (hw : jWr x own T f) (d : decode cc pc = .ok (.putfield ix, 3)) {r : Option Nat} {v : jV} (hfit : jfit (ty f) v) {K : jW → Option β} (hF : pP M r ci f v K = some out) (h : ∀ M', K M' = some out → jJ x (pc + 3) L st M' k n) : jJ x pc L (v :: jR r :: st) M k n := by
  obtain ⟨a, fs, rfl, h2, h3, h4⟩ := pP_spec hF
  exact jj_pV C S hf hk hw d hfit h2 h3 (h _ h4)
theorem jj_pPZ (C : jOk x cc own rm rt) {ci N f ix : Nat} {Cn ref : String} {T : u_T} {ty : Nat → FieldType} (S : jCs ci Cn T N ty) (hf : f < N) (hk : jLk x own ref T ix f) (hw : jWr x own T f) (d : decode cc pc = .ok (.putfield ix, 3)) {r : Option Nat} {v : Int32} (hty : ty f = .boolean) {K : jW → Option β} (hF : pPZ M r ci f v K = some out) (h : ∀ M', K M' = some out → jJ x (pc + 3) L st M' k n) : jJ x pc L (jI v :: jR r :: st) M k n := by
  unfold pPZ at hF
  by_cases hv : v = 0 ∨ v = 1
  · rw [if_pos hv] at hF
    exact jj_pP C S hf hk hw d (by rw [hty]; exact jfit_z hv) hF h
  · rw [if_neg hv] at hF; cases hF
/-! arrays -/
theorem jj_iald (C : jOk x cc own rm rt) {r : Option Nat} {i : Int32} {K : Int32 → Option β} (d : decode cc pc = .ok (.iaload, 1)) (hF : pAI M r 0 i K = some out) (h : ∀ v, K v = some out → jJ x (pc + 1) L (jI v :: st) M k n) : jJ x pc L (jI i :: jR r :: st) M k n := by
  obtain ⟨a, N, f, rfl, h2, h3, h4⟩ := pAI_spec hF
  exact fun H locs ls hM hS hl => va_iald C.ex C.cb C.K (hM.P h2) 0 0 rfl rfl h3 d (h _ h4 H locs ls hM hS hl)
theorem jj_zald (C : jOk x cc own rm rt) {r : Option Nat} {i : Int32} {K : Int32 → Option β} (d : decode cc pc = .ok (.baload, 1)) (hF : pAI M r 1 i K = some out) (h : ∀ v, K v = some out → jJ x (pc + 1) L (jI v :: st) M k n) : jJ x pc L (jI i :: jR r :: st) M k n := by
  obtain ⟨a, N, f, rfl, h2, h3, h4⟩ := pAI_spec hF
  exact fun H locs ls hM hS hl => va_zald C.ex C.cb C.K (hM.P h2) 0 1 rfl rfl h3 d (h _ h4 H locs ls hM hS hl)
theorem jj_lald (C : jOk x cc own rm rt) {r : Option Nat} {i : Int32} {K : Int64 → Option β} (d : decode cc pc = .ok (.laload, 1)) (hF : pAL M r 2 i K = some out) (h : ∀ v, K v = some out → jJ x (pc + 1) L (jL v :: st) M k n) : jJ x pc L (jI i :: jR r :: st) M k n := by
  obtain ⟨a, N, f, rfl, h2, h3, h4⟩ := pAL_spec hF
  exact fun H locs ls hM hS hl => va_lald C.ex C.cb C.K (hM.P h2) 0 2 rfl rfl h3 d (h _ h4 H locs ls hM hS hl)
theorem jj_aald (C : jOk x cc own rm rt) {t : Nat} {E : String} (ht : (jTy (xg x))[t]? = some (gA (xg x) t, .object E)) {r : Option Nat} {i : Int32} {K : Option Nat → Option β} (d : decode cc pc = .ok (.aaload, 1)) (hF : pAR M r t i K = some out) (h : ∀ v, K v = some out → jJ x (pc + 1) L (jR v :: st) M k n) : jJ x pc L (jI i :: jR r :: st) M k n := by
  obtain ⟨a, N, f, rfl, h2, h3, h4⟩ := pAR_spec hF
  exact fun H locs ls hM hS hl => va_aldq C.ex C.cb C.K (hM.P h2) 0 t rfl ht h3 d (h _ h4 H locs ls hM hS hl)
theorem jj_iast (C : jOk x cc own rm rt) {r : Option Nat} {i : Int32} {v : Int32} {K : jW → Option β} (d : decode cc pc = .ok (.iastore, 1)) (hF : pSI M r i v K = some out) (h : ∀ M', K M' = some out → jJ x (pc + 1) L st M' k n) : jJ x pc L (jI v :: jI i :: jR r :: st) M k n := by
  obtain ⟨a, N, f, rfl, h2, h3, h4⟩ := pSI_spec hF
  intro H locs ls hM hS hl
  refine W.iast C.ex C.cb (hM.at h2) ((C.K.2 0 _ rfl).1 N (fun j => .int (f j))) (fun q => by cases q) (by show ¬ (i < 0 ∨ (arrV _ _ _).slots.size ≤ _); rw [arrV_size]; exact h3) rfl rfl d fun H1 e z oq => ?_
  refine h _ h4 H1 _ ls (hM.upd h2 ?_ z oq) (hS.put z oq (hM.1 a _ h2).1) hl
  show H1[a]? = some (vp_cell _ _)
  rw [e]
  show some (Cell.setSlot (vp_cell (gA (xg x) 0) (N, .inl f)) _ _) = _
  rw [vp_cell_i, vp_cell_i, arrV_store]
  congr 2
  funext q
  by_cases hq : q = i.toNatClampNeg
  · subst hq
    simp [updV, upd]
    try rfl
  · simp [updV, upd, hq]
theorem jj_zast (C : jOk x cc own rm rt) {r : Option Nat} {i : Int32} {v : Int32} {K : jW → Option β} (d : decode cc pc = .ok (.bastore, 1)) (hF : pSZ M r i v K = some out) (h : ∀ M', K M' = some out → jJ x (pc + 1) L st M' k n) : jJ x pc L (jI v :: jI i :: jR r :: st) M k n := by
  obtain ⟨a, N, f, rfl, h2, h3, h4⟩ := pSZ_spec hF
  intro H locs ls hM hS hl
  refine W.zast C.ex C.cb (hM.at h2) ((C.K.2 1 _ rfl).1 N (fun j => .int (f j))) (fun q => by cases q) (by show ¬ (i < 0 ∨ (arrV _ _ _).slots.size ≤ _); rw [arrV_size]; exact h3) rfl rfl d fun H1 e z oq => ?_
  refine h _ h4 H1 _ ls (hM.upd h2 ?_ z oq) (hS.put z oq (hM.1 a _ h2).1) hl
  show H1[a]? = some (vp_cell _ _)
  rw [e]
  show some (Cell.setSlot (vp_cell (gA (xg x) 1) (N, .inl f)) _ _) = _
  rw [vp_cell_i, vp_cell_i, arrV_store]
  congr 2
  funext q
  by_cases hq : q = i.toNatClampNeg
  · subst hq
    simp [updV, upd, vp_nar]
    try rfl
  · simp [updV, upd, hq]
theorem jj_last (C : jOk x cc own rm rt) {r : Option Nat} {i : Int32} {v : Int64} {K : jW → Option β} (d : decode cc pc = .ok (.lastore, 1)) (hF : pSL M r i v K = some out) (h : ∀ M', K M' = some out → jJ x (pc + 1) L st M' k n) : jJ x pc L (jL v :: jI i :: jR r :: st) M k n := by
  obtain ⟨a, N, f, rfl, h2, h3, h4⟩ := pSL_spec hF
  intro H locs ls hM hS hl
  refine W.last C.ex C.cb (hM.at h2) ((C.K.2 2 _ rfl).1 N (fun j => .long (f j))) (fun q => by cases q) (by show ¬ (i < 0 ∨ (arrV _ _ _).slots.size ≤ _); rw [arrV_size]; exact h3) rfl rfl d fun H1 e z oq => ?_
  refine h _ h4 H1 _ ls (hM.upd h2 ?_ z oq) (hS.put z oq (hM.1 a _ h2).1) hl
  show H1[a]? = some (vp_cell _ _)
  rw [e]
  show some (Cell.setSlot (vp_cell (gA (xg x) 2) (N, .inr (.inl f))) _ _) = _
  rw [vp_cell_l, vp_cell_l, arrV_store]
  congr 2
  funext q
  by_cases hq : q = i.toNatClampNeg
  · subst hq
    simp [updV, vp_updL]
    try rfl
  · simp [updV, vp_updL, hq]
theorem jj_any (C : jOk x cc own rm rt) {H : Heap} {locs : List Loc} (hM : jHd (xg x) M H) (hS : va_S (jA (xg x)) (xs x).heap H locs) {t b : Nat} {E : String} (hE : (t = 3 ∧ E = "java/lang/Object") ∨ (t = 4 ∧ E = "Phrasehall$Fencer") ∨ (t = 5 ∧ E = "Phrasehall$Table")) (h : jel M t (some b) = true) : va_Any E (xs x) H b := by
  have obj : ∀ (ci : Nat) (fs : List Value) (r : vw_C), M.1 b = some (.inr (ci, fs)) → jCl[ci]? = some r → (∀ comp c0 : ClassId, (xs x).vm.findClass E = some comp → (xs x).vm.findClass r.1 = some c0 → (xs x).vm.assignable c0 comp = true) → va_Any E (xs x) H b := fun ci fs r h1 h2 h3 => va_rAny C.K (hM.P h1) (q0 := 0) rfl h2 h3
  have cst : ∀ r : String, Cond.castable r "java/lang/Object" ∈ lw_tbl → ∀ comp c0 : ClassId, (xs x).vm.findClass "java/lang/Object" = some comp → (xs x).vm.findClass r = some c0 → (xs x).vm.assignable c0 comp = true := fun r hw comp c0 h1 h2 => vb_asgC (C.nw hw rfl) comp c0 h1 h2
  unfold jel at h
  dsimp only at h
  split at h
  · rename_i c fs e
    rcases hE with ⟨rfl, rfl⟩ | ⟨rfl, rfl⟩ | ⟨rfl, rfl⟩
    · have hc : c = 2 ∨ c = 3 ∨ c = 4 ∨ c = 5 ∨ c = 7 := by simp at h; omega
      rcases hc with rfl | rfl | rfl | rfl | rfl
      · exact obj 2 fs _ e rfl (cst _ q1540)
      · exact obj 3 fs _ e rfl (cst _ q1549)
      · exact obj 4 fs _ e rfl (cst _ q1552)
      · exact obj 5 fs _ e rfl (cst _ q1553)
      · exact obj 7 fs _ e rfl (cst _ q1555)
    · have hc : c = 2 := by simp at h; omega
      subst hc
      exact obj 2 fs _ e rfl (fun comp c0 h1 h2 => vb_asgS comp c0 h1 h2)
    · have hc : c = 8 := by simp at h; omega
      subst hc
      exact obj 8 fs _ e rfl (fun comp c0 h1 h2 => vb_asgS comp c0 h1 h2)
  · rename_i c A e
    have hc : t = 3 ∧ c = 0 := by simpa using h
    obtain ⟨rfl, rfl⟩ := hc
    have hE : E = "java/lang/Object" := by
      rcases hE with ⟨-, h⟩ | ⟨h, -⟩ | ⟨h, -⟩
      · exact h
      · cases h
      · cases h
    subst hE
    have hcell : H[b]? = some (vp_cell (gA (xg x) 0) A) := hM.at e
    have hvm0 : (vp_cell (gA (xg x) 0) A).vm = .none := by
      obtain ⟨n, f | f | f | f | f⟩ := A <;> rfl
    have hcl0 : (vp_cell (gA (xg x) 0) A).cls = gA (xg x) 0 := by
      obtain ⟨n, f | f | f | f | f⟩ := A <;> rfl
    have hf : (xs x).vm.findClass "[I" = some (gA (xg x) 0) := (C.K.2 0 _ rfl).2
    obtain ⟨kC, hkC, -⟩ := Vm.findClass_spec hf
    refine ⟨_, hcell, by rw [hvm0]; rfl, ⟨kC, by rw [hcl0]; exact hkC⟩, fun comp h1 => ?_⟩
    rw [hcl0]
    exact cst "[I" q1567 comp _ h1 hf
  · rename_i e
    have hc : t = 3 ∧ jbx M b = true := by simpa using h
    obtain ⟨rfl, hb⟩ := hc
    have hE : E = "java/lang/Object" := by
      rcases hE with ⟨-, h⟩ | ⟨h, -⟩ | ⟨h, -⟩
      · exact h
      · cases h
      · cases h
    subst hE
    unfold jbx at hb
    obtain ⟨j, hj, hbj⟩ := List.any_eq_true.mp hb
    have hbj : b = M.2.2 (16 + j) := by simpa using hbj
    rw [hM.2.2] at hbj
    have hB := C.kk.2.2.2.2.2.2.2.2.2.2.1.1 j (List.mem_range.mp hj)
    obtain ⟨cell, h1, h2, h3, -⟩ := hB.kept hS.2.1
    obtain ⟨kC, hkC, -⟩ := Vm.findClass_spec h3
    rw [hbj]
    exact ⟨cell, h1, h2, ⟨kC, hkC⟩, fun comp h4 => cst _ q1557 comp _ h4 h3⟩
theorem jj_aast (C : jOk x cc own rm rt) {t : Nat} {E : String} (ht : (jTy (xg x))[t]? = some (gA (xg x) t, .object E)) (hE : (t = 3 ∧ E = "java/lang/Object") ∨ (t = 4 ∧ E = "Phrasehall$Fencer") ∨ (t = 5 ∧ E = "Phrasehall$Table")) {r : Option Nat} {i : Int32} {v : Option Nat} {K : jW → Option β} (d : decode cc pc = .ok (.aastore, 1)) (hF : pSR M r t i v K = some out) (h : ∀ M', K M' = some out → jJ x (pc + 1) L st M' k n) : jJ x pc L (jR v :: jI i :: jR r :: st) M k n := by
  obtain ⟨a, N, f, rfl, h2, h3, h5, h4⟩ := pSR_spec hF
  intro H locs ls hM hS hl
  have hlt : i.toNatClampNeg < N := Nat.not_le.mp fun q => h3 (Or.inr q)
  have h0 : ¬ i < 0 := fun q => h3 (Or.inl q)
  have fin : ∀ H1 : Heap, H1[a]? = some (Cell.setSlot (vp_cell (gA (xg x) t) (N, .inr (.inr (.inr (.inr f))))) i.toNatClampNeg (va_rf v)) → H1[a]? = some (vp_cell (gA (xg x) t) (N, .inr (.inr (.inr (.inr (va_up f i.toNatClampNeg v)))))) := by
    intro H1 e
    rw [e]
    rw [vp_cell_q, vp_cell_q, arrV_store]
    congr 2
    funext q
    by_cases hq : q = i.toNatClampNeg
    · subst hq
      simp [updV, va_up]
    · simp [updV, va_up, hq]
  cases v with
  | none =>
    refine va_WaastN (C := E) C.ex C.cb (hM.at h2) ((C.K.2 t _ ht).1 N (fun j => va_rf (f j))) (fun h => by cases h) (by show ¬ (i < 0 ∨ (arrV _ _ _).slots.size ≤ _); rw [arrV_size]; exact h3) rfl rfl d fun H1 e z oq => ?_
    exact h _ h4 H1 _ ls (hM.upd h2 (fin H1 e) z oq) (hS.put z oq (hM.1 a _ h2).1) hl
  | some b =>
    obtain ⟨cellV, g1, g3, ⟨kC, hkC⟩, hasg⟩ := jj_any C hM hS hE h5
    obtain ⟨kA, comp, k1, k2, k3, -⟩ := (C.K.2 t _ ht).2
    obtain ⟨kE, hkE, -⟩ := Vm.findClass_spec k3
    refine W.aast C.ex C.cb (hM.at h2) (fun q h => by cases h) (fun h => by cases h) k1 k2 rfl hkE ⟨h0, by show _ < (arrV _ _ _).slots.size; rw [arrV_size]; exact hlt⟩ g1 (fun q h => by rw [h] at g3; cases g3) hkC (hasg _ k3) rfl rfl d fun H1 e z oq => ?_
    exact h _ h4 H1 _ ls (hM.upd h2 (fin H1 e) z oq) (hS.put z oq (hM.1 a _ h2).1) hl
theorem jj_alen (C : jOk x cc own rm rt) {r : Option Nat} {K : Int32 → Option β} (d : decode cc pc = .ok (.arraylength, 1)) (hF : pLen M r K = some out) (h : ∀ v, K v = some out → jJ x (pc + 1) L (jI v :: st) M k n) : jJ x pc L (jR r :: st) M k n := by
  unfold pLen at hF
  cases r with
  | none => cases hF
  | some a =>
    dsimp only at hF
    by_cases ha : a = M.2.2 3
    · rw [if_pos ha] at hF
      intro H locs ls hM hS hl
      have hT := C.kk.2.2.2.2.2.2.1
      rw [ha, hM.2.2]
      exact va_tlen C.ex C.cb hT hS (v := 0) rfl d (h 0 hF H locs ls hM hS hl)
    · rw [if_neg ha] at hF
      split at hF
      · rename_i t A e
        by_cases h6 : t < 6
        · rw [if_pos h6] at hF
          intro H locs ls hM hS hl
          have ht : ∃ ty, (jTy (xg x))[t]? = some (gA (xg x) t, ty) := by
            match t, h6 with
            | 0, _ => exact ⟨_, rfl⟩
            | 1, _ => exact ⟨_, rfl⟩
            | 2, _ => exact ⟨_, rfl⟩
            | 3, _ => exact ⟨_, rfl⟩
            | 4, _ => exact ⟨_, rfl⟩
            | 5, _ => exact ⟨_, rfl⟩
            | t + 6, h => exact absurd h (by omega)
          obtain ⟨ty, ht⟩ := ht
          exact va_alen C.ex C.cb C.K (hM.P e) 0 t rfl ht rfl d (h _ hF H locs ls hM hS hl)
        · rw [if_neg h6] at hF; cases hF
      · cases hF
/-! new objects and arrays -/
theorem jj_new (C : jOk x cc own rm rt) {ci N ix : Nat} {Cn : String} {T : u_T} {ty : Nat → FieldType} (S : jCs ci Cn T N ty) (h1 : Cond.classLink own ix Cn ∈ lw_all) (h2 : Cond.instantiable Cn N ∈ lw_all) (h3 : Cond.initialized Cn ∈ lw_all) {fs : List Value} (hfs : ∀ j, j < N → defaultValue (ty j) = vp_V fs j) (hk : k + 1 ≤ rm.cells) (hn : n + N ≤ rm.slots) (d : decode cc pc = .ok (.new ix, 3)) {K : Nat → jW → Option β} (hF : pN M ci fs K = some out) (h : ∀ q M', K q M' = some out → jJ x (pc + 3) L (jR (some q) :: st) M' (k + 1) (n + N)) : jJ x pc L st M k n := by
  intro H locs ls hM hS hl
  have hKn := C.K.1 ci _ S.2.1
  refine W.newcK C.ex C.cb C.ow (C.ts _ h1) (C.ts _ h2) (C.ts _ h3) rfl d (by rw [C.R]; exact hk) (by rw [C.R]; exact hn) hKn.2.1 rfl fun H1 kC hkC e1 z1 o1 => ?_
  have := h M.2.1 _ hF H1 locs ls (hM.new (Nat.le_trans C.z hS.1) ⟨_, S.2.1, (u_born ty C.ts S.1 hKn hkC e1 S.2.2.1).to hfs⟩ z1 o1) ⟨Nat.le_trans hS.1 (by omega), fun x h1 h2 => (o1 x (Nat.lt_of_lt_of_le h1 hS.1)).trans (hS.2.1 x h1 h2), hS.2.2⟩ hl
  rw [← hM.2.1] at this
  exact this
theorem pNA_spec {t nb : Nat} {q : Int32} {K : Nat → jW → Option β} (h : pNA M t nb q K = some out) : ¬ q < 0 ∧ q.toNatClampNeg ≤ nb ∧ ((t = 0 ∧ K M.2.1 (jN M (.inl (0, (q.toNatClampNeg, .inl fun _ => 0)))) = some out) ∨ (t = 1 ∧ K M.2.1 (jN M (.inl (1, (q.toNatClampNeg, .inl fun _ => 0)))) = some out) ∨ (t = 2 ∧ K M.2.1 (jN M (.inl (2, (q.toNatClampNeg, .inr (.inl fun _ => 0))))) = some out) ∨ (3 ≤ t ∧ K M.2.1 (jN M (.inl (t, (q.toNatClampNeg, .inr (.inr (.inr (.inr fun _ => none))))))) = some out)) := by
  unfold pNA at h
  by_cases h1 : q < 0
  · rw [if_pos h1] at h; cases h
  · rw [if_neg h1] at h
    by_cases h2 : nb < q.toNatClampNeg
    · rw [if_pos h2] at h; cases h
    · rw [if_neg h2] at h
      refine ⟨h1, by omega, ?_⟩
      split at h
      · exact Or.inl ⟨rfl, h⟩
      · exact Or.inr (Or.inl ⟨rfl, h⟩)
      · exact Or.inr (Or.inr (Or.inl ⟨rfl, h⟩))
      · rename_i a1 a2 a3
        refine Or.inr (Or.inr (Or.inr ⟨?_, h⟩))
        have b1 : ¬ t = 0 := fun e => a1 e
        have b2 : ¬ t = 1 := fun e => a2 e
        have b3 : ¬ t = 2 := fun e => a3 e
        omega
theorem jj_newarr (C : jOk x cc own rm rt) {t nb : Nat} {at_ : ArrayType} {ty : FieldType} (hty : newarray.typeOf at_ = ty) (ht : (t = 0 ∧ ty = .int) ∨ (t = 1 ∧ ty = .boolean) ∨ (t = 2 ∧ ty = .long)) (hw : Cond.arrayClass ty ∈ lw_all) (hb : nb * componentBytes ty ≤ 536870912) (hk : k + 1 ≤ rm.cells) (hn : n + nb ≤ rm.slots) (d : decode cc pc = .ok (.newarray at_, 2)) {q : Int32} {K : Nat → jW → Option β} (hF : pNA M t nb q K = some out) (h : ∀ a M', K a M' = some out → jJ x (pc + 2) L (jR (some a) :: st) M' (k + 1) (n + nb)) : jJ x pc L (jI q :: st) M k n := by
  obtain ⟨f1, f2, f3⟩ := pNA_spec hF
  intro H locs ls hM hS hl
  subst hty
  refine va_newaK C.ex C.cb (C.ts _ hw) rfl d rfl f1 rfl (Nat.le_trans (Nat.mul_le_mul_right _ f2) hb) (by rw [C.R]; exact hk) (by rw [C.R]; exact Nat.le_trans (Nat.add_le_add_left f2 n) hn) rfl fun H1 cA e1 z1 o1 hAr hNm => ?_
  have fin : ∀ A : vp_A, cA = gA (xg x) t → vp_cell (gA (xg x) t) A = arrV cA q.toNatClampNeg (fun _ => defaultValue (newarray.typeOf at_)) → K M.2.1 (jN M (.inl (t, A))) = some out → W (xp x) (xl x) (xe x) (xR x) (xs x) (xm x) (xa x) (xb x) (xM x) (xc x) H1 locs (k + 1) (n + q.toNatClampNeg) (xQ x) (F0 (xm x) (pc + 2) ls (.ref H.size :: st.map jv)) := by
    intro A hc hA hK
    refine W.widen (k := k + 1) (n := n + nb) (Nat.le_refl _) (Nat.add_le_add_left f2 n) ?_
    have := h M.2.1 _ hK H1 locs ls (hM.new (Nat.le_trans C.z hS.1) (show H1[H.size]? = some (vp_cell (gA (xg x) t) A) by rw [hA]; exact e1) z1 o1) ⟨Nat.le_trans hS.1 (by omega), fun x h1 h2 => (o1 x (Nat.lt_of_lt_of_le h1 hS.1)).trans (hS.2.1 x h1 h2), hS.2.2⟩ hl
    rw [← hM.2.1] at this
    exact this
  rcases ht with ⟨rfl, ht⟩ | ⟨rfl, ht⟩ | ⟨rfl, ht⟩
  · have hc : cA = gA (xg x) 0 := by
      rw [ht] at hNm
      exact Option.some.inj (hNm.symm.trans (C.K.2 0 _ rfl).2)
    rcases f3 with ⟨-, f3⟩ | ⟨f0, -⟩ | ⟨f0, -⟩ | ⟨f0, -⟩
    · exact fin _ hc (by rw [hc, ht, vp_cell_i]; rfl) f3
    · cases f0
    · cases f0
    · omega
  · have hc : cA = gA (xg x) 1 := by
      rw [ht] at hNm
      exact Option.some.inj (hNm.symm.trans (C.K.2 1 _ rfl).2)
    rcases f3 with ⟨f0, -⟩ | ⟨-, f3⟩ | ⟨f0, -⟩ | ⟨f0, -⟩
    · cases f0
    · exact fin _ hc (by rw [hc, ht, vp_cell_i]; rfl) f3
    · cases f0
    · omega
  · have hc : cA = gA (xg x) 2 := by
      rw [ht] at hNm
      exact Option.some.inj (hNm.symm.trans (C.K.2 2 _ rfl).2)
    rcases f3 with ⟨f0, -⟩ | ⟨f0, -⟩ | ⟨-, f3⟩ | ⟨f0, -⟩
    · cases f0
    · cases f0
    · exact fin _ hc (by rw [hc, ht, vp_cell_l]; rfl) f3
    · omega
theorem jj_anew (C : jOk x cc own rm rt) {t nb ix : Nat} {E : String} (h3 : 3 ≤ t) (ht : (jTy (xg x))[t]? = some (gA (xg x) t, .object E)) (hw : Cond.classLink own ix E ∈ lw_all) (hao : va_AO E (xs x)) (hb : nb * 4 ≤ 536870912) (hk : k + 1 ≤ rm.cells) (hn : n + nb ≤ rm.slots) (d : decode cc pc = .ok (.anewarray ix, 3)) {q : Int32} {K : Nat → jW → Option β} (hF : pNA M t nb q K = some out) (h : ∀ a M', K a M' = some out → jJ x (pc + 3) L (jR (some a) :: st) M' (k + 1) (n + nb)) : jJ x pc L (jI q :: st) M k n := by
  obtain ⟨f1, f2, f3⟩ := pNA_spec hF
  intro H locs ls hM hS hl
  refine W.anew C.ex C.cb C.ow (C.ts _ hw) (va_AO.use hao) rfl d rfl f1 (Nat.le_trans (Nat.mul_le_mul_right _ f2) hb) (by rw [C.R]; exact hk) (by rw [C.R]; exact Nat.le_trans (Nat.add_le_add_left f2 n) hn) fun cA kA comp g1 g2 g3 g4 => ?_
  generalize hH1 : H.push ({ cls := cA, slots := Array.replicate q.toNatClampNeg .null, vm := .none } : Cell) = H1
  have z1 : H1.size = H.size + 1 := by rw [← hH1, Array.size_push]
  have e1 : H1[H.size]? = some (arrV cA q.toNatClampNeg (fun _ => .null)) := by rw [← hH1, Array.getElem?_push_size, ← arrV_new]
  have o1 : ∀ q : Nat, q < H.size → H1[q]? = H[q]? := fun q hq => by rw [← hH1, Array.getElem?_push, if_neg (Nat.ne_of_lt hq)]
  have hc : cA = gA (xg x) t := by
    obtain ⟨-, -, -, -, -, r4⟩ := (C.K.2 t _ ht).2
    exact Option.some.inj (g1.symm.trans r4)
  rcases f3 with ⟨f0, -⟩ | ⟨f0, -⟩ | ⟨f0, -⟩ | ⟨-, f3⟩
  · omega
  · omega
  · omega
  · refine W.widen (k := k + 1) (n := n + nb) (Nat.le_refl _) (Nat.add_le_add_left f2 n) ?_
    have := h M.2.1 _ f3 H1 locs ls (hM.new (Nat.le_trans C.z hS.1) (show H1[H.size]? = some (vp_cell (gA (xg x) t) _) by rw [e1, vp_cell_q, hc]; rfl) z1 o1) ⟨Nat.le_trans hS.1 (by omega), fun x h1 h2 => (o1 x (Nat.lt_of_lt_of_le h1 hS.1)).trans (hS.2.1 x h1 h2), hS.2.2⟩ hl
    rw [← hM.2.1] at this
    exact this
end jRows2
