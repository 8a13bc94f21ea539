/-! THE REFERENCE'S MEMORY: m.1 field index; m.2 the seed (printed by gen/ov.py) -/
set_option maxRecDepth 100000
abbrev mS : Type := (Nat → Nat → Int32) × Int64
def mset (m : mS) (k i : Nat) (v : Int32) : mS := (fun k' => if k' = k then upd (m.1 k) i v else m.1 k', m.2)
def mobj (mo : Nat) (m : mS) : List Value := [.int (m.1 0 0), .long m.2, .int (m.1 2 0), .int (m.1 3 0), .int (m.1 4 0), .ref (mo + 1), .ref (mo + 2), .ref (mo + 3), .ref (mo + 4), .ref (mo + 5), .ref (mo + 6), .ref (mo + 7), .ref (mo + 8), .ref (mo + 9), .int (m.1 14 0), .ref (mo + 10), .ref (mo + 11), .int (m.1 17 0), .ref (mo + 12), .ref (mo + 13), .ref (mo + 14), .ref (mo + 15), .ref (mo + 16), .int (m.1 23 0), .ref (mo + 17), .ref (mo + 18), .ref (mo + 19), .int (m.1 27 0), .ref (mo + 20), .ref (mo + 21), .int (m.1 30 0), .int (m.1 31 0)]
def mfl (j : Nat) : Nat := [0, 5, 6, 7, 8, 9, 10, 11, 12, 13, 15, 16, 18, 19, 20, 21, 22, 24, 25, 26, 28, 29].getD j 0
def mln (j : Nat) : Nat := [0, 160, 160, 80, 80, 80, 80, 80, 80, 80, 2, 2, 24, 24, 24, 24, 24, 6, 6, 12, 128, 64].getD j 0
def mty (j : Nat) : Nat := if j = 11 then 1 else 0
def mcell (mo : Nat) (m : mS) (j : Nat) : jE := if j = 0 then .inr (1, mobj mo m) else .inl (mty j, (mln j, .inl (m.1 (mfl j))))
def ov (mo : Nat) (m : mS) (M : jW) : jW := (fun q => if mo ≤ q ∧ q < mo + 22 then some (mcell mo m (q - mo)) else M.1 q, M.2)
theorem ov_at {mo : Nat} {m : mS} {M : jW} (j : Nat) (h : j < 22) : (ov mo m M).1 (mo + j) = some (mcell mo m j) := by
  show (if mo ≤ mo + j ∧ mo + j < mo + 22 then some (mcell mo m (mo + j - mo)) else M.1 (mo + j)) = _
  rw [if_pos ⟨by omega, by omega⟩, Nat.add_sub_cancel_left]
theorem ov_o {mo : Nat} {m : mS} {M : jW} : (ov mo m M).1 mo = some (.inr (1, mobj mo m)) := ov_at 0 (by decide)
theorem ov_a {mo : Nat} {m : mS} {M : jW} (j : Nat) (h : j < 22) (h0 : j ≠ 0) : (ov mo m M).1 (mo + j) = some (.inl (mty j, (mln j, .inl (m.1 (mfl j))))) := by
  rw [ov_at j h]
  unfold mcell
  rw [if_neg h0]
theorem ov_off {mo : Nat} {m : mS} {M : jW} {q : Nat} (h : ¬ (mo ≤ q ∧ q < mo + 22)) : (ov mo m M).1 q = M.1 q := if_neg h
theorem ov_2 {mo : Nat} {m : mS} {M : jW} : (ov mo m M).2 = M.2 := rfl
theorem ov_jU {mo : Nat} {m m' : mS} {M : jW} {j : Nat} {e : jE} (h : j < 22) (he : mcell mo m' j = e) (ho : ∀ i, i < 22 → i ≠ j → mcell mo m' i = mcell mo m i) : jU (ov mo m M) (mo + j) e = ov mo m' M := by
  refine Prod.ext (funext fun q => ?_) rfl
  show (if q = mo + j then some e else if mo ≤ q ∧ q < mo + 22 then some (mcell mo m (q - mo)) else M.1 q) = if mo ≤ q ∧ q < mo + 22 then some (mcell mo m' (q - mo)) else M.1 q
  by_cases hq : q = mo + j
  · rw [if_pos hq, if_pos ⟨by omega, by omega⟩, hq, Nat.add_sub_cancel_left, he]
  · rw [if_neg hq]
    by_cases hb : mo ≤ q ∧ q < mo + 22
    · rw [if_pos hb, if_pos hb, ho (q - mo) (by omega) (by omega)]
    · rw [if_neg hb, if_neg hb]
theorem mset_o {m : mS} {k i : Nat} {v : Int32} {k' : Nat} (h : k' ≠ k) : (mset m k i v).1 k' = m.1 k' := if_neg h
theorem mset_s {m : mS} {k i : Nat} {v : Int32} : (mset m k i v).1 k = upd (m.1 k) i v := if_pos rfl
theorem mcell_o {mo : Nat} {m m' : mS} {j : Nat} (h0 : j ≠ 0) (h : m'.1 (mfl j) = m.1 (mfl j)) : mcell mo m' j = mcell mo m j := by
  unfold mcell
  rw [if_neg h0, if_neg h0, h]
/-- a scalar is written -/
theorem ov_wS {mo : Nat} {m : mS} {M : jW} {k : Nat} {v : Int32} (hk : ∀ j, j < 22 → j ≠ 0 → mfl j ≠ k) (he : (mobj mo m).set k (.int v) = mobj mo (mset m k 0 v)) : jU (ov mo m M) mo (.inr (1, (mobj mo m).set k (.int v))) = ov mo (mset m k 0 v) M :=
  ov_jU (j := 0) (by decide) (by rw [he]; rfl) (fun i hi h0 => mcell_o h0 (mset_o (hk i hi h0)))
/-- an array's cell is written -/
def jE_o (mo : Nat) (m : mS) : jE := .inr (1, mobj mo m)
theorem ov_wA {mo : Nat} {m : mS} {M : jW} {i : Nat} {v : Int32} (j : Nat) (hj : j < 22) (h0 : j ≠ 0) (hk : ∀ j', j' < 22 → j' ≠ 0 → j' ≠ j → mfl j' ≠ mfl j) (he : mobj mo (mset m (mfl j) i v) = mobj mo m) : jU (ov mo m M) (mo + j) (.inl (mty j, (mln j, .inl (upd (m.1 (mfl j)) i v)))) = ov mo (mset m (mfl j) i v) M := by
  refine ov_jU hj ?_ (fun i' hi hij => ?_)
  · unfold mcell
    rw [if_neg h0, mset_s]
  · by_cases h : i' = 0
    · subst h
      show jE_o mo _ = jE_o mo _
      unfold jE_o
      rw [he]
    · exact mcell_o h (mset_o (hk i' hi h hij))
theorem ov_get {β : Type} {mo : Nat} {m : mS} {M : jW} : (∀ K : Int32 → Option β, pI (ov mo m M) (some mo) 1 0 K = K (m.1 0 0)) ∧
  (∀ K : Int32 → Option β, pI (ov mo m M) (some mo) 1 2 K = K (m.1 2 0)) ∧
  (∀ K : Int32 → Option β, pI (ov mo m M) (some mo) 1 3 K = K (m.1 3 0)) ∧
  (∀ K : Int32 → Option β, pI (ov mo m M) (some mo) 1 4 K = K (m.1 4 0)) ∧
  (∀ K : Int32 → Option β, pI (ov mo m M) (some mo) 1 14 K = K (m.1 14 0)) ∧
  (∀ K : Int32 → Option β, pI (ov mo m M) (some mo) 1 17 K = K (m.1 17 0)) ∧
  (∀ K : Int32 → Option β, pI (ov mo m M) (some mo) 1 23 K = K (m.1 23 0)) ∧
  (∀ K : Int32 → Option β, pI (ov mo m M) (some mo) 1 27 K = K (m.1 27 0)) ∧
  (∀ K : Int32 → Option β, pI (ov mo m M) (some mo) 1 30 K = K (m.1 30 0)) ∧
  (∀ K : Int32 → Option β, pI (ov mo m M) (some mo) 1 31 K = K (m.1 31 0)) ∧
  (∀ K : Int64 → Option β, pL (ov mo m M) (some mo) 1 1 K = K m.2) ∧
  (∀ K : Option Nat → Option β, pR (ov mo m M) (some mo) 1 5 K = K (some (mo + 1))) ∧
  (∀ K : Option Nat → Option β, pR (ov mo m M) (some mo) 1 6 K = K (some (mo + 2))) ∧
  (∀ K : Option Nat → Option β, pR (ov mo m M) (some mo) 1 7 K = K (some (mo + 3))) ∧
  (∀ K : Option Nat → Option β, pR (ov mo m M) (some mo) 1 8 K = K (some (mo + 4))) ∧
  (∀ K : Option Nat → Option β, pR (ov mo m M) (some mo) 1 9 K = K (some (mo + 5))) ∧
  (∀ K : Option Nat → Option β, pR (ov mo m M) (some mo) 1 10 K = K (some (mo + 6))) ∧
  (∀ K : Option Nat → Option β, pR (ov mo m M) (some mo) 1 11 K = K (some (mo + 7))) ∧
  (∀ K : Option Nat → Option β, pR (ov mo m M) (some mo) 1 12 K = K (some (mo + 8))) ∧
  (∀ K : Option Nat → Option β, pR (ov mo m M) (some mo) 1 13 K = K (some (mo + 9))) ∧
  (∀ K : Option Nat → Option β, pR (ov mo m M) (some mo) 1 15 K = K (some (mo + 10))) ∧
  (∀ K : Option Nat → Option β, pR (ov mo m M) (some mo) 1 16 K = K (some (mo + 11))) ∧
  (∀ K : Option Nat → Option β, pR (ov mo m M) (some mo) 1 18 K = K (some (mo + 12))) ∧
  (∀ K : Option Nat → Option β, pR (ov mo m M) (some mo) 1 19 K = K (some (mo + 13))) ∧
  (∀ K : Option Nat → Option β, pR (ov mo m M) (some mo) 1 20 K = K (some (mo + 14))) ∧
  (∀ K : Option Nat → Option β, pR (ov mo m M) (some mo) 1 21 K = K (some (mo + 15))) ∧
  (∀ K : Option Nat → Option β, pR (ov mo m M) (some mo) 1 22 K = K (some (mo + 16))) ∧
  (∀ K : Option Nat → Option β, pR (ov mo m M) (some mo) 1 24 K = K (some (mo + 17))) ∧
  (∀ K : Option Nat → Option β, pR (ov mo m M) (some mo) 1 25 K = K (some (mo + 18))) ∧
  (∀ K : Option Nat → Option β, pR (ov mo m M) (some mo) 1 26 K = K (some (mo + 19))) ∧
  (∀ K : Option Nat → Option β, pR (ov mo m M) (some mo) 1 28 K = K (some (mo + 20))) ∧
  (∀ K : Option Nat → Option β, pR (ov mo m M) (some mo) 1 29 K = K (some (mo + 21))) ∧
  (∀ K : Nat → List Value → Option β, pO (ov mo m M) (some mo) 1 K = K mo (mobj mo m)) := by
  refine ⟨?_, ?_, ?_, ?_, ?_, ?_, ?_, ?_, ?_, ?_, ?_, ?_, ?_, ?_, ?_, ?_, ?_, ?_, ?_, ?_, ?_, ?_, ?_, ?_, ?_, ?_, ?_, ?_, ?_, ?_, ?_, ?_, ?_⟩
  all_goals (intro K; simp only [pI, pL, pR, pO, ov_o, if_true]; try rfl)
theorem ov_aget {β : Type} {mo : Nat} {m : mS} {M : jW} : (∀ (i : Int32) (K : Int32 → Option β), pAI (ov mo m M) (some (mo + 1)) 0 i K = if jin i 160 = true then K (m.1 5 i.toNatClampNeg) else none) ∧
  (∀ (i : Int32) (K : Int32 → Option β), pAI (ov mo m M) (some (mo + 2)) 0 i K = if jin i 160 = true then K (m.1 6 i.toNatClampNeg) else none) ∧
  (∀ (i : Int32) (K : Int32 → Option β), pAI (ov mo m M) (some (mo + 3)) 0 i K = if jin i 80 = true then K (m.1 7 i.toNatClampNeg) else none) ∧
  (∀ (i : Int32) (K : Int32 → Option β), pAI (ov mo m M) (some (mo + 4)) 0 i K = if jin i 80 = true then K (m.1 8 i.toNatClampNeg) else none) ∧
  (∀ (i : Int32) (K : Int32 → Option β), pAI (ov mo m M) (some (mo + 5)) 0 i K = if jin i 80 = true then K (m.1 9 i.toNatClampNeg) else none) ∧
  (∀ (i : Int32) (K : Int32 → Option β), pAI (ov mo m M) (some (mo + 6)) 0 i K = if jin i 80 = true then K (m.1 10 i.toNatClampNeg) else none) ∧
  (∀ (i : Int32) (K : Int32 → Option β), pAI (ov mo m M) (some (mo + 7)) 0 i K = if jin i 80 = true then K (m.1 11 i.toNatClampNeg) else none) ∧
  (∀ (i : Int32) (K : Int32 → Option β), pAI (ov mo m M) (some (mo + 8)) 0 i K = if jin i 80 = true then K (m.1 12 i.toNatClampNeg) else none) ∧
  (∀ (i : Int32) (K : Int32 → Option β), pAI (ov mo m M) (some (mo + 9)) 0 i K = if jin i 80 = true then K (m.1 13 i.toNatClampNeg) else none) ∧
  (∀ (i : Int32) (K : Int32 → Option β), pAI (ov mo m M) (some (mo + 10)) 0 i K = if jin i 2 = true then K (m.1 15 i.toNatClampNeg) else none) ∧
  (∀ (i : Int32) (K : Int32 → Option β), pAI (ov mo m M) (some (mo + 11)) 1 i K = if jin i 2 = true then K (m.1 16 i.toNatClampNeg) else none) ∧
  (∀ (i : Int32) (K : Int32 → Option β), pAI (ov mo m M) (some (mo + 12)) 0 i K = if jin i 24 = true then K (m.1 18 i.toNatClampNeg) else none) ∧
  (∀ (i : Int32) (K : Int32 → Option β), pAI (ov mo m M) (some (mo + 13)) 0 i K = if jin i 24 = true then K (m.1 19 i.toNatClampNeg) else none) ∧
  (∀ (i : Int32) (K : Int32 → Option β), pAI (ov mo m M) (some (mo + 14)) 0 i K = if jin i 24 = true then K (m.1 20 i.toNatClampNeg) else none) ∧
  (∀ (i : Int32) (K : Int32 → Option β), pAI (ov mo m M) (some (mo + 15)) 0 i K = if jin i 24 = true then K (m.1 21 i.toNatClampNeg) else none) ∧
  (∀ (i : Int32) (K : Int32 → Option β), pAI (ov mo m M) (some (mo + 16)) 0 i K = if jin i 24 = true then K (m.1 22 i.toNatClampNeg) else none) ∧
  (∀ (i : Int32) (K : Int32 → Option β), pAI (ov mo m M) (some (mo + 17)) 0 i K = if jin i 6 = true then K (m.1 24 i.toNatClampNeg) else none) ∧
  (∀ (i : Int32) (K : Int32 → Option β), pAI (ov mo m M) (some (mo + 18)) 0 i K = if jin i 6 = true then K (m.1 25 i.toNatClampNeg) else none) ∧
  (∀ (i : Int32) (K : Int32 → Option β), pAI (ov mo m M) (some (mo + 19)) 0 i K = if jin i 12 = true then K (m.1 26 i.toNatClampNeg) else none) ∧
  (∀ (i : Int32) (K : Int32 → Option β), pAI (ov mo m M) (some (mo + 20)) 0 i K = if jin i 128 = true then K (m.1 28 i.toNatClampNeg) else none) ∧
  (∀ (i : Int32) (K : Int32 → Option β), pAI (ov mo m M) (some (mo + 21)) 0 i K = if jin i 64 = true then K (m.1 29 i.toNatClampNeg) else none) := by
  refine ⟨?_, ?_, ?_, ?_, ?_, ?_, ?_, ?_, ?_, ?_, ?_, ?_, ?_, ?_, ?_, ?_, ?_, ?_, ?_, ?_, ?_⟩
  · intro i K; simp only [pAI, pA, ov_a 1 (by decide) (by decide)]; rfl
  · intro i K; simp only [pAI, pA, ov_a 2 (by decide) (by decide)]; rfl
  · intro i K; simp only [pAI, pA, ov_a 3 (by decide) (by decide)]; rfl
  · intro i K; simp only [pAI, pA, ov_a 4 (by decide) (by decide)]; rfl
  · intro i K; simp only [pAI, pA, ov_a 5 (by decide) (by decide)]; rfl
  · intro i K; simp only [pAI, pA, ov_a 6 (by decide) (by decide)]; rfl
  · intro i K; simp only [pAI, pA, ov_a 7 (by decide) (by decide)]; rfl
  · intro i K; simp only [pAI, pA, ov_a 8 (by decide) (by decide)]; rfl
  · intro i K; simp only [pAI, pA, ov_a 9 (by decide) (by decide)]; rfl
  · intro i K; simp only [pAI, pA, ov_a 10 (by decide) (by decide)]; rfl
  · intro i K; simp only [pAI, pA, ov_a 11 (by decide) (by decide)]; rfl
  · intro i K; simp only [pAI, pA, ov_a 12 (by decide) (by decide)]; rfl
  · intro i K; simp only [pAI, pA, ov_a 13 (by decide) (by decide)]; rfl
  · intro i K; simp only [pAI, pA, ov_a 14 (by decide) (by decide)]; rfl
  · intro i K; simp only [pAI, pA, ov_a 15 (by decide) (by decide)]; rfl
  · intro i K; simp only [pAI, pA, ov_a 16 (by decide) (by decide)]; rfl
  · intro i K; simp only [pAI, pA, ov_a 17 (by decide) (by decide)]; rfl
  · intro i K; simp only [pAI, pA, ov_a 18 (by decide) (by decide)]; rfl
  · intro i K; simp only [pAI, pA, ov_a 19 (by decide) (by decide)]; rfl
  · intro i K; simp only [pAI, pA, ov_a 20 (by decide) (by decide)]; rfl
  · intro i K; simp only [pAI, pA, ov_a 21 (by decide) (by decide)]; rfl
theorem ov_put {β : Type} {mo : Nat} {m : mS} {M : jW} : (∀ (v : Int32) (K : jW → Option β), pP (ov mo m M) (some mo) 1 0 (jI v) K = K (ov mo (mset m 0 0 v) M)) ∧
  (∀ (v : Int32) (K : jW → Option β), pP (ov mo m M) (some mo) 1 2 (jI v) K = K (ov mo (mset m 2 0 v) M)) ∧
  (∀ (v : Int32) (K : jW → Option β), pP (ov mo m M) (some mo) 1 3 (jI v) K = K (ov mo (mset m 3 0 v) M)) ∧
  (∀ (v : Int32) (K : jW → Option β), pP (ov mo m M) (some mo) 1 4 (jI v) K = K (ov mo (mset m 4 0 v) M)) ∧
  (∀ (v : Int32) (K : jW → Option β), pP (ov mo m M) (some mo) 1 14 (jI v) K = K (ov mo (mset m 14 0 v) M)) ∧
  (∀ (v : Int32) (K : jW → Option β), pP (ov mo m M) (some mo) 1 17 (jI v) K = K (ov mo (mset m 17 0 v) M)) ∧
  (∀ (v : Int32) (K : jW → Option β), pP (ov mo m M) (some mo) 1 23 (jI v) K = K (ov mo (mset m 23 0 v) M)) ∧
  (∀ (v : Int32) (K : jW → Option β), pP (ov mo m M) (some mo) 1 27 (jI v) K = K (ov mo (mset m 27 0 v) M)) ∧
  (∀ (v : Int32) (K : jW → Option β), pP (ov mo m M) (some mo) 1 30 (jI v) K = K (ov mo (mset m 30 0 v) M)) ∧
  (∀ (v : Int32) (K : jW → Option β), pP (ov mo m M) (some mo) 1 31 (jI v) K = K (ov mo (mset m 31 0 v) M)) := by
  refine ⟨?_, ?_, ?_, ?_, ?_, ?_, ?_, ?_, ?_, ?_⟩
  all_goals (intro v K; simp only [pP, pO, ov_o, if_true]; rw [if_pos (by show _ < 32; decide)]; exact congrArg K (ov_wS (by decide) rfl))
theorem ov_putL {β : Type} {mo : Nat} {m : mS} {M : jW} (v : Int64) (K : jW → Option β) : pP (ov mo m M) (some mo) 1 1 (jL v) K = K (ov mo (m.1, v) M) := by
  simp only [pP, pO, ov_o, if_true]
  rw [if_pos (by show _ < 32; decide)]
  exact congrArg K (ov_jU (j := 0) (by decide) rfl (fun i hi h0 => mcell_o h0 rfl))
theorem ov_aput {β : Type} {mo : Nat} {m : mS} {M : jW} : (∀ (i v : Int32) (K : jW → Option β), pSI (ov mo m M) (some (mo + 1)) i v K = if jin i 160 = true then K (ov mo (mset m 5 i.toNatClampNeg v) M) else none) ∧
  (∀ (i v : Int32) (K : jW → Option β), pSI (ov mo m M) (some (mo + 2)) i v K = if jin i 160 = true then K (ov mo (mset m 6 i.toNatClampNeg v) M) else none) ∧
  (∀ (i v : Int32) (K : jW → Option β), pSI (ov mo m M) (some (mo + 3)) i v K = if jin i 80 = true then K (ov mo (mset m 7 i.toNatClampNeg v) M) else none) ∧
  (∀ (i v : Int32) (K : jW → Option β), pSI (ov mo m M) (some (mo + 4)) i v K = if jin i 80 = true then K (ov mo (mset m 8 i.toNatClampNeg v) M) else none) ∧
  (∀ (i v : Int32) (K : jW → Option β), pSI (ov mo m M) (some (mo + 5)) i v K = if jin i 80 = true then K (ov mo (mset m 9 i.toNatClampNeg v) M) else none) ∧
  (∀ (i v : Int32) (K : jW → Option β), pSI (ov mo m M) (some (mo + 6)) i v K = if jin i 80 = true then K (ov mo (mset m 10 i.toNatClampNeg v) M) else none) ∧
  (∀ (i v : Int32) (K : jW → Option β), pSI (ov mo m M) (some (mo + 7)) i v K = if jin i 80 = true then K (ov mo (mset m 11 i.toNatClampNeg v) M) else none) ∧
  (∀ (i v : Int32) (K : jW → Option β), pSI (ov mo m M) (some (mo + 8)) i v K = if jin i 80 = true then K (ov mo (mset m 12 i.toNatClampNeg v) M) else none) ∧
  (∀ (i v : Int32) (K : jW → Option β), pSI (ov mo m M) (some (mo + 9)) i v K = if jin i 80 = true then K (ov mo (mset m 13 i.toNatClampNeg v) M) else none) ∧
  (∀ (i v : Int32) (K : jW → Option β), pSI (ov mo m M) (some (mo + 10)) i v K = if jin i 2 = true then K (ov mo (mset m 15 i.toNatClampNeg v) M) else none) ∧
  (∀ (i v : Int32) (K : jW → Option β), pSZ (ov mo m M) (some (mo + 11)) i v K = if jin i 2 = true then K (ov mo (mset m 16 i.toNatClampNeg (vp_nar .boolean v)) M) else none) ∧
  (∀ (i v : Int32) (K : jW → Option β), pSI (ov mo m M) (some (mo + 12)) i v K = if jin i 24 = true then K (ov mo (mset m 18 i.toNatClampNeg v) M) else none) ∧
  (∀ (i v : Int32) (K : jW → Option β), pSI (ov mo m M) (some (mo + 13)) i v K = if jin i 24 = true then K (ov mo (mset m 19 i.toNatClampNeg v) M) else none) ∧
  (∀ (i v : Int32) (K : jW → Option β), pSI (ov mo m M) (some (mo + 14)) i v K = if jin i 24 = true then K (ov mo (mset m 20 i.toNatClampNeg v) M) else none) ∧
  (∀ (i v : Int32) (K : jW → Option β), pSI (ov mo m M) (some (mo + 15)) i v K = if jin i 24 = true then K (ov mo (mset m 21 i.toNatClampNeg v) M) else none) ∧
  (∀ (i v : Int32) (K : jW → Option β), pSI (ov mo m M) (some (mo + 16)) i v K = if jin i 24 = true then K (ov mo (mset m 22 i.toNatClampNeg v) M) else none) ∧
  (∀ (i v : Int32) (K : jW → Option β), pSI (ov mo m M) (some (mo + 17)) i v K = if jin i 6 = true then K (ov mo (mset m 24 i.toNatClampNeg v) M) else none) ∧
  (∀ (i v : Int32) (K : jW → Option β), pSI (ov mo m M) (some (mo + 18)) i v K = if jin i 6 = true then K (ov mo (mset m 25 i.toNatClampNeg v) M) else none) ∧
  (∀ (i v : Int32) (K : jW → Option β), pSI (ov mo m M) (some (mo + 19)) i v K = if jin i 12 = true then K (ov mo (mset m 26 i.toNatClampNeg v) M) else none) ∧
  (∀ (i v : Int32) (K : jW → Option β), pSI (ov mo m M) (some (mo + 20)) i v K = if jin i 128 = true then K (ov mo (mset m 28 i.toNatClampNeg v) M) else none) ∧
  (∀ (i v : Int32) (K : jW → Option β), pSI (ov mo m M) (some (mo + 21)) i v K = if jin i 64 = true then K (ov mo (mset m 29 i.toNatClampNeg v) M) else none) := by
  refine ⟨?_, ?_, ?_, ?_, ?_, ?_, ?_, ?_, ?_, ?_, ?_, ?_, ?_, ?_, ?_, ?_, ?_, ?_, ?_, ?_, ?_⟩
  · intro i v K; simp only [pSI, pA, ov_a 1 (by decide) (by decide)]; show (if jin i 160 = true then K (jU _ _ _) else none) = _; exact congrArg (fun z => if jin i 160 = true then K z else none) (ov_wA 1 (by decide) (by decide) (by decide) rfl)
  · intro i v K; simp only [pSI, pA, ov_a 2 (by decide) (by decide)]; show (if jin i 160 = true then K (jU _ _ _) else none) = _; exact congrArg (fun z => if jin i 160 = true then K z else none) (ov_wA 2 (by decide) (by decide) (by decide) rfl)
  · intro i v K; simp only [pSI, pA, ov_a 3 (by decide) (by decide)]; show (if jin i 80 = true then K (jU _ _ _) else none) = _; exact congrArg (fun z => if jin i 80 = true then K z else none) (ov_wA 3 (by decide) (by decide) (by decide) rfl)
  · intro i v K; simp only [pSI, pA, ov_a 4 (by decide) (by decide)]; show (if jin i 80 = true then K (jU _ _ _) else none) = _; exact congrArg (fun z => if jin i 80 = true then K z else none) (ov_wA 4 (by decide) (by decide) (by decide) rfl)
  · intro i v K; simp only [pSI, pA, ov_a 5 (by decide) (by decide)]; show (if jin i 80 = true then K (jU _ _ _) else none) = _; exact congrArg (fun z => if jin i 80 = true then K z else none) (ov_wA 5 (by decide) (by decide) (by decide) rfl)
  · intro i v K; simp only [pSI, pA, ov_a 6 (by decide) (by decide)]; show (if jin i 80 = true then K (jU _ _ _) else none) = _; exact congrArg (fun z => if jin i 80 = true then K z else none) (ov_wA 6 (by decide) (by decide) (by decide) rfl)
  · intro i v K; simp only [pSI, pA, ov_a 7 (by decide) (by decide)]; show (if jin i 80 = true then K (jU _ _ _) else none) = _; exact congrArg (fun z => if jin i 80 = true then K z else none) (ov_wA 7 (by decide) (by decide) (by decide) rfl)
  · intro i v K; simp only [pSI, pA, ov_a 8 (by decide) (by decide)]; show (if jin i 80 = true then K (jU _ _ _) else none) = _; exact congrArg (fun z => if jin i 80 = true then K z else none) (ov_wA 8 (by decide) (by decide) (by decide) rfl)
  · intro i v K; simp only [pSI, pA, ov_a 9 (by decide) (by decide)]; show (if jin i 80 = true then K (jU _ _ _) else none) = _; exact congrArg (fun z => if jin i 80 = true then K z else none) (ov_wA 9 (by decide) (by decide) (by decide) rfl)
  · intro i v K; simp only [pSI, pA, ov_a 10 (by decide) (by decide)]; show (if jin i 2 = true then K (jU _ _ _) else none) = _; exact congrArg (fun z => if jin i 2 = true then K z else none) (ov_wA 10 (by decide) (by decide) (by decide) rfl)
  · intro i v K; simp only [pSZ, pA, ov_a 11 (by decide) (by decide)]; show (if jin i 2 = true then K (jU _ _ _) else none) = _; exact congrArg (fun z => if jin i 2 = true then K z else none) (ov_wA 11 (by decide) (by decide) (by decide) rfl)
  · intro i v K; simp only [pSI, pA, ov_a 12 (by decide) (by decide)]; show (if jin i 24 = true then K (jU _ _ _) else none) = _; exact congrArg (fun z => if jin i 24 = true then K z else none) (ov_wA 12 (by decide) (by decide) (by decide) rfl)
  · intro i v K; simp only [pSI, pA, ov_a 13 (by decide) (by decide)]; show (if jin i 24 = true then K (jU _ _ _) else none) = _; exact congrArg (fun z => if jin i 24 = true then K z else none) (ov_wA 13 (by decide) (by decide) (by decide) rfl)
  · intro i v K; simp only [pSI, pA, ov_a 14 (by decide) (by decide)]; show (if jin i 24 = true then K (jU _ _ _) else none) = _; exact congrArg (fun z => if jin i 24 = true then K z else none) (ov_wA 14 (by decide) (by decide) (by decide) rfl)
  · intro i v K; simp only [pSI, pA, ov_a 15 (by decide) (by decide)]; show (if jin i 24 = true then K (jU _ _ _) else none) = _; exact congrArg (fun z => if jin i 24 = true then K z else none) (ov_wA 15 (by decide) (by decide) (by decide) rfl)
  · intro i v K; simp only [pSI, pA, ov_a 16 (by decide) (by decide)]; show (if jin i 24 = true then K (jU _ _ _) else none) = _; exact congrArg (fun z => if jin i 24 = true then K z else none) (ov_wA 16 (by decide) (by decide) (by decide) rfl)
  · intro i v K; simp only [pSI, pA, ov_a 17 (by decide) (by decide)]; show (if jin i 6 = true then K (jU _ _ _) else none) = _; exact congrArg (fun z => if jin i 6 = true then K z else none) (ov_wA 17 (by decide) (by decide) (by decide) rfl)
  · intro i v K; simp only [pSI, pA, ov_a 18 (by decide) (by decide)]; show (if jin i 6 = true then K (jU _ _ _) else none) = _; exact congrArg (fun z => if jin i 6 = true then K z else none) (ov_wA 18 (by decide) (by decide) (by decide) rfl)
  · intro i v K; simp only [pSI, pA, ov_a 19 (by decide) (by decide)]; show (if jin i 12 = true then K (jU _ _ _) else none) = _; exact congrArg (fun z => if jin i 12 = true then K z else none) (ov_wA 19 (by decide) (by decide) (by decide) rfl)
  · intro i v K; simp only [pSI, pA, ov_a 20 (by decide) (by decide)]; show (if jin i 128 = true then K (jU _ _ _) else none) = _; exact congrArg (fun z => if jin i 128 = true then K z else none) (ov_wA 20 (by decide) (by decide) (by decide) rfl)
  · intro i v K; simp only [pSI, pA, ov_a 21 (by decide) (by decide)]; show (if jin i 64 = true then K (jU _ _ _) else none) = _; exact congrArg (fun z => if jin i 64 = true then K z else none) (ov_wA 21 (by decide) (by decide) (by decide) rfl)
