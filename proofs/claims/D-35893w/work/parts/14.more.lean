/-! ROWS for the system's classes: constants, casts, interface calls, boxes, natives -/
set_option maxRecDepth 100000
section jM
variable {x : jX} {cc : ByteArray} {own : String} {rm : Room} {rt : Option FieldType} {pc : Nat} {L L' : List (Nat × jV)} {st : List jV} {M : jW} {k n : Nat} {β : Type} {out : β}
theorem jLk.same (C : jOk x cc own rm rt) {ix : Nat} (hw : Cond.fieldLink own ix "java/util/ArrayList" "modCount" "I" ∈ lw_all) : jLk x own "java/util/ArrayList" TJ2 ix 0 := ⟨Or.inl (C.ts _ hw), fun y h => u_same (C.ts _ q107) y h⟩
theorem jOk.zs (C : jOk x cc own rm rt) : ∀ q ∈ jZL (gk (xg x)), va_Z q.1 q.2.1 q.2.2.1 q.2.2.2 (jA (xg x)) (xs x) (xs x).heap := C.kk.2.2.2.2.2.1
theorem jj_gets (C : jOk x cc own rm rt) {Cn f dd : String} {j ix : Nat} (hZ : va_Z Cn f dd (.ref (gk (xg x) j)) (jA (xg x)) (xs x) (xs x).heap) (hw : Cond.fieldLink own ix Cn f dd ∈ lw_all) (d : decode cc pc = .ok (.getstatic ix, 3)) (h : jJ x (pc + 3) L (jR (some (M.2.2 j)) :: st) M k n) : jJ x pc L st M k n := fun H locs ls hM hS hl => by
  have h' := h H locs ls hM hS hl
  rw [hM.2.2] at h'
  exact va_gets C.ex C.cb hZ hS C.ow (C.ts _ hw) (fun _ h => h) d h'
theorem jj_gets0 (C : jOk x cc own rm rt) {ix : Nat} (hw : Cond.fieldLink own ix "Phrasehall$Weapon" "OF_FOIL" "LPhrasehall$Weapon;" ∈ lw_all) (d : decode cc pc = .ok (.getstatic ix, 3)) (h : jJ x (pc + 3) L (jR (some (M.2.2 0)) :: st) M k n) : jJ x pc L st M k n := jj_gets C (C.zs _ (List.mem_of_getElem? (i := 0) rfl)) hw d h
theorem jj_gets1 (C : jOk x cc own rm rt) {ix : Nat} (hw : Cond.fieldLink own ix "Phrasehall$Weapon" "OF_EPEE" "LPhrasehall$Weapon;" ∈ lw_all) (d : decode cc pc = .ok (.getstatic ix, 3)) (h : jJ x (pc + 3) L (jR (some (M.2.2 1)) :: st) M k n) : jJ x pc L st M k n := jj_gets C (C.zs _ (List.mem_of_getElem? (i := 1) rfl)) hw d h
theorem jj_gets2 (C : jOk x cc own rm rt) {ix : Nat} (hw : Cond.fieldLink own ix "Phrasehall$Weapon" "OF_SABRE" "LPhrasehall$Weapon;" ∈ lw_all) (d : decode cc pc = .ok (.getstatic ix, 3)) (h : jJ x (pc + 3) L (jR (some (M.2.2 2)) :: st) M k n) : jJ x pc L st M k n := jj_gets C (C.zs _ (List.mem_of_getElem? (i := 2) rfl)) hw d h
theorem jj_gets3 (C : jOk x cc own rm rt) {ix : Nat} (hw : Cond.fieldLink own ix "java/util/ArrayList" "DEFAULTCAPACITY_EMPTY_ELEMENTDATA" "[Ljava/lang/Object;" ∈ lw_all) (d : decode cc pc = .ok (.getstatic ix, 3)) (h : jJ x (pc + 3) L (jR (some (M.2.2 3)) :: st) M k n) : jJ x pc L st M k n := jj_gets C (C.zs _ (List.mem_of_getElem? (i := 3) rfl)) hw d h
theorem jj_gets5 (C : jOk x cc own rm rt) {ix : Nat} (hw : Cond.fieldLink own ix "java/lang/Integer$IntegerCache" "cache" "[Ljava/lang/Integer;" ∈ lw_all) (d : decode cc pc = .ok (.getstatic ix, 3)) (h : jJ x (pc + 3) L (jR (some (M.2.2 5)) :: st) M k n) : jJ x pc L st M k n := jj_gets C (C.zs _ (List.mem_of_getElem? (i := 5) rfl)) hw d h
theorem jj_getsHigh (C : jOk x cc own rm rt) {ix : Nat} (hw : Cond.fieldLink own ix "java/lang/Integer$IntegerCache" "high" "I" ∈ lw_all) (d : decode cc pc = .ok (.getstatic ix, 3)) (h : jJ x (pc + 3) L (jI 127 :: st) M k n) : jJ x pc L st M k n := fun H locs ls hM hS hl => va_gets C.ex C.cb (C.zs _ (List.mem_of_getElem? (i := 4) rfl)) hS C.ow (C.ts _ hw) (fun _ h => h) d (h H locs ls hM hS hl)
theorem jj_ldcM (C : jOk x cc own rm rt) {ix : Nat} (hw : Cond.classLink own ix "[Ljava/lang/Object;" ∈ lw_all) (d : decode cc pc = .ok (.ldc ix, 2)) (h : jJ x (pc + 2) L (jR (some (M.2.2 4)) :: st) M k n) : jJ x pc L st M k n := fun H locs ls hM hS hl => by
  have h' := h H locs ls hM hS hl
  rw [hM.2.2] at h'
  exact va_ldcM C.ex C.cb C.ow (C.ts _ hw) C.kk.2.2.2.2.2.2.2.2.2.2.2.2 d h'
/-- a weapon's numbers: 0 least, 1 lockout -/
def pWF (M : jW) (r : Option Nat) (w : Nat) (K : Int32 → Option β) : Option β := match r with
  | none => none
  | some a => if a = M.2.2 0 then K (if w = 0 then 14 else 300) else if a = M.2.2 1 then K (if w = 0 then 2 else 45) else if a = M.2.2 2 then K (if w = 0 then 1 else 170) else none
theorem jj_wf (C : jOk x cc own rm rt) {ix : Nat} {nm host : String} {v : Int32} {a : Nat} (hO : va_OF "Phrasehall$Weapon" nm "I" (.int v) a (jA (xg x)) (xs x) (xs x).heap) (hw : Cond.fieldLinkNest own ix "Phrasehall$Weapon" nm "I" host ∈ lw_tbl) (d : decode cc pc = .ok (.getfield ix, 3)) (h : jJ x (pc + 3) L (jI v :: st) M k n) : jJ x pc L (jR (some a) :: st) M k n := fun H locs ls hM hS hl => by
  obtain ⟨cf, kf, fi, f, cell, h1, h2, h3, h4, h5, h6⟩ := hO.kept hS.2.1
  exact va_Wgetf C.ex C.cb C.ow (va_Nw.use rfl (C.nw hw rfl)) h1 h2 h3 h4 (v := .int v) h5 rfl rfl d (h H locs ls hM hS hl)
theorem jj_kc {P : Prop} (h : (∀ (H : Heap), jHd (xg x) M H → M.2.2 = gk (xg x)) → P) : P := h (fun H hM => hM.2.2)
theorem jj_pWFleast (C : jOk x cc own rm rt) {ix : Nat} {host : String} (hw : Cond.fieldLinkNest own ix "Phrasehall$Weapon" "least" "I" host ∈ lw_tbl) (d : decode cc pc = .ok (.getfield ix, 3)) {r : Option Nat} {K : Int32 → Option β} (hF : pWF M r 0 K = some out) (h : ∀ v, K v = some out → jJ x (pc + 3) L (jI v :: st) M k n) : jJ x pc L (jR r :: st) M k n := fun H locs ls hM hS hl => by
  have hO := C.kk.2.2.2.2.2.2.2.2.1
  have e := hM.2.2
  unfold pWF at hF
  cases r with
  | none => cases hF
  | some a =>
    dsimp only at hF
    rw [e] at hF
    split at hF
    · rename_i h0; subst h0; exact jj_wf C (hO _ (List.mem_of_getElem? (i := 0) rfl)) hw d (h _ hF) H locs ls hM hS hl
    · split at hF
      · rename_i h0; subst h0; exact jj_wf C (hO _ (List.mem_of_getElem? (i := 2) rfl)) hw d (h _ hF) H locs ls hM hS hl
      · split at hF
        · rename_i h0; subst h0; exact jj_wf C (hO _ (List.mem_of_getElem? (i := 4) rfl)) hw d (h _ hF) H locs ls hM hS hl
        · cases hF
theorem jj_pWFlockout (C : jOk x cc own rm rt) {ix : Nat} {host : String} (hw : Cond.fieldLinkNest own ix "Phrasehall$Weapon" "lockout" "I" host ∈ lw_tbl) (d : decode cc pc = .ok (.getfield ix, 3)) {r : Option Nat} {K : Int32 → Option β} (hF : pWF M r 1 K = some out) (h : ∀ v, K v = some out → jJ x (pc + 3) L (jI v :: st) M k n) : jJ x pc L (jR r :: st) M k n := fun H locs ls hM hS hl => by
  have hO := C.kk.2.2.2.2.2.2.2.2.1
  have e := hM.2.2
  unfold pWF at hF
  cases r with
  | none => cases hF
  | some a =>
    dsimp only at hF
    rw [e] at hF
    split at hF
    · rename_i h0; subst h0; exact jj_wf C (hO _ (List.mem_of_getElem? (i := 1) rfl)) hw d (h _ hF) H locs ls hM hS hl
    · split at hF
      · rename_i h0; subst h0; exact jj_wf C (hO _ (List.mem_of_getElem? (i := 3) rfl)) hw d (h _ hF) H locs ls hM hS hl
      · split at hF
        · rename_i h0; subst h0; exact jj_wf C (hO _ (List.mem_of_getElem? (i := 5) rfl)) hw d (h _ hF) H locs ls hM hS hl
        · cases hF
/-! casts -/
theorem jj_castR (C : jOk x cc own rm rt) {ix a : Nat} {nm : String} (hw : Cond.classLink own ix nm ∈ lw_all) (hr : ∀ H locs, jHd (xg x) M H → va_S (jA (xg x)) (xs x).heap H locs → ∃ cell : Cell, H[a]? = some cell ∧ cell.vm.isStatics = false ∧ (xs x).vm.findClass nm = some cell.cls) (d : decode cc pc = .ok (.checkcast ix, 3)) (h : jJ x (pc + 3) L (jR (some a) :: st) M k n) : jJ x pc L (jR (some a) :: st) M k n := fun H locs ls hM hS hl => by
  obtain ⟨cell, h1, h2, h3⟩ := hr H locs hM hS
  intro T hT X
  obtain ⟨vm', X', st'⟩ := X.checkcastYes C.ex C.ow (C.ts _ hw) (by rw [hT]; exact h1) h2 h3 (va_asg _ _) (g := F0 (xm x) pc ls (.ref a :: st.map jv)) rfl rfl (by rw [C.cb]; exact d)
  obtain ⟨t, a1, b1⟩ := h H locs ls hM hS hl (T.setVm vm') hT X'
  exact ⟨t, st' t a1, b1⟩
def pCC (M : jW) (r : Option Nat) (ci : Nat) (K : Option Nat → Option β) : Option β := match r with
  | none => K none
  | some a => match M.1 a with
    | some (.inr (c, _)) => if c = ci then K (some a) else none
    | _ => none
theorem jj_castN (C : jOk x cc own rm rt) {ix : Nat} (d : decode cc pc = .ok (.checkcast ix, 3)) (h : jJ x (pc + 3) L (jR none :: st) M k n) : jJ x pc L (jR none :: st) M k n := fun H locs ls hM hS hl => lv_castN C.ex C.cb d (h H locs ls hM hS hl)
theorem jj_castC (C : jOk x cc own rm rt) {ci N ix : Nat} {Cn : String} {T : u_T} (hc : jCl[ci]? = some (Cn, T, N)) (hw : Cond.classLink own ix Cn ∈ lw_all) (d : decode cc pc = .ok (.checkcast ix, 3)) {r : Option Nat} {K : Option Nat → Option β} (hF : pCC M r ci K = some out) (h : ∀ v, K v = some out → jJ x (pc + 3) L (jR v :: st) M k n) : jJ x pc L (jR r :: st) M k n := by
  unfold pCC at hF
  cases r with
  | none => exact jj_castN C d (h none hF)
  | some a =>
    dsimp only at hF
    split at hF
    · rename_i c fs e
      by_cases hci : c = ci
      · rw [if_pos hci] at hF
        subst hci
        exact jj_castR C hw (fun H locs hM hS => jrecv C hM e hc) d (h _ hF)
      · rw [if_neg hci] at hF; cases hF
    · cases hF
/-- to the interface of both -/
def pCP (M : jW) (r : Option Nat) (K : Option Nat → Option β) : Option β := match r with
  | none => K none
  | some a => match M.1 a with
    | some (.inr (c, _)) => if c = 4 ∨ c = 5 then K (some a) else none
    | _ => none
theorem jj_castP (C : jOk x cc own rm rt) {ix : Nat} (hw : Cond.classLink own ix "Phrasehall$Part" ∈ lw_all) (d : decode cc pc = .ok (.checkcast ix, 3)) {r : Option Nat} {K : Option Nat → Option β} (hF : pCP M r K = some out) (h : ∀ v, K v = some out → jJ x (pc + 3) L (jR v :: st) M k n) : jJ x pc L (jR r :: st) M k n := by
  unfold pCP at hF
  cases r with
  | none => exact jj_castN C d (h none hF)
  | some a =>
    dsimp only at hF
    split at hF
    · rename_i c fs e
      by_cases hci : c = 4 ∨ c = 5
      · rw [if_pos hci] at hF
        intro H locs ls hM hS hl
        rcases hci with rfl | rfl
        · exact va_castY C.ex C.cb C.ow (C.ts _ hw) (C.nw q587 rfl) (jrecv C hM e rfl) d (h _ hF H locs ls hM hS hl)
        · exact va_castY C.ex C.cb C.ow (C.ts _ hw) (C.nw q591 rfl) (jrecv C hM e rfl) d (h _ hF H locs ls hM hS hl)
      · rw [if_neg hci] at hF; cases hF
    · cases hF
def pCA (M : jW) (r : Option Nat) (t : Nat) (K : Option Nat → Option β) : Option β := match r with
  | none => K none
  | some a => match M.1 a with
    | some (.inl (c, _)) => if c = t then K (some a) else none
    | _ => none
theorem jarr (C : jOk x cc own rm rt) {H : Heap} (hM : jHd (xg x) M H) {a t : Nat} {A : vp_A} (ha : M.1 a = some (.inl (t, A))) {nm : String} (hn : (xs x).vm.findClass nm = some (gA (xg x) t)) : ∃ cell : Cell, H[a]? = some cell ∧ cell.vm.isStatics = false ∧ (xs x).vm.findClass nm = some cell.cls := by
  have hvm0 : (vp_cell (gA (xg x) t) A).vm = .none := by
    obtain ⟨n, f | f | f | f | f⟩ := A <;> rfl
  have hcl0 : (vp_cell (gA (xg x) t) A).cls = gA (xg x) t := by
    obtain ⟨n, f | f | f | f | f⟩ := A <;> rfl
  exact ⟨_, hM.at ha, by rw [hvm0]; rfl, by rw [hcl0]; exact hn⟩
theorem jfc0 (C : jOk x cc own rm rt) : (xs x).vm.findClass "[I" = some (gA (xg x) 0) := (C.K.2 0 _ rfl).2
theorem jfc3 (C : jOk x cc own rm rt) : (xs x).vm.findClass "[Ljava/lang/Object;" = some (gA (xg x) 3) := va_nmO (C.K.2 3 _ rfl).2 rfl
theorem jj_castA0 (C : jOk x cc own rm rt) {ix : Nat} (hw : Cond.classLink own ix "[I" ∈ lw_all) (d : decode cc pc = .ok (.checkcast ix, 3)) {r : Option Nat} {K : Option Nat → Option β} (hF : pCA M r 0 K = some out) (h : ∀ v, K v = some out → jJ x (pc + 3) L (jR v :: st) M k n) : jJ x pc L (jR r :: st) M k n := by
  unfold pCA at hF
  cases r with
  | none => exact jj_castN C d (h none hF)
  | some a =>
    dsimp only at hF
    split at hF
    · rename_i c A e
      by_cases hci : c = 0
      · rw [if_pos hci] at hF
        subst hci
        exact jj_castR C hw (fun H locs hM hS => jarr C hM e (jfc0 C)) d (h _ hF)
      · rw [if_neg hci] at hF; cases hF
    · cases hF
theorem jj_castA3 (C : jOk x cc own rm rt) {ix : Nat} (hw : Cond.classLink own ix "[Ljava/lang/Object;" ∈ lw_all) (d : decode cc pc = .ok (.checkcast ix, 3)) {r : Option Nat} {K : Option Nat → Option β} (hF : pCA M r 3 K = some out) (h : ∀ v, K v = some out → jJ x (pc + 3) L (jR v :: st) M k n) : jJ x pc L (jR r :: st) M k n := by
  unfold pCA at hF
  cases r with
  | none => exact jj_castN C d (h none hF)
  | some a =>
    dsimp only at hF
    split at hF
    · rename_i c A e
      by_cases hci : c = 3
      · rw [if_pos hci] at hF
        subst hci
        exact jj_castR C hw (fun H locs hM hS => jarr C hM e (jfc3 C)) d (h _ hF)
      · rw [if_neg hci] at hF; cases hF
    · cases hF
/-! boxes: the cache's alone -/
theorem jbox (C : jOk x cc own rm rt) {H : Heap} {locs : List Loc} (hM : jHd (xg x) M H) (hS : va_S (jA (xg x)) (xs x).heap H locs) {b : Nat} (hb : jbx M b = true) : ∃ cell : Cell, H[b]? = some cell ∧ cell.vm.isStatics = false ∧ (xs x).vm.findClass "java/lang/Integer" = some cell.cls := by
  unfold jbx at hb
  obtain ⟨j, hj, hbj⟩ := List.any_eq_true.mp hb
  have hbj : b = M.2.2 (16 + j) := by simpa using hbj
  rw [hM.2.2] at hbj
  obtain ⟨cell, h1, h2, h3, -⟩ := (C.kk.2.2.2.2.2.2.2.2.2.2.1.1 j (List.mem_range.mp hj)).kept hS.2.1
  rw [hbj]
  exact ⟨cell, h1, h2, h3⟩
def pCB (M : jW) (r : Option Nat) (K : Option Nat → Option β) : Option β := match r with
  | none => K none
  | some a => if jbx M a = true then K (some a) else none
theorem jj_castB (C : jOk x cc own rm rt) {ix : Nat} (hw : Cond.classLink own ix "java/lang/Integer" ∈ lw_all) (d : decode cc pc = .ok (.checkcast ix, 3)) {r : Option Nat} {K : Option Nat → Option β} (hF : pCB M r K = some out) (h : ∀ v, K v = some out → jJ x (pc + 3) L (jR v :: st) M k n) : jJ x pc L (jR r :: st) M k n := by
  unfold pCB at hF
  cases r with
  | none => exact jj_castN C d (h none hF)
  | some a =>
    dsimp only at hF
    by_cases hb : jbx M a = true
    · rw [if_pos hb] at hF
      exact jj_castR C hw (fun H locs hM hS => jbox C hM hS hb) d (h _ hF)
    · rw [if_neg hb] at hF; cases hF
def pBx (M : jW) (r : Option Nat) (K : Nat → Option β) : Option β := match r with
  | none => none
  | some a => if jbx M a = true then K a else none
theorem pBx_spec {r : Option Nat} {K : Nat → Option β} (h : pBx M r K = some out) : ∃ a, r = some a ∧ jbx M a = true ∧ K a = some out := by
  unfold pBx at h
  cases r with
  | none => cases h
  | some a =>
    dsimp only at h
    by_cases hb : jbx M a = true
    · rw [if_pos hb] at h; exact ⟨a, rfl, hb, h⟩
    · rw [if_neg hb] at h; cases h
/-- a box's number -/
def pBV (M : jW) (r : Option Nat) (K : Int32 → Option β) : Option β := match r with
  | none => none
  | some a => match (List.range 256).find? (fun j => a == M.2.2 (16 + j)) with
    | some j => K (vb_c j)
    | none => none
theorem jj_pBV (C : jOk x cc own rm rt) {ix : Nat} (hw : Cond.fieldLink own ix "java/lang/Integer" "value" "I" ∈ lw_all) (d : decode cc pc = .ok (.getfield ix, 3)) {r : Option Nat} {K : Int32 → Option β} (hF : pBV M r K = some out) (h : ∀ v, K v = some out → jJ x (pc + 3) L (jI v :: st) M k n) : jJ x pc L (jR r :: st) M k n := by
  unfold pBV at hF
  cases r with
  | none => cases hF
  | some a =>
    dsimp only at hF
    split at hF
    · rename_i j e
      have h1 := List.mem_range.mp (List.mem_of_find?_eq_some e)
      have h2 : a = M.2.2 (16 + j) := by simpa using List.find?_some e
      intro H locs ls hM hS hl
      rw [hM.2.2] at h2
      subst h2
      exact va_getX (i := j) (v := fun k => .int (vb_c k)) (ad := fun j => gk (xg x) (16 + j)) C.ex C.cb C.kk.2.2.2.2.2.2.2.2.2.2.1.2 h1 hS C.ow (C.ts _ hw) (fun _ h => h) d (h _ hF H locs ls hM hS hl)
    · cases hF
/-- the cache's array -/
def pBA (M : jW) (r : Option Nat) (i : Int32) (K : Option Nat → Option β) : Option β := if r = some (M.2.2 5) ∧ jin i 256 = true then K (some (M.2.2 (16 + i.toNatClampNeg))) else none
theorem jj_pBA (C : jOk x cc own rm rt) {r : Option Nat} {i : Int32} {K : Option Nat → Option β} (d : decode cc pc = .ok (.aaload, 1)) (hF : pBA M r i K = some out) (h : ∀ v, K v = some out → jJ x (pc + 1) L (jR v :: st) M k n) : jJ x pc L (jI i :: jR r :: st) M k n := by
  unfold pBA at hF
  by_cases hc : r = some (M.2.2 5) ∧ jin i 256 = true
  · rw [if_pos hc] at hF
    obtain ⟨rfl, hi⟩ := hc
    intro H locs ls hM hS hl
    have h' := h _ hF H locs ls hM hS hl
    rw [hM.2.2] at h'
    rw [hM.2.2]
    exact vb_tq C.ex C.cb C.kk.2.2.2.2.2.2.2.2.2.1 hS (jin_vp hi) (v := .ref (gk (xg x) (16 + i.toNatClampNeg))) rfl d h'
  · rw [if_neg hc] at hF; cases hF
/-! instanceof, of an action or a contact -/
def pIO (M : jW) (r : Option Nat) (ci : Nat) (K : Int32 → Option β) : Option β := match r with
  | none => K 0
  | some a => match M.1 a with
    | some (.inr (c, _)) => if c = ci then K 1 else if c = 4 ∨ c = 5 then K 0 else none
    | _ => none
theorem jj_instY (C : jOk x cc own rm rt) {ix a ci N : Nat} {Cn : String} {T : u_T} {fs : List Value} (hw : Cond.classLink own ix Cn ∈ lw_all) (ha : M.1 a = some (.inr (ci, fs))) (hc : jCl[ci]? = some (Cn, T, N)) (d : decode cc pc = .ok (.instanceof ix, 3)) (h : jJ x (pc + 3) L (jI 1 :: st) M k n) : jJ x pc L (jR (some a) :: st) M k n := fun H locs ls hM hS hl => by
  obtain ⟨cell, h1, h2, h3⟩ := jrecv C hM ha hc
  intro T hT X
  obtain ⟨vm', X', st'⟩ := X.instanceofYes C.ex C.ow (C.ts _ hw) (by rw [hT]; exact h1) h2 h3 (va_asg _ _) (g := F0 (xm x) pc ls (.ref a :: st.map jv)) rfl rfl (by rw [C.cb]; exact d)
  obtain ⟨t, a1, b1⟩ := h H locs ls hM hS hl (T.setVm vm') hT X'
  exact ⟨t, st' t a1, b1⟩
theorem jj_inst4 (C : jOk x cc own rm rt) {ix : Nat} (hw : Cond.classLink own ix "Phrasehall$Action" ∈ lw_all) (d : decode cc pc = .ok (.instanceof ix, 3)) {r : Option Nat} {K : Int32 → Option β} (hF : pIO M r 4 K = some out) (h : ∀ v, K v = some out → jJ x (pc + 3) L (jI v :: st) M k n) : jJ x pc L (jR r :: st) M k n := by
  unfold pIO at hF
  cases r with
  | none => exact fun H locs ls hM hS hl => lv_instN C.ex C.cb d (h 0 hF H locs ls hM hS hl)
  | some a =>
    dsimp only at hF
    split at hF
    · rename_i c fs e
      by_cases hci : c = 4
      · rw [if_pos hci] at hF
        subst hci
        exact jj_instY C hw e rfl d (h 1 hF)
      · rw [if_neg hci] at hF
        by_cases hc5 : c = 4 ∨ c = 5
        · rw [if_pos hc5] at hF
          have hc5 : c = 5 := by omega
          subst hc5
          exact fun H locs ls hM hS hl => va_instNo C.ex C.cb C.ow (C.ts _ hw) (C.kk.2.2.2.2.1 _ (List.mem_of_getElem? (i := 1) rfl)) (jrecv C hM e rfl) d (h 0 hF H locs ls hM hS hl)
        · rw [if_neg hc5] at hF; cases hF
    · cases hF
theorem jj_inst5 (C : jOk x cc own rm rt) {ix : Nat} (hw : Cond.classLink own ix "Phrasehall$Contact" ∈ lw_all) (d : decode cc pc = .ok (.instanceof ix, 3)) {r : Option Nat} {K : Int32 → Option β} (hF : pIO M r 5 K = some out) (h : ∀ v, K v = some out → jJ x (pc + 3) L (jI v :: st) M k n) : jJ x pc L (jR r :: st) M k n := by
  unfold pIO at hF
  cases r with
  | none => exact fun H locs ls hM hS hl => lv_instN C.ex C.cb d (h 0 hF H locs ls hM hS hl)
  | some a =>
    dsimp only at hF
    split at hF
    · rename_i c fs e
      by_cases hci : c = 5
      · rw [if_pos hci] at hF
        subst hci
        exact jj_instY C hw e rfl d (h 1 hF)
      · rw [if_neg hci] at hF
        by_cases hc5 : c = 4 ∨ c = 5
        · rw [if_pos hc5] at hF
          have hc5 : c = 4 := by omega
          subst hc5
          exact fun H locs ls hM hS hl => va_instNo C.ex C.cb C.ow (C.ts _ hw) (C.kk.2.2.2.2.1 _ (List.mem_of_getElem? (i := 0) rfl)) (jrecv C hM e rfl) d (h 0 hF H locs ls hM hS hl)
        · rw [if_neg hc5] at hF; cases hF
    · cases hF
/-! Math -/
theorem jj_max (C : jOk x cc own rm rt) {ix : Nat} {a b : Int32} (hw : Cond.methodLink own ix ⟨"java/lang/Math", "max", "(II)I"⟩ ∈ lw_all) (hk : k ≤ rm.cells) (hn : n ≤ rm.slots) (hR : 1 ≤ rm.frames ∧ (st.map jc).sum + 13 ≤ rm.locals) (d : decode cc pc = .ok (.invokestatic ix, 3)) (h : jJ x (pc + 3) L (jI (if a < b then b else a) :: st) M k n) : jJ x pc L (jI b :: jI a :: st) M k n := fun H locs ls hM hS hl =>
  va_mmax C.ex C.cb (by rw [C.ml]; exact hl.1.symm) C.ow (C.ts _ hw) (C.ts _ q334) (C.ts _ q53) (C.ts _ q335) (by rw [C.R]; exact hR.1) (by rw [jcat_sum, C.R]; exact hR.2) (by rw [C.R]; exact hk) (by rw [C.R]; exact hn) d (h H locs ls hM hS hl)
theorem jj_min (C : jOk x cc own rm rt) {ix : Nat} {a b : Int32} (hw : Cond.methodLink own ix ⟨"java/lang/Math", "min", "(II)I"⟩ ∈ lw_all) (hk : k ≤ rm.cells) (hn : n ≤ rm.slots) (hR : 1 ≤ rm.frames ∧ (st.map jc).sum + 13 ≤ rm.locals) (d : decode cc pc = .ok (.invokestatic ix, 3)) (h : jJ x (pc + 3) L (jI (if b < a then b else a) :: st) M k n) : jJ x pc L (jI b :: jI a :: st) M k n := fun H locs ls hM hS hl =>
  va_mmin C.ex C.cb (by rw [C.ml]; exact hl.1.symm) C.ow (C.ts _ hw) (C.ts _ q374) (C.ts _ q53) (C.ts _ q375) (by rw [C.R]; exact hR.1) (by rw [jcat_sum, C.R]; exact hR.2) (by rw [C.R]; exact hk) (by rw [C.R]; exact hn) d (h H locs ls hM hS hl)
/-! getClass of an array of objects -/
def pGC (M : jW) (r : Option Nat) (K : Option Nat → Option β) : Option β := pA M r 3 fun _ _ => K (some (M.2.2 4))
theorem jj_getC (C : jOk x cc own rm rt) {ix : Nat} {r : Option Nat} (hw : Cond.methodLink own ix ⟨"java/lang/Object", "getClass", "()Ljava/lang/Class;"⟩ ∈ lw_all) (hR : 1 ≤ rm.frames ∧ (st.map jc).sum + 14 ≤ rm.locals) (d : decode cc pc = .ok (.invokevirtual ix, 3)) {K : Option Nat → Option β} (hF : pGC M r K = some out) (h : ∀ v, K v = some out → jJ x (pc + 3) L (jR v :: st) M k n) : jJ x pc L (jR r :: st) M k n := by
  obtain ⟨a, A, rfl, h2, h3⟩ := pA_spec hF
  intro H locs ls hM hS hl
  have h' := h _ h3 H locs ls hM hS hl
  rw [hM.2.2] at h'
  exact va_getC C.ex C.cb (by rw [C.ml]; exact hl.1.symm) C.ow (C.ts _ hw) (va_Nw.use rfl (C.nw q1563 rfl)) (C.ts _ q1562) (C.ts _ q344) (C.ts _ q366) C.kk.2.2.2.2.2.2.2.2.2.2.2.2 (jarr C hM h2 (jfc3 C)) (by rw [C.R]; exact hR.1) (by rw [jcat_sum, C.R]; exact hR.2) d h'
end jM
