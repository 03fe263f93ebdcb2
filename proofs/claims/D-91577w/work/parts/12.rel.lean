/-! WHAT THE MACHINE OF OUR OWN SAYS OF THE MODEL'S: the relation -/
def zcont : zA → (Nat → Int32) ⊕ (Nat → Int64) ⊕ (Nat → UInt32) ⊕ (Nat → UInt64) ⊕ (Nat → Option Nat)
  | .inl f => .inl f
  | .inr (.inl f) => .inr (.inl f)
  | .inr (.inr f) => .inr (.inr (.inr (.inr f)))
def zcv (c : zA) (j : Nat) : Value := match c with
  | .inl f => .int (f j)
  | .inr (.inl f) => .long (f j)
  | .inr (.inr f) => va_rf (f j)
def zweak (U : State) (a : Nat) (k n : Nat) (c : zA) (H : Heap) : Prop := ∃ cell : Cell, H[a]? = some cell ∧ U.isArrayOf cell (zak k) ∧ cell.vm ≠ .unknown ∧ cell.slots.size = n ∧ ∀ j : Nat, j < n → cell.slots[j]? = some (zcv c j)
def zat (D : va_G) (dA : Nat → ClassId) (U : State) (a : Nat) (e : zC) (H : Heap) : Prop := match e with
  | .inl (k, n, c) => if k < 8 then H[a]? = some (vp_cell (dA k) (n, zcont c)) ∧ (k = 1 → ∀ j : Nat, j < n → fits .byte (zcv c j) = true) else zweak U a k n c H
  | .inr (ci, V) => ∃ q : vw_C, zcl[ci]? = some q ∧ t_OB a (D.1 ci) q.2.2 (D.2 ci) H (fun k => zvv (V k))
def zwrt (e : zC) : Bool := match e with
  | .inl (k, _, _) => decide (k < 8)
  | .inr (ci, _) => ci != zConstStr
/-- the shape of a cell: an object's class -/
def zsh (e : zC) : Option Nat := match e with
  | .inl _ => none
  | .inr (ci, _) => some ci
theorem zcls_sh (h : zH) (a : Nat) : zcls h a = (h.1 a).bind zsh := by
  unfold zcls
  cases h.1 a with
  | none => rfl
  | some e =>
    match e with
    | .inl _ => rfl
    | .inr (ci, V) => rfl
/-- what an array of Objects holds are objects -/
def zrefs (h : zH) (e : zC) : Prop := match e with
  | .inl (4, n, .inr (.inr f)) => ∀ j : Nat, j < n → ∀ y : Nat, f j = some y → ∃ ci, zcls h y = some ci ∧ zcastObj.contains ci = true
  | _ => True
theorem zrefs.mono {h h' : zH} (hm : ∀ y ci, zcls h y = some ci → zcls h' y = some ci) {e : zC} (hr : zrefs h e) : zrefs h' e := by
  unfold zrefs at hr ⊢
  split
  · intro j hj y hy
    obtain ⟨ci, h1, h2⟩ := hr j hj y hy
    exact ⟨ci, hm y ci h1, h2⟩
  · trivial
def zInv (D : va_G) (dA : Nat → ClassId) (base : Nat) (U : State) (h : zH) (H : Heap) : Prop :=
  H.size = h.2.1 ∧ base ≤ H.size ∧ ∀ (a : Nat) (e : zC), h.1 a = some e → zat D dA U a e H ∧ (zwrt e = true → base ≤ a) ∧ zrefs h e
theorem zat.kept {D : va_G} {dA : Nat → ClassId} {U : State} {a : Nat} {e : zC} {H H1 : Heap} (h : zat D dA U a e H) (hq : H1[a]? = H[a]?) : zat D dA U a e H1 := by
  match e, h with
  | .inl (k, n, c), h =>
    simp only [zat] at h ⊢
    split at h
    · rename_i hk
      rw [if_pos hk, hq]; exact h
    · rename_i hk
      rw [if_neg hk]
      obtain ⟨cell, h1, h2⟩ := h
      exact ⟨cell, by rw [hq]; exact h1, h2⟩
  | .inr (ci, V), h =>
    obtain ⟨q, h1, h2⟩ := h
    exact ⟨q, h1, h2.kept hq⟩
theorem zat.moved {D : va_G} {dA : Nat → ClassId} {u U : State} (hvm : u.vm.Alike U.vm) {a : Nat} {e : zC} {H : Heap} (h : zat D dA u a e H) : zat D dA U a e H := by
  match e, h with
  | .inl (k, n, c), h =>
    simp only [zat] at h ⊢
    split at h
    · rename_i hk
      rw [if_pos hk]; exact h
    · rename_i hk
      rw [if_neg hk]
      obtain ⟨cell, h1, h2, h3⟩ := h
      exact ⟨cell, h1, State.isArrayOf_alike hvm h2, h3⟩
  | .inr (ci, V), h => exact h
theorem zat.lt {D : va_G} {dA : Nat → ClassId} {U : State} {a : Nat} {e : zC} {H : Heap} (h : zat D dA U a e H) : a < H.size := by
  match e, h with
  | .inl (k, n, c), h =>
    simp only [zat] at h
    split at h
    · exact (Array.getElem?_eq_some_iff.mp h.1).1
    · obtain ⟨cell, h1, -⟩ := h
      exact (Array.getElem?_eq_some_iff.mp h1).1
  | .inr (ci, V), h =>
    obtain ⟨q, h1, cell, h2, -⟩ := h
    exact (Array.getElem?_eq_some_iff.mp h2).1
theorem zInv.moved {D : va_G} {dA : Nat → ClassId} {base : Nat} {u U : State} (hvm : u.vm.Alike U.vm) {h : zH} {H : Heap} (hI : zInv D dA base u h H) : zInv D dA base U h H :=
  ⟨hI.1, hI.2.1, fun a e he => ⟨(hI.2.2 a e he).1.moved hvm, (hI.2.2 a e he).2⟩⟩
def ztys (dA : Nat → ClassId) : List (ClassId × FieldType) := (List.range 8).map fun k => (dA k, zak k)
theorem ztys_at (dA : Nat → ClassId) {k : Nat} (hk : k < 8) : (ztys dA)[k]? = some (dA k, zak k) := by
  simp [ztys, hk]
/-- one cell written -/
theorem zInv.put {D : va_G} {dA : Nat → ClassId} {base : Nat} {U : State} {h : zH} {H H1 : Heap} (hI : zInv D dA base U h H) {a : Nat} {e e' : zC} (he : h.1 a = some e) (hw : zwrt e = zwrt e') (hs : zsh e = zsh e') (hr : zrefs h e') (hz : H1.size = H.size) (ho : ∀ q : Nat, q ≠ a → H1[q]? = H[q]?) (hat : zat D dA U a e' H1) : zInv D dA base U (zup h.1 a (some e'), h.2.1, h.2.2) H1 := by
  have hm : ∀ y ci, zcls h y = some ci → zcls (zup h.1 a (some e'), h.2.1, h.2.2) y = some ci := by
    intro y ci hy
    rw [zcls_sh] at hy ⊢
    simp only [zup]
    split
    · rename_i hb
      subst hb
      rw [he] at hy
      show zsh e' = some ci
      rw [← hs]
      exact hy
    · exact hy
  refine ⟨hz.trans hI.1, by rw [hz]; exact hI.2.1, fun b f hf => ?_⟩
  simp only [zup] at hf
  split at hf
  · rename_i hb
    cases hf
    subst hb
    exact ⟨hat, fun hq => (hI.2.2 _ e he).2.1 (by rw [hw]; exact hq), hr.mono hm⟩
  · rename_i hb
    exact ⟨(hI.2.2 b f hf).1.kept (ho b hb), (hI.2.2 b f hf).2.1, (hI.2.2 b f hf).2.2.mono hm⟩
/-- one cell made -/
theorem zInv.push {D : va_G} {dA : Nat → ClassId} {base : Nat} {U : State} {h : zH} {H H1 : Heap} (hI : zInv D dA base U h H) {e : zC} {n : Nat} (hr : zrefs h e) (hz : H1.size = H.size + 1) (ho : ∀ q : Nat, q < H.size → H1[q]? = H[q]?) (hat : zat D dA U H.size e H1) : zInv D dA base U (zalloc h e n) H1 := by
  have hm : ∀ y ci, zcls h y = some ci → zcls (zalloc h e n) y = some ci := by
    intro y ci hy
    rw [zcls_sh] at hy ⊢
    simp only [zalloc, zup]
    split
    · rename_i hb
      subst hb
      cases hc : h.1 h.2.1 with
      | none => rw [hc] at hy; cases hy
      | some f =>
        have h1 := (hI.2.2 _ f hc).1.lt
        rw [hI.1] at h1
        exact absurd h1 (Nat.lt_irrefl _)
    · exact hy
  refine ⟨by simp [zalloc, hz, hI.1], by rw [hz]; exact Nat.le_succ_of_le hI.2.1, fun b f hf => ?_⟩
  have hf0 := hf
  simp only [zalloc, zup] at hf
  split at hf
  · rename_i hb
    cases hf
    rw [hb, ← hI.1]
    exact ⟨hat, fun _ => hI.2.1, hr.mono hm⟩
  · have h1 := (hI.2.2 b f hf).1
    exact ⟨h1.kept (ho b h1.lt), (hI.2.2 b f hf).2.1, (hI.2.2 b f hf).2.2.mono hm⟩
theorem zpush_o {H : Heap} {cell : Cell} : (H.push cell).size = H.size + 1 ∧ (∀ q : Nat, q < H.size → (H.push cell)[q]? = H[q]?) ∧ (H.push cell)[H.size]? = some cell := by
  refine ⟨by simp, fun q hq => ?_, by simp⟩
  rw [Array.getElem?_push, if_neg (Nat.ne_of_lt hq)]
/-- any array, weakly -/
theorem zat.weak {D : va_G} {dA : Nat → ClassId} {U : State} {a k n : Nat} {c : zA} {H : Heap} (hK : va_K D zcl (ztys dA) U) (h : zat D dA U a (.inl (k, n, c)) H) : zweak U a k n c H := by
  simp only [zat] at h
  split at h
  · rename_i hk
    have hA := (hK.2 k _ (ztys_at dA hk)).1
    match c, h with
    | .inl f, h => exact ⟨_, h.1, hA n _, (fun q => by cases q), arrV_size _ _ _, fun j hj => arrV_read _ _ hj⟩
    | .inr (.inl f), h => exact ⟨_, h.1, hA n _, (fun q => by cases q), arrV_size _ _ _, fun j hj => arrV_read _ _ hj⟩
    | .inr (.inr f), h => exact ⟨_, h.1, hA n _, (fun q => by cases q), arrV_size _ _ _, fun j hj => arrV_read _ _ hj⟩
  · exact h
/-! locals -/
theorem zg_lt : ∀ {ls : zLs} {k : Nat} {v : zV}, zg ls k = some v → k < ls.length
  | x :: xs, 0, v, _ => Nat.zero_lt_succ _
  | x :: xs, k + 1, v, h => Nat.succ_lt_succ (zg_lt (ls := xs) h)
theorem zg_get : ∀ (ls : zLs) (k : Nat), zg ls k = (ls[k]?).join
  | [], k => by simp [zg]
  | x :: xs, 0 => by simp [zg]
  | x :: xs, k + 1 => by simp only [zg, List.getElem?_cons_succ]; exact zg_get xs k
theorem zg_set (ls : zLs) (k j : Nat) (o : Option zV) : zg (ls.set k o) j = if j = k ∧ k < ls.length then o else zg ls j := by
  rw [zg_get, zg_get, List.getElem?_set]
  by_cases h : k = j
  · subst h
    by_cases h2 : k < ls.length
    · simp [h2]
    · have h3 : ls[k]? = none := by simpa using h2
      simp [h2, h3]
  · have h' : ¬ j = k := fun e => h e.symm
    simp [h, h']
def zas (ls : zLs) : List (Nat × Value) := (List.range ls.length).filterMap fun k => (zg ls k).map fun v => (k, zvv v)
theorem zas_mem {ls : zLs} {k : Nat} {w : Value} : (k, w) ∈ zas ls ↔ ∃ v, zg ls k = some v ∧ w = zvv v := by
  unfold zas
  rw [List.mem_filterMap]
  constructor
  · rintro ⟨j, -, h⟩
    rw [Option.map_eq_some_iff] at h
    obtain ⟨v, h1, h2⟩ := h
    cases h2
    exact ⟨v, h1, rfl⟩
  · rintro ⟨v, h1, rfl⟩
    exact ⟨k, List.mem_range.mpr (zg_lt h1), by rw [h1]; rfl⟩
def zLoc (y nL : Nat) (als : Array Slot) (ls : zLs) : Prop := als.size = nL ∧ lv_wf als ∧ ls.length = nL ∧ (∀ k v, zg ls k = some v → als[k]? = some (.val (zvv v))) ∧ ∀ k x, zg ls k = some (zl x) → (zlgs y).contains k = true
theorem zLoc.has {y nL : Nat} {als : Array Slot} {ls : zLs} (h : zLoc y nL als ls) : lv_has als nL (zas ls) := by
  refine ⟨h.1, h.2.1, fun q hq => ?_⟩
  obtain ⟨k, w⟩ := q
  obtain ⟨v, h1, rfl⟩ := zas_mem.mp hq
  exact h.2.2.2.1 k v h1
theorem zkill_len (y : Nat) (ls : zLs) (k : Nat) : (zkill y ls k).length = ls.length := by
  unfold zkill
  split
  · rfl
  · split <;> simp
theorem zkill_g {y : Nat} {ls : zLs} {k j : Nat} {v : zV} (h : zg (zkill y ls k) j = some v) : zg ls j = some v ∧ ¬ (j + 1 = k ∧ (zlgs y).contains j = true) := by
  unfold zkill at h
  split at h
  · exact ⟨h, fun e => by cases e.1⟩
  · rename_i j'
    split at h
    · rw [zg_set] at h
      split at h
      · cases h
      · rename_i hc hn
        refine ⟨h, fun e => ?_⟩
        have e1 : j = j' := Nat.succ.inj e.1
        subst e1
        exact hn ⟨rfl, zg_lt h⟩
    · rename_i hc
      refine ⟨h, fun e => ?_⟩
      have e1 : j = j' := Nat.succ.inj e.1
      subst e1
      exact hc e.2
theorem zvv_cat (v : zV) : (zvv v).category = zcat v := by
  match v with
  | .inl x => rfl
  | .inr (.inl x) => rfl
  | .inr (.inr none) => rfl
  | .inr (.inr (some a)) => rfl
theorem zcat2 {v : zV} (h : zcat v = 2) : ∃ x, v = zl x := by
  match v, h with
  | .inr (.inl x), _ => exact ⟨x, rfl⟩
theorem zLoc.st1 {y nL : Nat} {als als' : Array Slot} {ls : zLs} (h : zLoc y nL als ls) {k : Nat} {v : zV} (hv : zcat v = 1) (hk : k < nL)
    (h' : lv_has als' nL ((k, zvv v) :: (zas ls).filter (fun q => !(q.1 == k) && !(q.1 + 1 == k && q.2.category == 2)))) : zLoc y nL als' (zst1 y ls k v) := by
  have key : ∀ j w, zg (zst1 y ls k v) j = some w → (j = k ∧ w = v) ∨ (j ≠ k ∧ zg ls j = some w ∧ ¬ (j + 1 = k ∧ (zlgs y).contains j = true)) := by
    intro j w hj
    unfold zst1 at hj
    rw [zg_set] at hj
    split at hj
    · rename_i hc
      cases hj
      exact Or.inl ⟨hc.1, rfl⟩
    · rename_i hc
      obtain ⟨h1, h2⟩ := zkill_g hj
      refine Or.inr ⟨fun e => hc ⟨e, ?_⟩, h1, h2⟩
      rw [zkill_len, h.2.2.1]; exact hk
  refine ⟨h'.1, h'.2.1, by simp [zst1, zkill_len, h.2.2.1], fun j w hj => ?_, fun j x hj => ?_⟩
  · rcases key j w hj with ⟨rfl, rfl⟩ | ⟨h1, h2, h3⟩
    · exact h'.2.2 (j, zvv w) List.mem_cons_self
    · refine h'.2.2 (j, zvv w) (List.mem_cons_of_mem _ (List.mem_filter.mpr ⟨zas_mem.mpr ⟨w, h2, rfl⟩, ?_⟩))
      simp only [Bool.and_eq_true, Bool.not_eq_true', beq_eq_false_iff_ne, ne_eq]
      refine ⟨h1, ?_⟩
      cases hq : (j + 1 == k && (zvv w).category == 2) with
      | false => rfl
      | true =>
        simp only [Bool.and_eq_true, beq_iff_eq] at hq
        rw [zvv_cat] at hq
        obtain ⟨x, rfl⟩ := zcat2 hq.2
        exact absurd ⟨hq.1, h.2.2.2.2 j x h2⟩ h3
  · rcases key j _ hj with ⟨rfl, e⟩ | ⟨h1, h2, h3⟩
    · rw [← e] at hv; cases hv
    · exact h.2.2.2.2 j x h2
theorem zLoc.st2 {y nL : Nat} {als als' : Array Slot} {ls : zLs} (h : zLoc y nL als ls) {k : Nat} {x : Int64} (hk : k + 1 < nL) (hz : (zlgs y).contains k = true)
    (h' : lv_has als' nL ((k, zvv (zl x)) :: (zas ls).filter (fun q => !(q.1 == k) && (!(q.1 == k + 1) && !(q.1 + 1 == k && q.2.category == 2))))) : zLoc y nL als' (zst2 y ls k (zl x)) := by
  have key : ∀ j w, zg (zst2 y ls k (zl x)) j = some w → (j = k ∧ w = zl x) ∨ (j ≠ k ∧ j ≠ k + 1 ∧ zg ls j = some w ∧ ¬ (j + 1 = k ∧ (zlgs y).contains j = true)) := by
    intro j w hj
    unfold zst2 at hj
    rw [zg_set] at hj
    split at hj
    · cases hj
    · rename_i hc0
      rw [zg_set] at hj
      split at hj
      · rename_i hc
        cases hj
        exact Or.inl ⟨hc.1, rfl⟩
      · rename_i hc
        obtain ⟨h1, h2⟩ := zkill_g hj
        refine Or.inr ⟨fun e => hc ⟨e, ?_⟩, fun e => hc0 ⟨e, ?_⟩, h1, h2⟩
        · rw [zkill_len, h.2.2.1]; omega
        · simp [zkill_len, h.2.2.1]; exact hk
  refine ⟨h'.1, h'.2.1, by simp [zst2, zkill_len, h.2.2.1], fun j w hj => ?_, fun j x' hj => ?_⟩
  · rcases key j w hj with ⟨rfl, rfl⟩ | ⟨h1, h1', h2, h3⟩
    · exact h'.2.2 (j, _) List.mem_cons_self
    · refine h'.2.2 (j, zvv w) (List.mem_cons_of_mem _ (List.mem_filter.mpr ⟨zas_mem.mpr ⟨w, h2, rfl⟩, ?_⟩))
      simp only [Bool.and_eq_true, Bool.not_eq_true', beq_eq_false_iff_ne, ne_eq]
      refine ⟨h1, h1', ?_⟩
      cases hq : (j + 1 == k && (zvv w).category == 2) with
      | false => rfl
      | true =>
        simp only [Bool.and_eq_true, beq_iff_eq] at hq
        rw [zvv_cat] at hq
        obtain ⟨x9, rfl⟩ := zcat2 hq.2
        exact absurd ⟨hq.1, h.2.2.2.2 j x9 h2⟩ h3
  · rcases key j _ hj with ⟨rfl, e⟩ | ⟨h1, h1', h2, h3⟩
    · exact hz
    · exact h.2.2.2.2 j x' h2
