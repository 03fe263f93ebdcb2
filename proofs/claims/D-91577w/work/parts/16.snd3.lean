/-! SOUND, ONE INSTRUCTION: fields, arrays, what is made -/
theorem zfind_mem {α : Type} {q : α → Bool} {l : List α} {x : α} (h : zfind q l = some x) : x ∈ l ∧ q x = true := by
  induction l with
  | nil => cases h
  | cons a l ih =>
    simp only [zfind] at h
    split at h
    · rename_i hq
      cases h
      exact ⟨List.mem_cons_self, hq⟩
    · exact ⟨List.mem_cons_of_mem _ (ih h).1, (ih h).2⟩
theorem zkey {a b x y : Nat} (h : (x == a && y == b) = true) : x = a ∧ y = b := by
  simp only [Bool.and_eq_true, beq_iff_eq] at h
  exact h
theorem zfits_ok {kd : Nat} {v : zV} {ty : FieldType} (h : zfits kd v = true) (hk : zkd ty = kd) : narrow ty (zvv v) = zvv v ∧ fits ty (zvv v) = true := by
  have hf : fits ty (zvv v) = true := by
    subst hk
    match ty, v, h with
    | .int, .inl x, _ => rfl
    | .boolean, .inl x, h => exact h
    | .byte, .inl x, h => exact h
    | .char, .inl x, h => exact h
    | .long, .inr (.inl x), _ => rfl
    | .object C, .inr (.inr none), _ => rfl
    | .object C, .inr (.inr (some a)), _ => rfl
    | .array t, .inr (.inr none), _ => rfl
    | .array t, .inr (.inr (some a)), _ => rfl
    | .float, v, h => simp [zfits, zkd] at h
    | .double, v, h => simp [zfits, zkd] at h
  exact ⟨narrow_of_fits hf, hf⟩
theorem zrd_inv {h : zH} {r : Option Nat} {k kd : Nat} {cis : List Nat} {v : zV} (hx : zrd h r k kd cis = some v) : ∃ a ci V, r = some a ∧ h.1 a = some (.inr (ci, V)) ∧ ci ∈ cis ∧ v = V k := by
  unfold zrd at hx
  split at hx
  · cases hx
  · split at hx
    · split at hx
      · rename_i hc
        cases hx
        simp only [Bool.and_eq_true, List.contains_iff_mem] at hc
        exact ⟨_, _, _, rfl, by assumption, hc.1, rfl⟩
      · cases hx
    · cases hx
theorem zwr_inv {h h' : zH} {r : Option Nat} {k kd : Nat} {cis : List Nat} {v : zV} (hx : zwr h r k kd cis v = some h') : ∃ a ci V, r = some a ∧ h.1 a = some (.inr (ci, V)) ∧ ci ∈ cis ∧ ci ≠ zConstStr ∧ zfits kd v = true ∧ h' = (zup h.1 a (some (.inr (ci, zup V k v))), h.2.1, h.2.2) := by
  unfold zwr at hx
  split at hx
  · cases hx
  · split at hx
    · split at hx
      · rename_i hc
        cases hx
        simp only [Bool.and_eq_true, List.contains_iff_mem, bne_iff_ne, ne_eq] at hc
        exact ⟨_, _, _, rfl, by assumption, hc.1.1, hc.1.2, hc.2, rfl⟩
      · cases hx
    · cases hx
theorem zmem_cl {ci : Nat} {q : vw_C} (h : zcl[ci]? = some q) : q ∈ zcl := List.mem_of_getElem? h
section ZC
variable {D : va_G} {dA : Nat → ClassId} {G : Nat → Option Nat} {base d y : Nat} {p : Program} {l : Launch} {e : Env} {R : Room} {s : State} {m : MethodId} {args : Array Value} {below : List Frame} {meth : Method} {c : Code} {Q : State → Prop} {M S mc ms : Nat}
variable {pc n pc' : Nat} {ls ls' : zLs} {st st' : List zV} {h h' : zH}
theorem zCtx.in (C : zCtx D dA G base d y p l R s m args meth c mc ms) {q : vw_C} (hq : q ∈ zcl) : ∀ w ∈ u_ws q.1 q.2.1 q.2.2, w ∈ lwB := fun w hw => zlB (zcl_in q hq w hw)
theorem zCtx.nw (C : zCtx D dA G base d y p l R s m args meth c mc ms) {w : Jvm.Cond} (hw : w ∈ lw_tbl) (hn : zisNW w = true) (ht : w.onTables = true) : w.before args s = true := va_Nw.use ht (C.2.2.2.2.2.2.2.2.2.2.1.2.1 w hw hn)
theorem zs_getf (C : zCtx D dA G base d y p l R s m args meth c mc ms) {idx : Nat} (hd : decode (zm y).2.1 pc = .ok (.getfield idx, 3))
    (hx : zX G (.getfield idx) 3 d y pc ls st h = some (.inl (pc', ls', st', h'))) (kk : zOK D dA base y p l e R s m args below meth c Q M S mc ms pc' ls' st' h') : zOK D dA base y p l e R s m args below meth c Q M S mc ms pc ls st h := by
  intro H locs cells slots als hR
  simp only [zX] at hx
  split at hx
  · rename_i f hf
    obtain ⟨hm, hk⟩ := zfind_mem hf
    obtain ⟨ho, hi⟩ := zkey hk
    unfold zgetf at hx
    split at hx
    · rename_i r st
      obtain ⟨v, hv, hx⟩ := Option.bind_eq_some_iff.mp hx
      cases zgo_inv hx
      obtain ⟨a, ci, V, rfl, ha, hci, rfl⟩ := zrd_inv hv
      obtain ⟨q, hq, hkN, -, ref, hsame, hlink, -⟩ := zfs_ok f hm ci hci
      obtain ⟨q', hq', cell, q1, q2, q3, q4⟩ := (hR.1.2.2 a _ ha).1
      cases hq.symm.trans hq'
      have hK := C.2.2.2.2.2.2.2.2.2.2.1.1
      have hts := C.2.2.2.2.2.2.2.1
      obtain ⟨hS, hfc, kC, hkC, hkind⟩ := hK.1 ci q hq
      obtain ⟨cf, kf, fi, fd, hi9, hsl⟩ := hS _ hkN
      have hst := (u_facts hfc hkC (u_lays hts (C.in (zmem_cl hq)) hkN) hi9).1
      have hs9 : s.fieldFound? ref (q.2.1 f.2.2.1).2.1 (q.2.1 f.2.2.1).2.2.1 = some (cf, kf, fi, fd) := by
        rcases hsame with h9 | h9
        · rw [h9]; exact hi9
        · exact u_same (hts _ (zlB h9)) _ hi9
      have hown : s.vm.findClass (zcn f.1) = some m.cls := by rw [ho]; exact C.2.2.2.2.2.2.1
      subst hi
      split at hlink
      · exact va_Wgetf (v := zvv (V f.2.2.1)) C.1 C.2.2.1 hown (C.nw hlink rfl rfl) hs9 hst q1 (by rw [q3]; exact fun z => by cases z) (by rw [hsl, q4 _ hkN]) rfl rfl hd (kk H locs cells slots als hR)
      · exact W.getf (v := zvv (V f.2.2.1)) C.1 C.2.2.1 hown (hts _ (zlB hlink)) hs9 hst q1 (by rw [q3]; exact fun z => by cases z) (by rw [hsl, q4 _ hkN]) rfl rfl hd (kk H locs cells slots als hR)
    · cases hx
  · cases hx
end ZC
