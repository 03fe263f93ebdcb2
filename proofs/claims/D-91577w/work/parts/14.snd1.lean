/-! SOUND, ONE INSTRUCTION: what stays in the body -/
section ZC
variable {D : va_G} {dA : Nat → ClassId} {G : Nat → Option Nat} {base d y : Nat} {p : Program} {l : Launch} {e : Env} {R : Room} {s : State} {m : MethodId} {args : Array Value} {below : List Frame} {meth : Method} {c : Code} {Q : State → Prop} {M S mc ms : Nat}
variable {pc n pc' : Nat} {ls ls' : zLs} {st st' : List zV} {h h' : zH} {cc : ByteArray}
theorem zgo_inv {o : zS} (h1 : zgo pc ls st h = some o) : o = .inl (pc, ls, st, h) := (Option.some.inj h1).symm
theorem zs_loadI {k : Nat} (hx : zloadI k pc n ls st h = some (.inl (pc', ls', st', h'))) : ∃ x, zg ls k = some (zi x) ∧ pc' = pc + n ∧ ls' = ls ∧ st' = zi x :: st ∧ h' = h := by
  unfold zloadI at hx
  split at hx
  · rename_i x hg
    cases zgo_inv hx
    exact ⟨x, hg, rfl, rfl, rfl, rfl⟩
  · cases hx
theorem zs_loadL {k : Nat} (hx : zloadL k pc n ls st h = some (.inl (pc', ls', st', h'))) : ∃ x, zg ls k = some (zl x) ∧ pc' = pc + n ∧ ls' = ls ∧ st' = zl x :: st ∧ h' = h := by
  unfold zloadL at hx
  split at hx
  · rename_i x hg
    cases zgo_inv hx
    exact ⟨x, hg, rfl, rfl, rfl, rfl⟩
  · cases hx
theorem zs_loadR {k : Nat} (hx : zloadR k pc n ls st h = some (.inl (pc', ls', st', h'))) : ∃ x, zg ls k = some (zr x) ∧ pc' = pc + n ∧ ls' = ls ∧ st' = zr x :: st ∧ h' = h := by
  unfold zloadR at hx
  split at hx
  · rename_i x hg
    cases zgo_inv hx
    exact ⟨x, hg, rfl, rfl, rfl, rfl⟩
  · cases hx
theorem zs_bin {f : Int32 → Int32 → Int32} (hx : zbin f pc ls st h = some (.inl (pc', ls', st', h'))) : ∃ a b r, st = zi b :: zi a :: r ∧ pc' = pc + 1 ∧ ls' = ls ∧ st' = zi (f a b) :: r ∧ h' = h := by
  unfold zbin at hx
  split at hx
  · cases zgo_inv hx
    exact ⟨_, _, _, rfl, rfl, rfl, rfl, rfl⟩
  · cases hx
theorem zs_binL {f : Int64 → Int64 → Int64} (hx : zbinL f pc ls st h = some (.inl (pc', ls', st', h'))) : ∃ a b r, st = zl b :: zl a :: r ∧ pc' = pc + 1 ∧ ls' = ls ∧ st' = zl (f a b) :: r ∧ h' = h := by
  unfold zbinL at hx
  split at hx
  · cases zgo_inv hx
    exact ⟨_, _, _, rfl, rfl, rfl, rfl, rfl⟩
  · cases hx
theorem zs_un {f : Int32 → Int32} (hx : zun f pc ls st h = some (.inl (pc', ls', st', h'))) : ∃ a r, st = zi a :: r ∧ pc' = pc + 1 ∧ ls' = ls ∧ st' = zi (f a) :: r ∧ h' = h := by
  unfold zun at hx
  split at hx
  · cases zgo_inv hx
    exact ⟨_, _, rfl, rfl, rfl, rfl, rfl⟩
  · cases hx
theorem zs_j {off : Int} (hx : zj pc off ls st h = some (.inl (pc', ls', st', h'))) : (pc : Int) + off = (pc' : Int) ∧ ls' = ls ∧ st' = st ∧ h' = h := by
  unfold zj at hx
  split at hx
  · rename_i h0
    cases zgo_inv hx
    exact ⟨ztg_int h0, rfl, rfl, rfl⟩
  · cases hx
/-- a branch: either way -/
theorem zs_ite {P : Prop} {_ : Decidable P} {A B : Option zS} {o : zS} (hx : (if P then A else B) = some o) : (P ∧ A = some o) ∨ (¬ P ∧ B = some o) := by
  split at hx
  · rename_i h; exact Or.inl ⟨h, hx⟩
  · rename_i h; exact Or.inr ⟨h, hx⟩
theorem zs_loads (C : zCtx D dA G base d y p l R s m args meth c mc ms) (i : Instr) (hd : decode (zm y).2.1 pc = .ok (i, n)) (hn : zln i n = n)
    (hi : match i with | .iload _ | .iload_n _ | .aload _ | .aload_n _ | .lload _ | .lload_n _ => True | _ => False)
    (hx : zX G i n d y pc ls st h = some (.inl (pc', ls', st', h'))) (kk : zOK D dA base y p l e R s m args below meth c Q M S mc ms pc' ls' st' h') : zOK D dA base y p l e R s m args below meth c Q M S mc ms pc ls st h := by
  have hex := C.1
  have hb := C.2.2.1
  intro H locs cells slots als hR
  cases i <;> first | (cases hi; done) | skip
  case iload k =>
    obtain ⟨x, hg, rfl, rfl, rfl, rfl⟩ := zs_loadI hx
    cases (show 2 = n from hn)
    exact lv_iload hex hb hd (hR.get hg) (kk H locs cells slots als hR)
  case iload_n k =>
    obtain ⟨x, hg, rfl, rfl, rfl, rfl⟩ := zs_loadI hx
    cases (show 1 = n from hn)
    exact lv_iload_n hex hb hd rfl (hR.get hg) (kk H locs cells slots als hR)
  case lload k =>
    obtain ⟨x, hg, rfl, rfl, rfl, rfl⟩ := zs_loadL hx
    cases (show 2 = n from hn)
    exact lv_lload hex hb hd (hR.get hg) (kk H locs cells slots als hR)
  case lload_n k =>
    obtain ⟨x, hg, rfl, rfl, rfl, rfl⟩ := zs_loadL hx
    cases (show 1 = n from hn)
    exact lv_lload_n hex hb hd rfl (hR.get hg) (kk H locs cells slots als hR)
  case aload k =>
    obtain ⟨x, hg, rfl, rfl, rfl, rfl⟩ := zs_loadR hx
    cases (show 2 = n from hn)
    have h1 := hR.get hg
    have h2 := kk H locs cells slots als hR
    cases x with
    | none => exact lv_aloadN hex hb hd h1 h2
    | some a => exact lv_aload hex hb hd h1 h2
  case aload_n k =>
    obtain ⟨x, hg, rfl, rfl, rfl, rfl⟩ := zs_loadR hx
    cases (show 1 = n from hn)
    have h1 := hR.get hg
    have h2 := kk H locs cells slots als hR
    cases x with
    | none => exact lv_aload_nN hex hb hd rfl h1 h2
    | some a => exact lv_aload_n hex hb hd rfl h1 h2
theorem zs_stoI {k : Nat} (hx : zstoI k y pc n ls st h = some (.inl (pc', ls', st', h'))) : ∃ x, st = zi x :: st' ∧ k < ls.length ∧ pc' = pc + n ∧ ls' = zst1 y ls k (zi x) ∧ h' = h := by
  unfold zstoI at hx
  split at hx
  · split at hx
    · rename_i hk
      cases zgo_inv hx
      exact ⟨_, rfl, hk, rfl, rfl, rfl⟩
    · cases hx
  · cases hx
theorem zs_stoR {k : Nat} (hx : zstoR k y pc n ls st h = some (.inl (pc', ls', st', h'))) : ∃ x, st = zr x :: st' ∧ k < ls.length ∧ pc' = pc + n ∧ ls' = zst1 y ls k (zr x) ∧ h' = h := by
  unfold zstoR at hx
  split at hx
  · split at hx
    · rename_i hk
      cases zgo_inv hx
      exact ⟨_, rfl, hk, rfl, rfl, rfl⟩
    · cases hx
  · cases hx
theorem zs_stoL {k : Nat} (hx : zstoL k y pc n ls st h = some (.inl (pc', ls', st', h'))) : ∃ x, st = zl x :: st' ∧ k + 1 < ls.length ∧ (zlgs y).contains k = true ∧ pc' = pc + n ∧ ls' = zst2 y ls k (zl x) ∧ h' = h := by
  unfold zstoL at hx
  split at hx
  · split at hx
    · rename_i hk
      cases zgo_inv hx
      exact ⟨_, rfl, hk.1, hk.2, rfl, rfl, rfl⟩
    · cases hx
  · cases hx
theorem zs_stores (C : zCtx D dA G base d y p l R s m args meth c mc ms) (i : Instr) (hd : decode (zm y).2.1 pc = .ok (i, n)) (hn : zln i n = n)
    (hi : match i with | .istore _ | .istore_n _ | .astore _ | .astore_n _ | .lstore _ | .lstore_n _ | .iinc .. => True | _ => False)
    (hx : zX G i n d y pc ls st h = some (.inl (pc', ls', st', h'))) (kk : zOK D dA base y p l e R s m args below meth c Q M S mc ms pc' ls' st' h') : zOK D dA base y p l e R s m args below meth c Q M S mc ms pc ls st h := by
  have hex := C.1
  have hb := C.2.2.1
  intro H locs cells slots als hR
  have hL := hR.2.2.1
  have hlen := hL.2.2.1
  have go1 : ∀ {k : Nat} {v : zV}, zcat v = 1 → k < ls.length → ∀ {als' : Array Slot}, lv_has als' c.maxLocals ((k, zvv v) :: (zas ls).filter (fun q => !(q.1 == k) && !(q.1 + 1 == k && q.2.category == 2))) → zRel D dA base y s c h (zst1 y ls k v) M S mc ms H locs cells slots als' :=
    fun hv hk _ h' => hR.loc (hL.st1 hv (by rw [← hlen]; exact hk) h')
  cases i <;> first | (cases hi; done) | skip
  case istore k =>
    obtain ⟨x, rfl, hk, rfl, rfl, rfl⟩ := zs_stoI hx
    cases (show 2 = n from hn)
    exact lv_istore hex hb hd hL.has (by rw [← hlen]; exact hk) rfl fun als' h' => kk H locs cells slots als' (go1 rfl hk h')
  case istore_n k =>
    obtain ⟨x, rfl, hk, rfl, rfl, rfl⟩ := zs_stoI hx
    cases (show 1 = n from hn)
    exact lv_istore_n hex hb hd rfl hL.has (by rw [← hlen]; exact hk) rfl fun als' h' => kk H locs cells slots als' (go1 rfl hk h')
  case astore k =>
    obtain ⟨x, rfl, hk, rfl, rfl, rfl⟩ := zs_stoR hx
    cases (show 2 = n from hn)
    cases x with
    | none => exact lv_astoreN hex hb hd hL.has (by rw [← hlen]; exact hk) rfl fun als' h' => kk H locs cells slots als' (go1 (v := zr none) rfl hk h')
    | some a => exact lv_astore hex hb hd hL.has (by rw [← hlen]; exact hk) rfl fun als' h' => kk H locs cells slots als' (go1 (v := zr (some a)) rfl hk h')
  case astore_n k =>
    obtain ⟨x, rfl, hk, rfl, rfl, rfl⟩ := zs_stoR hx
    cases (show 1 = n from hn)
    cases x with
    | none => exact lv_astore_nN hex hb hd rfl hL.has (by rw [← hlen]; exact hk) rfl fun als' h' => kk H locs cells slots als' (go1 (v := zr none) rfl hk h')
    | some a => exact lv_astore_n hex hb hd rfl hL.has (by rw [← hlen]; exact hk) rfl fun als' h' => kk H locs cells slots als' (go1 (v := zr (some a)) rfl hk h')
  case lstore k =>
    obtain ⟨x, rfl, hk, hz, rfl, rfl, rfl⟩ := zs_stoL hx
    cases (show 2 = n from hn)
    exact lv_lstore hex hb hd hL.has (by rw [← hlen]; exact hk) rfl fun als' h' => kk H locs cells slots als' (hR.loc (hL.st2 (by rw [← hlen]; exact hk) hz h'))
  case lstore_n k =>
    obtain ⟨x, rfl, hk, hz, rfl, rfl, rfl⟩ := zs_stoL hx
    cases (show 1 = n from hn)
    exact lv_lstore_n hex hb hd rfl hL.has (by rw [← hlen]; exact hk) rfl fun als' h' => kk H locs cells slots als' (hR.loc (hL.st2 (by rw [← hlen]; exact hk) hz h'))
  case iinc k v =>
    simp only [zX] at hx
    split at hx
    · rename_i x hg
      split at hx
      · rename_i hk
        cases zgo_inv hx
        cases hk.1
        obtain ⟨j, hj⟩ := List.getElem?_of_mem (zas_mem.mpr ⟨_, hg, rfl⟩)
        exact lv_iinc hex hb hd hL.has hj rfl (by rw [← hlen]; exact hk.2) rfl fun als' h' => kk H locs cells slots als' (go1 (v := zi _) rfl hk.2 h')
      · cases hx
    · cases hx
end ZC
