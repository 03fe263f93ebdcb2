/-! SOUND, ONE INSTRUCTION: array stores, what is made, constants, casts -/
theorem zasg_self (vm : Vm) (c : ClassId) : vm.assignable c c = true := by
  show vm.assignableAux (255 + 1) c c = true
  rw [Vm.assignableAux]
  simp only [beq_self_eq_true, Bool.true_or]
section ZC
variable {D : va_G} {dA : Nat → ClassId} {G : Nat → Option Nat} {base d y : Nat} {p : Program} {l : Launch} {e : Env} {R : Room} {s : State} {m : MethodId} {args : Array Value} {below : List Frame} {meth : Method} {c : Code} {Q : State → Prop} {M S mc ms : Nat}
variable {pc n pc' : Nat} {ls ls' : zLs} {st st' : List zV} {h h' : zH}
theorem zastI_inv {ks : List Nat} {r : Option Nat} {i x : Int32} (hx : zastI ks h r i x = some h') : ∃ a k n f, r = some a ∧ h.1 a = some (.inl (k, n, .inl f)) ∧ k ∈ ks ∧ zin i n = true ∧ h' = (zup h.1 a (some (.inl (k, n, .inl (zup f i.toNatClampNeg (znar k x))))), h.2.1, h.2.2) := by
  unfold zastI at hx
  split at hx
  · cases hx
  · split at hx
    · split at hx
      · rename_i hc
        cases hx
        simp only [Bool.and_eq_true, List.contains_iff_mem] at hc
        exact ⟨_, _, _, _, rfl, by assumption, hc.1, hc.2, rfl⟩
      · cases hx
    · cases hx
theorem zastL_inv {r : Option Nat} {i : Int32} {x : Int64} (hx : zastL h r i x = some h') : ∃ a n f, r = some a ∧ h.1 a = some (.inl (3, n, .inr (.inl f))) ∧ zin i n = true ∧ h' = (zup h.1 a (some (.inl (3, n, .inr (.inl (zup f i.toNatClampNeg x))))), h.2.1, h.2.2) := by
  unfold zastL at hx
  split at hx
  · cases hx
  · split at hx
    · split at hx
      · rename_i hc
        cases hx
        simp only [Bool.and_eq_true, beq_iff_eq] at hc
        obtain ⟨rfl, hc2⟩ := hc
        exact ⟨_, _, _, rfl, by assumption, hc2, rfl⟩
      · cases hx
    · cases hx
theorem zastR_inv {r : Option Nat} {i : Int32} {x : Option Nat} (hx : zastR h r i x = some h') : ∃ a k n f, r = some a ∧ h.1 a = some (.inl (k, n, .inr (.inr f))) ∧ k ∈ [4, 5, 6] ∧ zin i n = true ∧ (∀ b, x = some b → ∃ ci, zcls h b = some ci ∧ zhold k ci = true) ∧ h' = (zup h.1 a (some (.inl (k, n, .inr (.inr (zup f i.toNatClampNeg x))))), h.2.1, h.2.2) := by
  unfold zastR at hx
  split at hx
  · cases hx
  · split at hx
    · split at hx
      · rename_i hc
        cases hx
        rw [Bool.and_eq_true, Bool.and_eq_true] at hc
        refine ⟨_, _, _, _, rfl, by assumption, List.contains_iff_mem.mp hc.1.1, hc.1.2, fun b hb => ?_, rfl⟩
        subst hb
        have h3 := hc.2
        unfold zstor at h3
        dsimp only at h3
        split at h3
        · rename_i ci hci
          exact ⟨ci, hci, h3⟩
        · cases h3
      · cases hx
    · cases hx
/-- an array's cell, written at one place -/
theorem zarr_put {k n i : Nat} {f g : Nat → Value} {cA : ClassId} {x : Value} (hg : ∀ j, g j = if j = i then x else f j) : (arrV cA n f).setSlot i x = arrV cA n g := by
  rw [arrV_store]
  congr 1
  funext j
  rw [hg j]
  rfl
theorem zarr_putI {n i : Nat} {f : Nat → Int32} {cA : ClassId} {x : Int32} : (arrV cA n fun j => .int (f j)).setSlot i (.int x) = arrV cA n fun j => .int (zup f i x j) := zarr_put (k := 0) fun j => by simp only [zup]; split <;> rfl
theorem zarr_putL {n i : Nat} {f : Nat → Int64} {cA : ClassId} {x : Int64} : (arrV cA n fun j => .long (f j)).setSlot i (.long x) = arrV cA n fun j => .long (zup f i x j) := zarr_put (k := 0) fun j => by simp only [zup]; split <;> rfl
theorem zarr_putR {n i : Nat} {f : Nat → Option Nat} {cA : ClassId} {x : Option Nat} : (arrV cA n fun j => va_rf (f j)).setSlot i (va_rf x) = arrV cA n fun j => va_rf (zup f i x j) := zarr_put (k := 0) fun j => by simp only [zup]; split <;> rfl
theorem zobj_at (C : zCtx D dA G base d y p l R s m args meth c mc ms) {H : Heap} {a ci : Nat} {V : Nat → zV} (hat : zat D dA s a (.inr (ci, V)) H) : ∃ (q : vw_C) (cell : Cell) (k : Class), zcl[ci]? = some q ∧ H[a]? = some cell ∧ cell.vm = .none ∧ s.vm.findClass q.1 = some cell.cls ∧ s.vm.classes[cell.cls]? = some k := by
  obtain ⟨q, hq, cell, q1, q2, q3, q4⟩ := hat
  obtain ⟨-, hfc, kC, hkC, hkind⟩ := C.K.1 ci q hq
  exact ⟨q, cell, kC, hq, q1, q3, by rw [q2]; exact hfc, by rw [q2]; exact hkC⟩
theorem zcls_inv {a ci : Nat} (h1 : zcls h a = some ci) : ∃ V, h.1 a = some (.inr (ci, V)) := by
  unfold zcls at h1
  split at h1
  · rename_i ci' V hV
    cases h1
    exact ⟨V, hV⟩
  · cases h1
theorem zs_ast (C : zCtx D dA G base d y p l R s m args meth c mc ms) (i : Instr) (hd : decode (zm y).2.1 pc = .ok (i, n)) (hn : zln i n = n)
    (hi : match i with | .iastore | .bastore | .lastore | .aastore => True | _ => False)
    (hx : zX G i n d y pc ls st h = some (.inl (pc', ls', st', h'))) (kk : zOK D dA base y p l e R s m args below meth c Q M S mc ms pc' ls' st' h') : zOK D dA base y p l e R s m args below meth c Q M S mc ms pc ls st h := by
  intro H locs cells slots als hR
  have hex := C.1
  have hb := C.2.2.1
  have wk : ∀ {a k n c9}, h.1 a = some (.inl (k, n, c9)) → zweak s a k n c9 H := fun ha => (hR.1.2.2 _ _ ha).1.weak C.K
  cases i <;> first | (cases hi; done) | skip
  all_goals (cases (show 1 = n from hn))
  case iastore =>
    simp only [zX, zastoI] at hx
    split at hx
    · obtain ⟨h2, hv, hx⟩ := Option.bind_eq_some_iff.mp hx
      cases zgo_inv hx
      obtain ⟨a, k, n, f, rfl, ha, hk, hin, rfl⟩ := zastI_inv hv
      have hk : k = 0 := by simpa using hk
      subst hk
      obtain ⟨hat, hwb, -⟩ := hR.1.2.2 a _ ha
      have hA : H[a]? = some (arrV (dA 0) n (fun j => .int (f j))) := hat.1
      obtain ⟨g1, g2, -⟩ := zin_vp hin
      refine W.iast hex hb hA ((C.K.2 0 _ (ztys_at dA (by decide))).1 n _) (fun q => by cases q) (by rw [arrV_size]; exact g1) rfl rfl hd fun H' e1 e2 e3 => ?_
      refine kk H' _ cells slots als ⟨hR.1.put ha rfl rfl trivial e2 e3 ⟨?_, fun q => by cases q⟩, hR.2.1.put e2 e3 (hwb rfl), hR.2.2⟩
      rw [e1, zarr_putI]
      rfl
    · cases hx
  case lastore =>
    simp only [zX, zastoL] at hx
    split at hx
    · obtain ⟨h2, hv, hx⟩ := Option.bind_eq_some_iff.mp hx
      cases zgo_inv hx
      obtain ⟨a, n, f, rfl, ha, hin, rfl⟩ := zastL_inv hv
      obtain ⟨hat, hwb, -⟩ := hR.1.2.2 a _ ha
      have hA : H[a]? = some (arrV (dA 3) n (fun j => .long (f j))) := hat.1
      obtain ⟨g1, g2, -⟩ := zin_vp hin
      refine W.last hex hb hA ((C.K.2 3 _ (ztys_at dA (by decide))).1 n _) (fun q => by cases q) (by rw [arrV_size]; exact g1) rfl rfl hd fun H' e1 e2 e3 => ?_
      refine kk H' _ cells slots als ⟨hR.1.put ha rfl rfl trivial e2 e3 ⟨?_, fun q => by cases q⟩, hR.2.1.put e2 e3 (hwb rfl), hR.2.2⟩
      rw [e1, zarr_putL]
      rfl
    · cases hx
  case bastore =>
    simp only [zX, zastoI] at hx
    split at hx
    · obtain ⟨h2, hv, hx⟩ := Option.bind_eq_some_iff.mp hx
      cases zgo_inv hx
      obtain ⟨a, k, n, f, rfl, ha, hk, hin, rfl⟩ := zastI_inv hv
      obtain ⟨hat, hwb, -⟩ := hR.1.2.2 a _ ha
      obtain ⟨g1, g2, -⟩ := zin_vp hin
      simp only [List.mem_cons, List.not_mem_nil, or_false] at hk
      rcases hk with rfl | rfl
      · have hA : H[a]? = some (arrV (dA 1) n (fun j => .int (f j))) := hat.1
        have hF := hat.2 rfl
        refine W.bast hex hb hA ((C.K.2 1 _ (ztys_at dA (by decide))).1 n _) (fun q => by cases q) (by rw [arrV_size]; exact g1) rfl rfl hd fun H' e1 e2 e3 => ?_
        refine kk H' _ cells slots als ⟨hR.1.put ha rfl rfl trivial e2 e3 ⟨?_, fun _ j hj => ?_⟩, hR.2.1.put e2 e3 (hwb rfl), hR.2.2⟩
        · exact e1.trans (congrArg some (zarr_putI (x := znar 1 _)))
        · show fits .byte (.int (zup f _ _ j)) = true
          unfold zup
          split
          · exact fits_narrow_byte _
          · exact hF j hj
      · have hA : H[a]? = some (arrV (dA 2) n (fun j => .int (f j))) := hat.1
        refine W.zast hex hb hA ((C.K.2 2 _ (ztys_at dA (by decide))).1 n _) (fun q => by cases q) (by rw [arrV_size]; exact g1) rfl rfl hd fun H' e1 e2 e3 => ?_
        refine kk H' _ cells slots als ⟨hR.1.put ha rfl rfl trivial e2 e3 ⟨?_, fun q => by cases q⟩, hR.2.1.put e2 e3 (hwb rfl), hR.2.2⟩
        exact e1.trans (congrArg some (zarr_putI (x := znar 2 _)))
    · cases hx
  case aastore =>
    simp only [zX, zastoR] at hx
    split at hx
    · rename_i x i r st9
      obtain ⟨h2, hv, hx⟩ := Option.bind_eq_some_iff.mp hx
      cases zgo_inv hx
      obtain ⟨a, k, n, f, rfl, ha, hk, hin, hst, rfl⟩ := zastR_inv hv
      obtain ⟨hat, hwb, hrf⟩ := hR.1.2.2 a _ ha
      obtain ⟨g1, g2, g0⟩ := zin_vp hin
      have hk8 : k < 8 := by
        simp only [List.mem_cons, List.not_mem_nil, or_false] at hk
        rcases hk with rfl | rfl | rfl <;> decide
      have hk1 : k ≠ 1 := by
        simp only [List.mem_cons, List.not_mem_nil, or_false] at hk
        rcases hk with rfl | rfl | rfl <;> decide
      have hwr : zwrt (.inl (k, n, .inr (.inr f))) = true := by simp [zwrt, hk8]
      simp only [zat] at hat
      rw [if_pos hk8] at hat
      have hA : H[a]? = some (arrV (dA k) n (fun j => va_rf (f j))) := hat.1
      obtain ⟨hArr, hRA⟩ := C.K.2 k _ (ztys_at dA hk8)
      obtain ⟨E, hE⟩ : ∃ E, zak k = .object E := by
        simp only [List.mem_cons, List.not_mem_nil, or_false] at hk
        rcases hk with rfl | rfl | rfl <;> exact ⟨_, rfl⟩
      have fin : ∀ x : Option Nat, (∀ b, x = some b → ∃ ci, zcls h b = some ci ∧ zhold k ci = true) → ∀ H' : Heap, H'[a]? = some ((arrV (dA k) n (fun j => va_rf (f j))).setSlot (i.toNatClampNeg) (va_rf x)) → H'.size = H.size → (∀ q, q ≠ a → H'[q]? = H[q]?) →
          zRel D dA base y s c (zup h.1 a (some (.inl (k, n, .inr (.inr (zup f (i.toNatClampNeg) x))))), h.2.1, h.2.2) ls M S mc ms H' (locs ++ [⟨a, i.toNatClampNeg⟩]) cells slots als := by
        intro x hx9 H' e1 e2 e3
        refine ⟨hR.1.put ha rfl rfl ?_ e2 e3 ?_, hR.2.1.put e2 e3 (hwb hwr), hR.2.2⟩
        · unfold zrefs
          split
          · rename_i n9 f9 heq
            cases heq
            intro j hj y9 hy
            unfold zup at hy
            split at hy
            · obtain ⟨ci, c1, c2⟩ := hx9 y9 hy
              refine ⟨ci, c1, ?_⟩
              simpa [zhold] using c2
            · exact hrf j hj y9 hy
          · trivial
        · simp only [zat]
          rw [if_pos hk8]
          refine ⟨?_, fun q => absurd q hk1⟩
          rw [e1, zarr_putR]
          rfl
      cases x with
      | none =>
        refine va_WaastN (C := E) hex hb hA (by rw [← hE]; exact hArr n _) (fun q => by cases q) (by rw [arrV_size]; exact g1) rfl rfl hd fun H' e1 e2 e3 => ?_
        exact kk H' _ cells slots als (fin none hst H' e1 e2 e3)
      | some b =>
        obtain ⟨ci, hci, hh⟩ := hst b rfl
        obtain ⟨V, hV⟩ := zcls_inv hci
        obtain ⟨q, cellV, kV, hq, v1, v2, v3, v4⟩ := zobj_at C (hR.1.2.2 b _ hV).1
        have hcast : q.1 = E ∨ Cond.castable q.1 E ∈ lw_tbl := by
          simp only [List.mem_cons, List.not_mem_nil, or_false] at hk
          rcases hk with rfl | rfl | rfl
          · have h9 : zcastObj.contains ci = true := by simpa [zhold] using hh
            obtain ⟨q2, hq2, hc2⟩ := zcastObj_ok ci (List.contains_iff_mem.mp h9)
            cases hq.symm.trans hq2
            cases hE
            exact Or.inr hc2
          · have h9 : ci = zciVisit := by simpa [zhold] using hh
            subst h9
            cases hE
            cases hq
            exact Or.inl rfl
          · have h9 : ci = zciShop := by simpa [zhold] using hh
            subst h9
            cases hE
            cases hq
            exact Or.inl rfl
        rw [hE] at hRA
        obtain ⟨kA, comp, k1, k2, k3, -⟩ := hRA
        obtain ⟨kE, hkE, -⟩ := Vm.findClass_spec k3
        have hasg : s.vm.assignable cellV.cls comp = true := by
          rcases hcast with h9 | h9
          · rw [h9] at v3
            cases v3.symm.trans k3
            exact zasg_self _ _
          · obtain ⟨c0, t1, f1, f2, f3⟩ := Cond.castable_spec (C.nw h9 rfl rfl)
            cases v3.symm.trans f1
            cases k3.symm.trans f2
            exact f3
        refine W.aast hex hb hA (fun q h => by cases h) (fun h => by cases h) k1 k2 rfl hkE ⟨g0, by rw [arrV_size]; exact g2⟩ v1 (fun q h => by rw [v2] at h; cases h) v4 hasg rfl rfl hd fun H' e1 e2 e3 => ?_
        exact kk H' _ cells slots als (fin (some b) hst H' e1 e2 e3)
    · cases hx
end ZC
