/-! SOUND, ONE INSTRUCTION: casts, the natives, new int[n][m] -/
theorem zsum_cat (st : List zV) : ((st.map zvv).map fun v => v.category).sum = zsum st := by
  unfold zsum
  rw [List.map_map]
  congr 1
  apply List.map_congr_left
  intro v _
  exact zvv_cat v
theorem znat40 : nativeFrameWords "java/lang/System" "arraycopy" 5 ≤ 40 := by decide +kernel
theorem zcellExt {a b : Cell} (h1 : a.cls = b.cls) (h2 : a.slots = b.slots) (h3 : a.vm = b.vm) (h4 : a.monitor = b.monitor) (h5 : a.hash = b.hash) : a = b := by
  cases a; cases b; simp_all
section ZC
variable {D : va_G} {dA : Nat → ClassId} {G : Nat → Option Nat} {base d y : Nat} {p : Program} {l : Launch} {e : Env} {R : Room} {s : State} {m : MethodId} {args : Array Value} {below : List Frame} {meth : Method} {c : Code} {Q : State → Prop} {M S mc ms : Nat}
variable {pc n pc' : Nat} {ls ls' : zLs} {st st' : List zV} {h h' : zH}
theorem zCtx.fr (C : zCtx D dA G base d y p l R s m args meth c mc ms) : 1 ≤ R.frames ∧ 60 ≤ R.locals := by
  obtain ⟨-, -, -, -, -, -, -, -, -, -, -, -, ⟨h1, h2, h3⟩, -⟩ := C
  constructor <;> omega
theorem zcast_at (C : zCtx D dA G base d y p l R s m args meth c mc ms) {idx a : Nat} {H : Heap} (hI : zInv D dA base s h H) (hc : zcastOk (zow y) idx h a = true) :
    ∃ (nm : String) (cell : Cell) (k : Class) (cT : ClassId), (Cond.classLink (zcn (zow y)) idx nm).before args s = true ∧ H[a]? = some cell ∧ cell.vm.isStatics = false ∧ s.vm.findClass nm = some cT ∧ s.vm.assignable cell.cls cT = true := by
  unfold zcastOk at hc
  split at hc
  · rename_i ci V hV
    split at hc
    · rename_i f hf
      obtain ⟨hm, hk⟩ := zfind_mem hf
      obtain ⟨ho, hi⟩ := zkey hk
      obtain ⟨hl, hcs⟩ := zcasts_ok f hm
      obtain ⟨q, hq, hq2⟩ := hcs ci (List.contains_iff_mem.mp hc)
      obtain ⟨q', cell, k, hq', e1, e2, e3, e4⟩ := zobj_at C (hI.2.2 a _ hV).1
      cases hq.symm.trans hq'
      rcases hq2 with h9 | h9
      · exact ⟨f.2.2.1, cell, k, cell.cls, by rw [← ho, ← hi]; exact C.all hl, e1, by rw [e2]; rfl, by rw [← h9]; exact e3, zasg_self _ _⟩
      · obtain ⟨c0, t1, f1, f2, f3⟩ := Cond.castable_spec (C.nw h9 rfl rfl)
        cases e3.symm.trans f1
        exact ⟨f.2.2.1, cell, k, t1, by rw [← ho, ← hi]; exact C.all hl, e1, by rw [e2]; rfl, f2, f3⟩
    · cases hc
  · rename_i k9 n9 c9 hV
    split at hc
    · rename_i f hf
      obtain ⟨hm, hk⟩ := zfind_mem hf
      obtain ⟨ho, hi⟩ := zkey hk
      obtain ⟨hl, hnm⟩ := zacasts_ok f hm
      have hk9 : f.2.2.2 = k9 := by simpa using hc
      have hk8 : k9 < 8 := by
        have hall : ∀ f ∈ zacasts, f.2.2.2 < 8 := by decide
        rw [← hk9]; exact hall f hm
      have hat := (hI.2.2 a _ hV).1
      simp only [zat] at hat
      rw [if_pos hk8] at hat
      have hRA := zRA_name (C.K.2 k9 _ (ztys_at dA hk8)).2
      have hvm0 : (vp_cell (dA k9) (n9, zcont c9)).vm = .none := by
        match c9 with
        | .inl f => rfl
        | .inr (.inl f) => rfl
        | .inr (.inr f) => rfl
      have hcl0 : (vp_cell (dA k9) (n9, zcont c9)).cls = dA k9 := by
        match c9 with
        | .inl f => rfl
        | .inr (.inl f) => rfl
        | .inr (.inr f) => rfl
      obtain ⟨kk9, hkk9, -⟩ := Vm.findClass_spec hRA
      exact ⟨f.2.2.1, _, kk9, dA k9, by rw [← ho, ← hi]; exact C.all hl, hat.1, by rw [hvm0]; rfl, by rw [← hnm, hk9]; exact hRA, by rw [hcl0]; exact zasg_self _ _⟩
    · cases hc
  · cases hc
theorem zs_cast (C : zCtx D dA G base d y p l R s m args meth c mc ms) (i : Instr) (hd : decode (zm y).2.1 pc = .ok (i, n)) (hn : zln i n = n)
    (hi : match i with | .checkcast _ | .instanceof _ => True | _ => False)
    (hx : zX G i n d y pc ls st h = some (.inl (pc', ls', st', h'))) (kk : zOK D dA base y p l e R s m args below meth c Q M S mc ms pc' ls' st' h') : zOK D dA base y p l e R s m args below meth c Q M S mc ms pc ls st h := by
  intro H locs cells slots als hR
  have hb := C.2.2.1
  cases i <;> first | (cases hi; done) | skip
  all_goals (cases (show 3 = n from hn))
  case checkcast idx =>
    simp only [zX] at hx
    split at hx
    · rename_i r st9
      split at hx
      · rename_i hc
        cases zgo_inv hx
        cases r with
        | none => exact lv_castN C.1 hb hd (kk H locs cells slots als hR)
        | some a =>
          obtain ⟨nm, cell, k, cT, hl, e1, e2, e3, e4⟩ := zcast_at C hR.1 hc
          have k9 := kk H locs cells slots als hR
          intro T hT X
          obtain ⟨vm', X', st9⟩ := X.checkcastYes C.1 C.own hl (by rw [hT]; exact e1) e2 e3 e4 (g := F0 m pc als (.ref _ :: _)) rfl rfl (by rw [hb]; exact hd)
          obtain ⟨t, a1, b1⟩ := k9 (T.setVm vm') hT X'
          exact ⟨t, st9 t a1, b1⟩
      · cases hx
    · cases hx
  case instanceof idx =>
    simp only [zX] at hx
    split at hx
    · rename_i r st9
      split at hx
      · rename_i hc
        cases zgo_inv hx
        cases r with
        | none => cases hc
        | some a =>
          have hc : (zcastOk (zow y) idx h a && (zcls h a).isSome) = true := hc
          obtain ⟨nm, cell, k, cT, hl, e1, e2, e3, e4⟩ := zcast_at C hR.1 (Bool.and_eq_true_iff.mp hc).1
          have k9 := kk H locs cells slots als hR
          intro T hT X
          obtain ⟨vm', X', st9⟩ := X.instanceofYes C.1 C.own hl (by rw [hT]; exact e1) e2 e3 e4 (g := F0 m pc als (.ref _ :: _)) rfl rfl (by rw [hb]; exact hd)
          obtain ⟨t, a1, b1⟩ := k9 (T.setVm vm') hT X'
          exact ⟨t, st9 t a1, b1⟩
      · cases hx
    · cases hx
theorem znn {z : Int32} (hz : ¬ z < 0) : z.toInt = (z.toNatClampNeg : Int) := by
  have hz0 : (0 : Int) ≤ z.toInt := by
    have := Int32.not_lt.mp hz
    simpa using Int32.le_iff_toInt_le.mp this
  show z.toInt = ((z.toInt.toNat : Nat) : Int)
  omega
theorem zs_copy (C : zCtx D dA G base d y p l R s m args meth c mc ms) {idx : Nat} (hd : decode (zm y).2.1 pc = .ok (.invokestatic idx, 3)) (hci : (zow y, idx) ∈ zacs) {m9 dp sp : Int32} {dr sr : Option Nat} {rest : List zV} (hsum : zsum rest ≤ 8) (hv : zcopy h sr sp dr dp m9 = some h')
    (kk : zOK D dA base y p l e R s m args below meth c Q M S mc ms (pc + 3) ls rest h') : zOK D dA base y p l e R s m args below meth c Q M S mc ms pc ls (zi m9 :: zi dp :: zr dr :: zi sp :: zr sr :: rest) h := by
  intro H locs cells slots als hR
  have hb := C.2.2.1
  obtain ⟨hf1, hf2⟩ := C.fr
  have hml : c.maxLocals = als.size := hR.2.2.1.1.symm
  have hlink := C.all (zacs_ok _ hci)
  have hrest : ((rest.map zvv).map fun v => v.category).sum ≤ 8 := by rw [zsum_cat]; exact hsum
  have hloc : ((rest.map zvv).map fun v => v.category).sum + (nativeFrameWords "java/lang/System" "arraycopy" 5 + 11) ≤ R.locals := by
    have := znat40
    omega
  unfold zcopy at hv
  split at hv
  · rename_i a0 a
    split at hv
    · rename_i k1 n0 f k2 n1 g hA hB
      split at hv
      · rename_i hc
        cases hv
        simp only [Bool.and_eq_true, Bool.not_eq_true', decide_eq_false_iff_not, decide_eq_true_eq, beq_iff_eq] at hc
        obtain ⟨⟨⟨⟨⟨⟨rfl, rfl⟩, h1⟩, h2⟩, h3⟩, h4⟩, h5⟩ := hc
        obtain ⟨hat0, -, -⟩ := hR.1.2.2 a0 _ hA
        obtain ⟨hat1, hw, -⟩ := hR.1.2.2 a _ hB
        have hc0 : H[a0]? = some (vp_cell (dA 1) (n0, .inl f)) := hat0.1
        have hc1 : H[a]? = some (vp_cell (dA 1) (n1, .inl g)) := hat1.1
        have hF0 := hat0.2 rfl
        have hF1 := hat1.2 rfl
        obtain ⟨-, k0, hk0, cm0, hkk0⟩ := (C.K.2 1 _ (ztys_at dA (by decide))).1 n0 (fun j => .int (f j))
        obtain ⟨-, k1, hk1, cm1, hkk1⟩ := (C.K.2 1 _ (ztys_at dA (by decide))).1 n1 (fun j => .int (g j))
        have hfit : ∀ j, (fits .byte (.int (va_cpy f g sp.toNatClampNeg dp.toNatClampNeg m9.toNatClampNeg j)) = true) ∨ ¬ j < n1 := by
          intro j
          by_cases hj : j < n1
          · left
            unfold va_cpy
            split
            · exact hF0 _ (by omega)
            · exact hF1 j hj
          · exact Or.inr hj
        intro T hT X
        obtain ⟨vm', X', step⟩ := X.arraycopy C.1 C.own hlink (C.all q456) (C.all q455) (C.all q106) (src := a0) (dst := a) (cs := vp_cell (dA 1) (n0, .inl f)) (cd := vp_cell (dA 1) (n1, .inl g)) (srcPos := sp) (destPos := dp) (n := m9) (by rw [hT]; exact hc0) (by rw [hT]; exact hc1)
          (fun _ h => by cases h) (fun _ h => by cases h) (fun h => by cases h) (fun h => by cases h) hk0 hk1 hkk0 hkk1 (by rfl) h1 h2 h3
          (by rw [znn h1, znn h3]; show ¬ _ > ((arrV (dA 1) n0 (fun j => .int (f j))).slots.size : Int); rw [arrV_size]; omega)
          (by rw [znn h2, znn h3]; show ¬ _ > ((arrV (dA 1) n1 (fun j => .int (g j))).slots.size : Int); rw [arrV_size]; omega)
          (fun vm₁ _ i hi => by
            have e : (vp_cell (dA 1) (n0, .inl f)).slots.getD (sp.toNatClampNeg + i) .null = .int (f (sp.toNatClampNeg + i)) := by
              show (arrV (dA 1) n0 (fun j => .int (f j))).slots.getD _ _ = _
              rw [Array.getD_eq_getD_getElem?, arrV_read _ _ (by omega)]
              rfl
            refine ⟨?_, ?_⟩
            · rw [e]
              exact hF0 _ (by omega)
            · rw [e]
              exact trivial)
          (g := F0 m pc als ((zi m9 :: zi dp :: zr (some a) :: zi sp :: zr (some a0) :: rest).map zvv)) rfl (by rw [hml]) (rest := rest.map zvv) rfl (by rw [hb]; exact hd) hf1 (by show 2 * 0 + _ + _ ≤ _; omega)
        have e1 : copied (vp_cell (dA 1) (n0, .inl f)) (vp_cell (dA 1) (n1, .inl g)) sp dp m9 = vp_cell (dA 1) (n1, .inl (va_cpy f g sp.toNatClampNeg dp.toNatClampNeg m9.toNatClampNeg)) := va_copied (fun z => .int z) _ _ f g h4
        rw [e1] at X' step
        have hl : a < H.size := (Array.getElem?_eq_some_iff.mp hc1).1
        have hheap : ((T.setVm vm').setCell a (vp_cell (dA 1) (n1, .inl (va_cpy f g sp.toNatClampNeg dp.toNatClampNeg m9.toNatClampNeg)))).heap = H.setIfInBounds a (vp_cell (dA 1) (n1, .inl (va_cpy f g sp.toNatClampNeg dp.toNatClampNeg m9.toNatClampNeg))) := by rw [← hT]; rfl
        have oq : ∀ q : Nat, q ≠ a → (H.setIfInBounds a (vp_cell (dA 1) (n1, .inl (va_cpy f g sp.toNatClampNeg dp.toNatClampNeg m9.toNatClampNeg))))[q]? = H[q]? := fun q hq => by simp [Array.getElem?_setIfInBounds, Ne.symm hq]
        have hsz : (H.setIfInBounds a (vp_cell (dA 1) (n1, .inl (va_cpy f g sp.toNatClampNeg dp.toNatClampNeg m9.toNatClampNeg)))).size = H.size := by simp
        have hself : (H.setIfInBounds a (vp_cell (dA 1) (n1, .inl (va_cpy f g sp.toNatClampNeg dp.toNatClampNeg m9.toNatClampNeg))))[a]? = some (vp_cell (dA 1) (n1, .inl (va_cpy f g sp.toNatClampNeg dp.toNatClampNeg m9.toNatClampNeg))) := by simp [Array.getElem?_setIfInBounds, hl]
        obtain ⟨t, a1, b1⟩ := kk _ _ cells slots als ⟨hR.1.put hB rfl rfl trivial hsz oq ⟨hself, fun _ j hj => (hfit j).resolve_right (fun z => z hj)⟩, ⟨by rw [hsz]; exact hR.2.1.1, fun q g1 g2 => by
            rw [oq q (fun e => g2 (by rw [e]; exact hw rfl))]
            exact hR.2.1.2.1 q g1 g2, fun q hq => by
            rcases List.mem_append.mp hq with h | h
            · exact hR.2.1.2.2 q h
            · obtain ⟨z, -, hz⟩ := List.mem_map.mp h
              rw [← hz]
              exact hw rfl⟩, hR.2.2⟩ _ hheap X'
        exact ⟨t, step t a1, b1⟩
      · cases hv
    · rename_i k1 n0 f k2 n1 g hA hB
      split at hv
      · rename_i hc
        cases hv
        simp only [Bool.and_eq_true, Bool.not_eq_true', decide_eq_false_iff_not, decide_eq_true_eq, beq_iff_eq] at hc
        obtain ⟨⟨⟨⟨⟨⟨rfl, rfl⟩, h1⟩, h2⟩, h3⟩, h4⟩, h5⟩ := hc
        obtain ⟨hat0, -, hrf0⟩ := hR.1.2.2 a0 _ hA
        obtain ⟨hat1, hw, hrf1⟩ := hR.1.2.2 a _ hB
        have hc0 : H[a0]? = some (vp_cell (dA 4) (n0, .inr (.inr (.inr (.inr f))))) := hat0.1
        have hc1 : H[a]? = some (vp_cell (dA 4) (n1, .inr (.inr (.inr (.inr g))))) := hat1.1
        obtain ⟨-, k0, hk0, cm0, hkk0⟩ := (C.K.2 4 _ (ztys_at dA (by decide))).1 n0 (fun j => va_rf (f j))
        obtain ⟨-, k1, hk1, cm1, hkk1⟩ := (C.K.2 4 _ (ztys_at dA (by decide))).1 n1 (fun j => va_rf (g j))
        intro T hT X
        obtain ⟨vm', X', step⟩ := X.arraycopy C.1 C.own hlink (C.all q456) (C.all q455) (C.all q106) (src := a0) (dst := a) (cs := vp_cell (dA 4) (n0, .inr (.inr (.inr (.inr f))))) (cd := vp_cell (dA 4) (n1, .inr (.inr (.inr (.inr g))))) (srcPos := sp) (destPos := dp) (n := m9) (by rw [hT]; exact hc0) (by rw [hT]; exact hc1)
          (fun _ h => by cases h) (fun _ h => by cases h) (fun h => by cases h) (fun h => by cases h) hk0 hk1 hkk0 hkk1 rfl h1 h2 h3
          (by rw [znn h1, znn h3]; show ¬ _ > ((arrV (dA 4) n0 (fun j => va_rf (f j))).slots.size : Int); rw [arrV_size]; omega)
          (by rw [znn h2, znn h3]; show ¬ _ > ((arrV (dA 4) n1 (fun j => va_rf (g j))).slots.size : Int); rw [arrV_size]; omega)
          (fun vm₁ hal i hi => by
            have e : (vp_cell (dA 4) (n0, .inr (.inr (.inr (.inr f))))).slots.getD (sp.toNatClampNeg + i) .null = va_rf (f (sp.toNatClampNeg + i)) := by
              show (arrV (dA 4) n0 (fun j => va_rf (f j))).slots.getD _ _ = _
              rw [Array.getD_eq_getD_getElem?, arrV_read _ _ (by omega)]
              rfl
            rw [e]
            cases hy : f (sp.toNatClampNeg + i) with
            | none => exact ⟨rfl, trivial⟩
            | some y =>
              obtain ⟨ci, hci1, hci2⟩ := hrf0 _ (by omega) y hy
              obtain ⟨V, hV⟩ := zcls_inv hci1
              obtain ⟨q, cellV, kV, hq, g1, g2, g3, g4⟩ := zobj_at C (hR.1.2.2 y _ hV).1
              obtain ⟨q2, hq2, hcst⟩ := zcastObj_ok ci (List.contains_iff_mem.mp hci2)
              cases hq.symm.trans hq2
              obtain ⟨kA, comp, r1, r2, r3, -⟩ := (C.K.2 4 _ (ztys_at dA (by decide))).2
              cases hk1.symm.trans r1
              cases hkk1.symm.trans r2
              obtain ⟨c0, t1, f1, f2, f3⟩ := Cond.castable_spec (C.nw hcst rfl rfl)
              cases g3.symm.trans f1
              cases r3.symm.trans f2
              obtain ⟨kE, hkE, -⟩ := Vm.findClass_spec r3
              obtain ⟨kC', hkC', -⟩ := hal.2.2 _ _ g4
              obtain ⟨kE', hkE', -⟩ := hal.2.2 _ _ hkE
              refine ⟨rfl, cellV, (show T.heap[y]? = some cellV by rw [hT]; exact g1), (fun q h => by rw [g2] at h; cases h), ⟨kC', hkC'⟩, ?_, ?_⟩
              · exact ⟨kE', hkE'⟩
              · show vm₁.assignable _ _ = true
                rw [hal.assignable]
                exact f3)
          (g := F0 m pc als ((zi m9 :: zi dp :: zr (some a) :: zi sp :: zr (some a0) :: rest).map zvv)) rfl (by rw [hml]) (rest := rest.map zvv) rfl (by rw [hb]; exact hd) hf1 (by show 2 * 0 + _ + _ ≤ _; omega)
        have e1 : copied (vp_cell (dA 4) (n0, .inr (.inr (.inr (.inr f))))) (vp_cell (dA 4) (n1, .inr (.inr (.inr (.inr g))))) sp dp m9 = vp_cell (dA 4) (n1, .inr (.inr (.inr (.inr (va_cpy f g sp.toNatClampNeg dp.toNatClampNeg m9.toNatClampNeg))))) := by
          rw [vp_cell_q, vp_cell_q, vp_cell_q]
          exact va_copied (fun z => va_rf z) _ _ f g h4
        rw [e1] at X' step
        have hl : a < H.size := (Array.getElem?_eq_some_iff.mp hc1).1
        generalize hcw : vp_cell (dA 4) (n1, .inr (.inr (.inr (.inr (va_cpy f g sp.toNatClampNeg dp.toNatClampNeg m9.toNatClampNeg))))) = cw at X' step
        have hheap : ((T.setVm vm').setCell a cw).heap = H.setIfInBounds a cw := by rw [← hT]; rfl
        have oq : ∀ q : Nat, q ≠ a → (H.setIfInBounds a cw)[q]? = H[q]? := fun q hq => by simp [Array.getElem?_setIfInBounds, Ne.symm hq]
        have hsz : (H.setIfInBounds a cw).size = H.size := by simp
        have hself : (H.setIfInBounds a cw)[a]? = some cw := by simp [Array.getElem?_setIfInBounds, hl]
        obtain ⟨t, a1, b1⟩ := kk _ _ cells slots als ⟨hR.1.put (e' := .inl (4, n1, .inr (.inr (va_cpy f g sp.toNatClampNeg dp.toNatClampNeg m9.toNatClampNeg)))) hB rfl rfl (by
            intro j hj y9 hy
            unfold va_cpy at hy
            split at hy
            · exact hrf0 _ (by omega) y9 hy
            · exact hrf1 j hj y9 hy) hsz oq ⟨by rw [hself, ← hcw]; rfl, fun q => by cases q⟩, ⟨by rw [hsz]; exact hR.2.1.1, fun q g1 g2 => by
            rw [oq q (fun e => g2 (by rw [e]; exact hw rfl))]
            exact hR.2.1.2.1 q g1 g2, fun q hq => by
            rcases List.mem_append.mp hq with h | h
            · exact hR.2.1.2.2 q h
            · obtain ⟨z, -, hz⟩ := List.mem_map.mp h
              rw [← hz]
              exact hw rfl⟩, hR.2.2⟩ _ hheap X'
        exact ⟨t, step t a1, b1⟩
      · cases hv
    · cases hv
  · cases hv
end ZC
