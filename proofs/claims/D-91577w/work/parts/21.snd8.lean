/-! SOUND, ONE INSTRUCTION: getClass, clone, Object.<init>, new int[n][m]; all that goes on in the body -/
theorem zrows_eq (h : zH) (m : Nat) : ∀ j : Nat, (zrows h 0 m j).2.1 = h.2.1 + j ∧ (zrows h 0 m j).2.2 = h.2.2 + j * m ∧ ∀ a : Nat, (zrows h 0 m j).1 a = if h.2.1 ≤ a ∧ a < h.2.1 + j then some (.inl (0, m, .inl fun _ => 0)) else h.1 a
  | 0 => ⟨rfl, by simp [zrows], fun a => by rw [if_neg (by omega)]; rfl⟩
  | j + 1 => by
    obtain ⟨h1, h2, h3⟩ := zrows_eq h m j
    refine ⟨by show (zrows h 0 m j).2.1 + 1 = _; omega, by show (zrows h 0 m j).2.2 + m = _; rw [h2, Nat.succ_mul]; omega, fun a => ?_⟩
    show zup (zrows h 0 m j).1 (zrows h 0 m j).2.1 _ a = _
    unfold zup
    rw [h1]
    by_cases ha : a = h.2.1 + j
    · rw [if_pos ha, if_pos (by omega)]
    · rw [if_neg ha, h3 a]
      by_cases hb : h.2.1 ≤ a ∧ a < h.2.1 + j
      · rw [if_pos hb, if_pos (by omega)]
      · rw [if_neg hb, if_neg (by omega)]
theorem zouter (cA : ClassId) (N h0 : Nat) : Jvm.Free.Multi.outerC cA N h0 N = arrV cA N (fun j => va_rf (if j < N then some (h0 + 1 + j) else none)) := by
  obtain ⟨f1, f2, f3⟩ := Jvm.Free.Multi.outerC_facts cA N h0 N
  have f4 : ∀ i, (Jvm.Free.Multi.outerC cA N h0 i).monitor = {} ∧ (Jvm.Free.Multi.outerC cA N h0 i).hash = none := by
    intro i
    induction i with
    | zero => exact ⟨rfl, rfl⟩
    | succ i ih => exact ih
  refine zcellExt f1 ?_ f2 (f4 N).1 (f4 N).2
  apply Array.ext_getElem?
  intro j
  by_cases hj : j < N
  · rw [Jvm.Free.Multi.outerC_slot cA N h0 N j hj, arrV_read _ _ hj, if_pos hj, if_pos hj]
    rfl
  · rw [Array.getElem?_eq_none (by rw [f3]; omega), Array.getElem?_eq_none (by rw [arrV_size]; omega)]
section ZC
variable {D : va_G} {dA : Nat → ClassId} {G : Nat → Option Nat} {base d y : Nat} {p : Program} {l : Launch} {e : Env} {R : Room} {s : State} {m : MethodId} {args : Array Value} {below : List Frame} {meth : Method} {c : Code} {Q : State → Prop} {M S mc ms : Nat}
variable {pc n pc' : Nat} {ls ls' : zLs} {st st' : List zV} {h h' : zH}
theorem zs_getC (C : zCtx D dA G base d y p l R s m args meth c mc ms) (hd : decode (zm y).2.1 pc = .ok (.invokevirtual zgcI, 3)) (hy : zow y = zgcO) {a g n9 : Nat} {c9 : zA} {rest : List zV} (ha : h.1 a = some (.inl (4, n9, c9))) (hg : G 0 = some g) (hsum : zsum rest ≤ 8)
    (kk : zOK D dA base y p l e R s m args below meth c Q M S mc ms (pc + 3) ls (zr (some g) :: rest) h) : zOK D dA base y p l e R s m args below meth c Q M S mc ms pc ls (zr (some a) :: rest) h := by
  intro H locs cells slots als hR
  obtain ⟨hf1, hf2⟩ := C.fr
  have hrest : ((rest.map zvv).map fun v => v.category).sum ≤ 8 := by rw [zsum_cat]; exact hsum
  have hM := C.2.2.2.2.2.2.2.2.2.2.1.2.2.2.2.1 g hg
  have hlink : Cond.methodLink (zcn (zow y)) zgcI ⟨"java/lang/Object", "getClass", "()Ljava/lang/Class;"⟩ ∈ lw_all := by rw [hy]; exact q420
  have hat := (hR.1.2.2 a _ ha).1.1
  have hRA := zRA_name (C.K.2 4 _ (ztys_at dA (by decide))).2
  refine va_getC (C := "[Ljava/lang/Object;") C.1 C.2.2.1 hR.2.2.1.1.symm C.own (C.all hlink) (by first | exact C.all q2191 | exact C.nw q2191 rfl rfl) (C.all q2190) (C.all q421) (C.all q445) hM ⟨_, hat, ?_, ?_⟩ hf1 (by omega) hd (kk H locs cells slots als hR)
  · match c9 with
    | .inl f => rfl
    | .inr (.inl f) => rfl
    | .inr (.inr f) => rfl
  · match c9 with
    | .inl f => exact hRA
    | .inr (.inl f) => exact hRA
    | .inr (.inr f) => exact hRA
theorem zs_clone (C : zCtx D dA G base d y p l R s m args meth c mc ms) (hd : decode (zm y).2.1 pc = .ok (.invokevirtual zclI, 3)) (hy : zow y = zgcO) {r : Option Nat} {q : zV × zH} {rest : List zV} (hv : zclone h r = some q) (hsum : zsum rest ≤ 8) (hM : q.2.2.1 ≤ M ∧ q.2.2.2 ≤ S)
    (kk : zOK D dA base y p l e R s m args below meth c Q M S mc ms (pc + 3) ls (q.1 :: rest) q.2) : zOK D dA base y p l e R s m args below meth c Q M S mc ms pc ls (zr r :: rest) h := by
  intro H locs cells slots als hR
  have hb := C.2.2.1
  obtain ⟨hf1, hf2⟩ := C.fr
  have hrest : ((rest.map zvv).map fun v => v.category).sum ≤ 8 := by rw [zsum_cat]; exact hsum
  unfold zclone at hv
  split at hv
  · cases hv
  · rename_i a
    split at hv
    · rename_i n f ha
      cases hv
      have hlink : Cond.methodLink (zcn (zow y)) zclI ⟨"[B", "clone", "()Ljava/lang/Object;"⟩ ∈ lw_all := by rw [hy]; exact q899
      obtain ⟨hat, hF⟩ := (hR.1.2.2 a _ ha).1
      have hF := hF rfl
      have hA : H[a]? = some (arrV (dA 1) n (fun j => .int (f j))) := hat
      obtain ⟨hArr, hRA⟩ := C.K.2 1 _ (ztys_at dA (by decide))
      have hnm : s.vm.findClass "[B" = some (dA 1) := zRA_name hRA
      obtain ⟨⟨r1, r2⟩, r3, r4⟩ := zroom C hR (a := 1) (b := n) hM.1 hM.2
      obtain ⟨c0, t0', f1, f2, f3⟩ := Cond.castable_spec (C.nw q904 rfl rfl)
      cases hnm.symm.trans f1
      intro T hT X
      have hcellT : T.heap[a]? = some (arrV (dA 1) n (fun j => .int (f j))) := by rw [hT]; exact hA
      obtain ⟨-, kA, hkA, comp, hkind⟩ := State.isArrayOf_alike X.warmed.alike (hArr 0 (fun _ => .null))
      obtain ⟨-, kS, hkS, compS, hkindS⟩ := hArr 0 (fun _ => .null)
      obtain ⟨vm', X', st9⟩ := X.cloneArray C.1 C.own (C.all hlink) (C.all q900) (C.all q901) (C.all q902) (C.all q903) (a := a) (cell := arrV (dA 1) n (fun j => .int (f j))) hcellT (fun k h => by cases h) (fun h => by cases h) hnm f2 f3
        (fun i v hv => by
          have hk' : T.vm.classes[dA 1]? = some kA := hkA
          have hi : i < n := by
            have := (Array.getElem?_eq_some_iff.mp hv).1
            rwa [arrV_size] at this
          rw [arrV_read _ _ hi] at hv
          cases hv
          have h9 := hF i hi
          have h8 : fits (zak 1) (.int (f i)) = true := h9
          show T.fitsSlot (dA 1) .none i (.int (f i)) = true
          simpa [State.fitsSlot, State.slotType?, hk', hkind] using h8)
        (g := F0 m pc als (.ref a :: rest.map zvv)) rfl (by rw [hR.2.2.1.1]) rfl (by rw [hb]; exact hd) hf1 (by show 2 * 0 + _ + 14 ≤ _; omega) r1 (by rw [arrV_size]; exact r2) (hloader := Vm.clonesLoader_of_array hkS hkindS)
      rw [arrV_size] at X'
      obtain ⟨z1, o1, e1⟩ := zpush_o (H := H) (cell := arrV (dA 1) n (fun j => .int (f j)))
      have hz := hR.1.1
      obtain ⟨t, a1, b1⟩ := kk _ locs (cells + 1) (slots + n) als ⟨hR.1.push (e := .inl (1, n, .inl f)) (n := n) trivial z1 o1 ⟨e1, fun _ => hF⟩, zS_push hR.2.1 z1 o1, hR.2.2.1, hM, r3, r4⟩ _ (by rw [← hT]; rfl) X'
      refine ⟨t, st9 t ?_, b1⟩
      rw [hT, hz]
      exact a1
    · cases hv
theorem zs_multi (C : zCtx D dA G base d y p l R s m args meth c mc ms) (hd : decode (zm y).2.1 pc = .ok (.multianewarray zmuI 2, 4)) (hy : zow y = zneO) {k9 m9 : Int32} {q : zV × zH} {rest : List zV} (hv : zmulti h k9 m9 = some q) (hM : q.2.2.1 ≤ M ∧ q.2.2.2 ≤ S)
    (kk : zOK D dA base y p l e R s m args below meth c Q M S mc ms (pc + 4) ls (q.1 :: rest) q.2) : zOK D dA base y p l e R s m args below meth c Q M S mc ms pc ls (zi m9 :: zi k9 :: rest) h := by
  intro H locs cells slots als hR
  have hb := C.2.2.1
  unfold zmulti at hv
  split at hv
  · rename_i hc
    cases hv
    simp only [Bool.and_eq_true, Bool.not_eq_true', decide_eq_false_iff_not, decide_eq_true_eq] at hc
    obtain ⟨⟨⟨h1, h2⟩, h3⟩, h4⟩ := hc
    generalize hN : k9.toNatClampNeg = N at h3 kk hM ⊢
    generalize hMM : m9.toNatClampNeg = M9 at h4 kk hM ⊢
    generalize hz0 : zalloc h (.inl (7, N, .inr (.inr fun j => if j < N then some (h.2.1 + 1 + j) else none))) N = hz at kk hM
    obtain ⟨e1, e2, e3⟩ := zrows_eq hz M9 N
    have hz1 : hz.2.1 = h.2.1 + 1 := by rw [← hz0]; rfl
    have hz2 : hz.2.2 = h.2.2 + N := by rw [← hz0]; rfl
    have hMa : h.2.1 + (1 + N) ≤ M := by have := hM.1; rw [e1, hz1] at this; omega
    have hMb : h.2.2 + (N + N * M9) ≤ S := by have := hM.2; rw [e2, hz2] at this; omega
    obtain ⟨⟨r1, r2⟩, r3, r4⟩ := zroom C hR hMa hMb
    have hlink : Cond.classLink (zcn (zow y)) zmuI ("[" ++ (FieldType.array .int).toString) ∈ lw_all := by
      rw [hy]
      exact q230
    have hover : (Cond.arrayOver (.array .int)).before args s = true := over_moved (Vm.Alike.refl _) C.2.2.2.2.2.2.2.2.2.2.1.2.2.2.1
    have hbb : M9 * componentBytes .int ≤ 536870912 := by
      have : componentBytes .int = 4 := rfl
      rw [this]; omega
    intro T hT X
    obtain ⟨vm', cA, comp, hW, g1, g2, g3, g4, X', st9⟩ := Stand.multianewarray2F X C.1 C.own (C.all hlink) hover (C.all q227) (g := F0 m pc als (.int m9 :: .int k9 :: rest.map zvv)) rfl (by rw [hb]; exact hd) rfl h1 h2 (by rw [hN]; omega) (by rw [hMM]; exact hbb) (by rw [hMM]; omega) rfl rfl (by rw [hN]; exact r1) (by rw [hN, hMM]; exact r2)
    rw [hN, hMM] at X' st9
    have hcA : cA = dA 7 := Option.some.inj (g1.symm.trans (zRA_name (C.K.2 7 _ (ztys_at dA (by decide))).2))
    have hcomp : comp = dA 0 := Option.some.inj (g2.symm.trans (zRA_name (C.K.2 0 _ (ztys_at dA (by decide))).2))
    have hTs : (T.setVm vm').heap = H := hT
    obtain ⟨f1, f2, -, -⟩ := Jvm.Free.Multi.fill_facts (T.setVm vm') cA comp N M9 (defaultValue .int) N
    have f3 := fun (a : Nat) (ha : a < (T.setVm vm').heap.size) => Jvm.Free.Multi.fill_old (T.setVm vm') cA comp N M9 (defaultValue .int) ha N
    have f4 := Jvm.Free.Multi.fill_inner (T.setVm vm') cA comp N M9 (defaultValue .int) N
    generalize hF : Jvm.Free.Multi.fill (T.setVm vm') cA comp N M9 (defaultValue .int) N = TF at X' st9 f1 f2 f3 f4
    rw [hTs] at f1 f2 f3 f4
    rw [zouter] at f2
    have hsz := hR.1.1
    have hm : ∀ y9 ci, zcls h y9 = some ci → zcls (zrows hz 0 M9 N) y9 = some ci := by
      intro y9 ci hy9
      obtain ⟨V, hV⟩ := zcls_inv hy9
      have hlt := (hR.1.2.2 y9 _ hV).1.lt
      rw [zcls_sh] at hy9 ⊢
      rw [e3 y9, if_neg (by omega), ← hz0]
      show (zup h.1 h.2.1 _ y9).bind zsh = some ci
      unfold zup
      rw [if_neg (by omega)]
      exact hy9
    have hI : zInv D dA base s (zrows hz 0 M9 N) TF.heap := by
      refine ⟨by rw [f1, e1, hz1, ← hsz], by rw [f1]; have := hR.1.2.1; omega, fun b f hf => ?_⟩
      rw [e3 b] at hf
      split at hf
      · rename_i hb9
        cases hf
        have hin := f4 (b - (H.size + 1)) (by omega)
        rw [show H.size + 1 + (b - (H.size + 1)) = b by omega] at hin
        refine ⟨⟨?_, fun z => by cases z⟩, fun _ => by have := hR.1.2.1; omega, trivial⟩
        rw [hin, hcomp]
        exact congrArg some (arrV_new _ _ _)
      · rename_i hb9
        rw [← hz0] at hf
        have hf : zup h.1 h.2.1 _ b = some f := hf
        unfold zup at hf
        split at hf
        · rename_i hb8
          cases hf
          subst hb8
          refine ⟨⟨?_, fun z => by cases z⟩, fun _ => by have := hR.1.2.1; omega, trivial⟩
          rw [← hsz, f2, hcA]
          rfl
        · have h9 := hR.1.2.2 b f hf
          exact ⟨h9.1.kept (f3 b h9.1.lt), h9.2.1, h9.2.2.mono hm⟩
    have hS : va_S (fun q => base ≤ q) s.heap TF.heap locs := ⟨by rw [f1]; have := hR.2.1.1; omega, fun q q1 q2 => (f3 q (Nat.lt_of_lt_of_le q1 hR.2.1.1)).trans (hR.2.1.2.1 q q1 q2), hR.2.1.2.2⟩
    obtain ⟨t, a1, b1⟩ := kk TF.heap locs (cells + 1 + N) (slots + N + N * M9) als ⟨hI, hS, hR.2.2.1, hM, by rw [e1, hz1]; omega, by rw [e2, hz2]; omega⟩ TF rfl X'
    refine ⟨t, st9 t ?_, b1⟩
    rw [hT, hsz]
    exact a1
  · cases hv
end ZC
