/-! CALLS, by kind -/
section ZC
variable {D : va_G} {dA : Nat → ClassId} {G : Nat → Option Nat} {base d y : Nat} {p : Program} {l : Launch} {e : Env} {R : Room} {s : State} {m : MethodId} {args : Array Value} {below : List Frame} {meth : Method} {c : Code} {Q : State → Prop} {M S mc ms : Nat}
variable {pc n pc' : Nat} {ls ls' : zLs} {st st' : List zV} {h h' : zH}
theorem zpre (C : zCtx D dA G base d y p l R s m args meth c mc ms) {as : List zV} {r : zRes} (hle : zle h r.2) (hrM : r.2.2.1 ≤ M ∧ r.2.2.2 ≤ S) {H : Heap} {locs : List Loc} {cells slots : Nat} {als : Array Slot} (hR : zRel D dA base y s c h ls M S mc ms H locs cells slots als) {T : State} (hT : T.heap = H) {vm₁ : Vm} (hW : s.WarmedH vm₁) :
    PreOf R (r.2.2.1 - h.2.1) (r.2.2.2 - h.2.2) (zPc D dA G base as h) ⟨T.setVm vm₁, locs, cells, slots⟩ (as.map zvv).toArray := by
  have hTb := C.2.2.2.2.2.2.2.2.2.2.1
  have hSt := C.2.2.2.2.2.2.2.2.2.2.2.1
  obtain ⟨-, -, -, -, -, -, -, -, -, -, -, -, -, hmc, hms⟩ := C
  obtain ⟨hI, hS, hL, hM, hc1, hc2⟩ := hR
  have h1 := hle.1
  have h2 := hle.2
  have hth : (T.setVm vm₁).heap = H := hT
  refine ⟨by show cells + _ ≤ _; omega, by show slots + _ ≤ _; omega, rfl, ?_, zTab.warm (U := T.setVm vm₁) hW hTb, ?_⟩
  · show zInv D dA base (T.setVm vm₁) h (T.setVm vm₁).heap
    rw [hth]
    exact hI.moved (U := T.setVm vm₁) hW.alike
  · show zSta G base (T.setVm vm₁) (T.setVm vm₁).heap
    rw [hth]
    exact (hSt.moved (U := T.setVm vm₁) hW.alike).kept hS.2.1
theorem zF0 {als : Array Slot} {st9 : List Value} : ∀ pc9 st8, ({ F0 m pc als st9 with pc := pc9, stack := st8 } : JFrame) = F0 m pc9 als st8 := fun _ _ => rfl
theorem zlen_of {f : zK} (hok : zKok f) {as : List zV} (hlen : as.length = f.2.2.2.2.1) : ∀ sig, parseMethodDescriptor f.2.2.2.1.desc = some sig → (as.map zvv).length = sig.parameters.length := by
  intro sig hs
  have h1 := hok.1
  rw [hs] at h1
  rw [List.length_map, hlen]
  exact (Option.some.inj h1).symm
/-- the words of a target's code -/
theorem zcode_at (C : zCtx D dA G base d y p l R s m args meth c mc ms) {y' : Nat} {ey : zM} (hy' : zms[y']? = some ey) : (zcodeW ey).before args s = true ∧ (ey.1.cls ≠ "java/lang/invoke/MethodHandle" ∧ ey.1.cls ≠ "java/lang/invoke/VarHandle") ∧ (Cond.initialized ey.1.cls).before args s = true := by
  have hmem := List.mem_of_getElem? hy'
  have hok := zms_ok ey hmem
  exact ⟨C.all (zcodeW_in hmem), hok.2.2.2.2.1.2, C.all hok.2.2.1⟩
theorem zs_static (C : zCtx D dA G base d y p l R s m args meth c mc ms) {idx : Nat} {f : zK} (hf : f ∈ zks) (ho : f.1 = zow y) (hi : f.2.1 = idx) (hk : f.2.2.1 = 0) (hd : decode (zm y).2.1 pc = .ok (.invokestatic idx, 3)) {d' y' : Nat} {as rest : List zV} {r : zRes} {tl : List (Nat × Nat)} {q0 : Nat} (hts : f.2.2.2.2.2.1 = (q0, y') :: tl) (hdep : zdep d y y' = some d') (hsum : zsum rest ≤ 8) (hlen : as.length = f.2.2.2.2.1)
    (hM : zMet D dA G base l d' y' as h r) (hle : zle h r.2) (hrM : r.2.2.1 ≤ M ∧ r.2.2.2 ≤ S)
    (kret : ∀ v h1, r = (.inl v, h1) → zOK D dA base y p l e R s m args below meth c Q M S mc ms (pc + 3) ls (v.toList ++ rest) h1)
    (kthr : ∀ ci a h1, r = (.inr (ci, a), h1) → zOKX D dA base y p l e R s m args below meth c Q M S mc ms pc ls rest ci a h1) :
    zOK D dA base y p l e R s m args below meth c Q M S mc ms pc ls (as.reverse ++ rest) h := by
  intro H locs cells slots als hR
  have hok := zks_ok f hf
  obtain ⟨y9, ey, ht, hy', hx, hst⟩ := hok.2.2.1 hk
  rw [hts] at ht
  cases ht
  have hlink := hok.2.1
  rw [if_neg (by rw [hk]; decide), ho, hi] at hlink
  obtain ⟨hcd, hnm, hini⟩ := zcode_at C hy'
  have hnx : zname y' = ey.1 := by unfold zname; rw [zm_of hy']
  have hln := zlen_of hok hlen
  rw [← hx] at hlink hst hln
  have hK := zback_of (e := e) (below := below) C hy' hdep hM
  rw [hnx] at hK
  have hsz : als.size = c.maxLocals := hR.2.2.1.1
  have hrest : 2 * (F0 m pc als ((as.reverse ++ rest).map zvv)).monitorRoom + ((rest.map zvv).map fun v => v.category).sum ≤ 8 := by
    show 2 * 0 + _ ≤ 8
    rw [zsum_cat]; omega
  refine zcall_end C (av := (as.map zvv).toArray) hle hrM kret kthr hR zF0 rfl fun T hT X => ?_
  unfold zcodeW at hcd
  split at hcd
  · exact vx_callS X C.1 C.own (C.all hlink) (C.all hst) hini hcd hnm hK rfl hsz hln (by show (as.reverse ++ rest).map zvv = _; rw [List.map_append, List.map_reverse]) hrest (by rw [C.2.2.1]; exact hd) (fun vm₁ hW => zpre C hle hrM hR hT hW)
  · exact vx_callSX X C.1 C.own (C.all hlink) (C.all hst) hini hcd hnm hK rfl hsz hln (by show (as.reverse ++ rest).map zvv = _; rw [List.map_append, List.map_reverse]) hrest (by rw [C.2.2.1]; exact hd) (fun vm₁ hW => zpre C hle hrM hR hT hW)
theorem zs_ctor (C : zCtx D dA G base d y p l R s m args meth c mc ms) {idx : Nat} {f : zK} (hf : f ∈ zks) (ho : f.1 = zow y) (hi : f.2.1 = idx) (hk : f.2.2.1 = 2 ∨ f.2.2.1 = 3) (hd : decode (zm y).2.1 pc = .ok (.invokespecial idx, 3)) {d' y' a : Nat} {as rest : List zV} {r : zRes} {tl : List (Nat × Nat)} {q0 : Nat} (hts : f.2.2.2.2.2.1 = (q0, y') :: tl) (hdep : zdep d y y' = some d') (hsum : zsum rest ≤ 8) (hlen : as.length = f.2.2.2.2.1)
    (hM : zMet D dA G base l d' y' (zr (some a) :: as) h r) (hle : zle h r.2) (hrM : r.2.2.1 ≤ M ∧ r.2.2.2 ≤ S)
    (kret : ∀ v h1, r = (.inl v, h1) → zOK D dA base y p l e R s m args below meth c Q M S mc ms (pc + 3) ls (v.toList ++ rest) h1)
    (kthr : ∀ ci a h1, r = (.inr (ci, a), h1) → zOKX D dA base y p l e R s m args below meth c Q M S mc ms pc ls rest ci a h1) :
    zOK D dA base y p l e R s m args below meth c Q M S mc ms pc ls (as.reverse ++ zr (some a) :: rest) h := by
  intro H locs cells slots als hR
  have hok := zks_ok f hf
  obtain ⟨hin, y9, ey, ht, hy', hx, hret, hins⟩ := hok.2.2.2.1 hk
  rw [hts] at ht
  cases ht
  have hlink := hok.2.1
  rw [ho, hi] at hlink
  obtain ⟨hcd, hnm, hini⟩ := zcode_at C hy'
  have hnx : zname y' = ey.1 := by unfold zname; rw [zm_of hy']
  have hln := zlen_of hok hlen
  rw [← hx] at hlink hins hln hin
  have hK := zback_of (e := e) (below := below) C hy' hdep hM
  rw [hnx] at hK
  have hsz : als.size = c.maxLocals := hR.2.2.1.1
  have hrest : 2 * (F0 m pc als ((as.reverse ++ zr (some a) :: rest).map zvv)).monitorRoom + ((rest.map zvv).map fun v => v.category).sum ≤ 8 := by
    show 2 * 0 + _ ≤ 8
    rw [zsum_cat]; omega
  have hnh : ey.2.2.2.2.2.2.1 = [] := by
    have hall : (zms.all fun e9 => decide (e9.2.2.2.2.2.2.2 = true → e9.2.2.2.2.2.2.1 = [])) = true := by decide +kernel
    have h9 := of_decide_eq_true (List.all_eq_true.mp hall ey (List.mem_of_getElem? hy'))
    exact h9 ((zms_ok ey (List.mem_of_getElem? hy')).2.2.2.2.2.mpr hin)
  refine zcall_end C (av := ((zr (some a) :: as).map zvv).toArray) hle hrM kret kthr hR zF0 rfl fun T hT X => ?_
  unfold zcodeW at hcd
  rw [if_pos hnh, hret] at hcd
  split at hlink
  · exact vx_callIN X C.1 C.own hin (C.nw hlink rfl rfl) (C.all hins) hcd hnm hK rfl hsz hln (by show (as.reverse ++ zr (some a) :: rest).map zvv = _; rw [List.map_append, List.map_reverse]; rfl) hrest (by rw [C.2.2.1]; exact hd) (fun vm₁ hW => zpre C hle hrM hR hT hW)
  · exact vx_callI X C.1 C.own hin (C.all hlink) (C.all hins) hcd hnm hK rfl hsz hln (by show (as.reverse ++ zr (some a) :: rest).map zvv = _; rw [List.map_append, List.map_reverse]; rfl) hrest (by rw [C.2.2.1]; exact hd) (fun vm₁ hW => zpre C hle hrM hR hT hW)
theorem zs_super (C : zCtx D dA G base d y p l R s m args meth c mc ms) {idx : Nat} {f : zK} (hf : f ∈ zks) (ho : f.1 = zow y) (hi : f.2.1 = idx) (hk : f.2.2.1 = 4) (hd : decode (zm y).2.1 pc = .ok (.invokespecial idx, 3)) {d' y' a ci : Nat} {as rest : List zV} {r : zRes} {tl : List (Nat × Nat)} {q0 : Nat} (hts : f.2.2.2.2.2.1 = (q0, y') :: tl) (hcls : zcls h a = some ci) (hdep : zdep d y y' = some d') (hsum : zsum rest ≤ 8) (hlen : as.length = f.2.2.2.2.1)
    (hM : zMet D dA G base l d' y' (zr (some a) :: as) h r) (hle : zle h r.2) (hrM : r.2.2.1 ≤ M ∧ r.2.2.2 ≤ S)
    (kret : ∀ v h1, r = (.inl v, h1) → zOK D dA base y p l e R s m args below meth c Q M S mc ms (pc + 3) ls (v.toList ++ rest) h1)
    (kthr : ∀ ci a h1, r = (.inr (ci, a), h1) → zOKX D dA base y p l e R s m args below meth c Q M S mc ms pc ls rest ci a h1) :
    zOK D dA base y p l e R s m args below meth c Q M S mc ms pc ls (as.reverse ++ zr (some a) :: rest) h := by
  intro H locs cells slots als hR
  have hok := zks_ok f hf
  obtain ⟨y9, ey, ht, hy', hx, hins, hsame, hsup, hno⟩ := hok.2.2.2.2.1 hk
  rw [hts] at ht
  cases ht
  have hlink := hok.2.1
  rw [if_neg (by rw [hk]; decide), ho, hi] at hlink
  rw [ho] at hsup
  obtain ⟨hcd, hnm, hini⟩ := zcode_at C hy'
  have hnx : zname y' = ey.1 := by unfold zname; rw [zm_of hy']
  have hln := zlen_of hok hlen
  rw [← hx] at hlink hins hln hsame hsup hno
  have hK := zback_of (e := e) (below := below) C hy' hdep hM
  rw [hnx] at hK
  have hsz : als.size = c.maxLocals := hR.2.2.1.1
  have hrest : 2 * (F0 m pc als ((as.reverse ++ zr (some a) :: rest).map zvv)).monitorRoom + ((rest.map zvv).map fun v => v.category).sum ≤ 8 := by
    show 2 * 0 + _ ≤ 8
    rw [zsum_cat]; omega
  have hnh : ey.2.2.2.2.2.2.1 = [] := by
    have hall : (zks.all fun f9 => decide (f9.2.2.1 = 4 → ∀ t ∈ f9.2.2.2.2.2.1, (zm t.2).2.2.2.2.2.2.1 = [])) = true := by decide +kernel
    have h9 := of_decide_eq_true (List.all_eq_true.mp hall f hf) hk (0, y') (by rw [hts]; exact List.mem_cons_self)
    rw [zm_of hy'] at h9
    exact h9
  obtain ⟨V, hV⟩ := zcls_inv hcls
  obtain ⟨q, cellV, kV, hq, v1, v2, v3, v4⟩ := zobj_at C (hR.1.2.2 a _ hV).1
  refine zcall_end C (av := ((zr (some a) :: as).map zvv).toArray) hle hrM kret kthr hR zF0 rfl fun T hT X => ?_
  unfold zcodeW at hcd
  rw [if_pos hnh] at hcd
  exact vx_callSU X C.1 C.own (C.all hlink) (C.all hsame) (C.all hsup) (C.all hins) hcd hno hK (by rw [hT]; exact v1) (by rw [v2]; rfl) v4 rfl hsz hln (by show (as.reverse ++ zr (some a) :: rest).map zvv = _; rw [List.map_append, List.map_reverse]; rfl) hrest (by rw [C.2.2.1]; exact hd) (fun vm₁ hW => zpre C hle hrM hR hT hW)
theorem zdecl_of (C : zCtx D dA G base d y p l R s m args meth c mc ms) {x : MethodName} (h1 : Cond.declares x ∈ lw_tbl ∨ ∃ m2 ∈ zms, m2.1 = x ∧ Cond.instanceMethod m2.1 ∈ lw_all ∧ m2.2.2.2.2.2.2.1 = []) : va_Decl s x := by
  rcases h1 with h9 | ⟨m2, hm2, rfl, hins, hnh⟩
  · exact va_Decl.abs (C.2.2.2.2.2.2.2.2.2.2.1.2.1 _ h9 rfl)
  · have hcd := C.all (zcodeW_in hm2)
    unfold zcodeW at hcd
    rw [if_pos hnh] at hcd
    exact va_Decl.of (C.all hins) hcd
theorem zs_virt (C : zCtx D dA G base d y p l R s m args meth c mc ms) {idx : Nat} {f : zK} (hf : f ∈ zks) (ho : f.1 = zow y) (hi : f.2.1 = idx) (hk : f.2.2.1 = 1) (hd : decode (zm y).2.1 pc = .ok (.invokevirtual idx, 3)) {d' a ci : Nat} {t : Nat × Nat} {as rest : List zV} {r : zRes} (hts : t ∈ f.2.2.2.2.2.1) (ht1 : t.1 = ci) (hcls : zcls h a = some ci) (hdep : zdep d y t.2 = some d') (hsum : zsum rest ≤ 8) (hlen : as.length = f.2.2.2.2.1)
    (hM : zMet D dA G base l d' t.2 (zr (some a) :: as) h r) (hle : zle h r.2) (hrM : r.2.2.1 ≤ M ∧ r.2.2.2 ≤ S)
    (kret : ∀ v h1, r = (.inl v, h1) → zOK D dA base y p l e R s m args below meth c Q M S mc ms (pc + 3) ls (v.toList ++ rest) h1)
    (kthr : ∀ ci a h1, r = (.inr (ci, a), h1) → zOKX D dA base y p l e R s m args below meth c Q M S mc ms pc ls rest ci a h1) :
    zOK D dA base y p l e R s m args below meth c Q M S mc ms pc ls (as.reverse ++ zr (some a) :: rest) h := by
  intro H locs cells slots als hR
  have hok := zks_ok f hf
  obtain ⟨q, ey, hq, hy', hins, hsel, hrst⟩ := hok.2.2.2.2.2 hk t hts
  have hlink := hok.2.1
  rw [if_neg (by rw [hk]; decide), ho, hi] at hlink
  obtain ⟨hcd, hnm, hini⟩ := zcode_at C hy'
  have hnx : zname t.2 = ey.1 := by unfold zname; rw [zm_of hy']
  have hln := zlen_of hok hlen
  have hK := zback_of (e := e) (below := below) C hy' hdep hM
  rw [hnx] at hK
  have hsz : als.size = c.maxLocals := hR.2.2.1.1
  have hrest : 2 * (F0 m pc als ((as.reverse ++ zr (some a) :: rest).map zvv)).monitorRoom + ((rest.map zvv).map fun v => v.category).sum ≤ 8 := by
    show 2 * 0 + _ ≤ 8
    rw [zsum_cat]; omega
  obtain ⟨V, hV⟩ := zcls_inv hcls
  obtain ⟨q', cellV, kV, hq', v1, v2, v3, v4⟩ := zobj_at C (hR.1.2.2 a _ hV).1
  rw [ht1] at hq
  cases hq.symm.trans hq'
  refine zcall_end C (av := ((zr (some a) :: as).map zvv).toArray) hle hrM kret kthr hR zF0 rfl fun T hT X => ?_
  have hstk : (F0 m pc als ((as.reverse ++ zr (some a) :: rest).map zvv)).stack = (as.map zvv).reverse ++ .ref a :: rest.map zvv := by
    show (as.reverse ++ zr (some a) :: rest).map zvv = _
    rw [List.map_append, List.map_reverse]
    rfl
  split at hrst
  · rename_i hnone
    rw [← hrst] at hlink hln hsel
    unfold zcodeW at hcd
    split at hcd
    · exact vx_callV X C.1 C.own (C.all hlink) (C.all hins) (C.ts _ hsel) hcd hnm hK (by rw [hT]; exact v1) (by rw [v2]; rfl) v3 rfl hsz hln hstk hrest (by rw [C.2.2.1]; exact hd) (fun vm₁ hW => zpre C hle hrM hR hT hW)
    · exact vx_callVX X C.1 C.own (C.all hlink) (C.all hins) (C.ts _ hsel) hcd hnm hK (by rw [hT]; exact v1) (by rw [v2]; rfl) v3 rfl hsz hln hstk hrest (by rw [C.2.2.1]; exact hd) (fun vm₁ hW => zpre C hle hrM hR hT hW)
  · rename_i ow hsome
    have hnh : ey.2.2.2.2.2.2.1 = [] := by
      have hall : (zks.all fun f9 => decide (f9.2.2.2.2.2.2.isSome = true → ∀ t ∈ f9.2.2.2.2.2.1, (zm t.2).2.2.2.2.2.2.1 = [])) = true := by decide +kernel
      have h9 := of_decide_eq_true (List.all_eq_true.mp hall f hf) (by rw [hsome]; rfl) t hts
      rw [zm_of hy'] at h9
      exact h9
    unfold zcodeW at hcd
    rw [if_pos hnh] at hcd
    exact vx_callVU X C.1 C.own (C.all hlink) (C.all hrst.1) (zdecl_of C hrst.2.2) hrst.2.1 (C.ts _ hsel) (C.all hins) hcd hK (by rw [hT]; exact v1) (by rw [v2]; rfl) v3 rfl hsz hln hstk hrest (by rw [C.2.2.1]; exact hd) (fun vm₁ hW => zpre C hle hrM hR hT hW)
end ZC
