/-! SOUND, ONE INSTRUCTION: putfield, arrays -/
theorem zin_vp {i : Int32} {n : Nat} (h : zin i n = true) : ¬ (i < 0 ∨ n ≤ i.toNatClampNeg) ∧ i.toNatClampNeg < n ∧ ¬ i < 0 := by
  simp only [zin, Bool.and_eq_true, Bool.not_eq_true', decide_eq_false_iff_not, decide_eq_true_eq] at h
  exact ⟨fun h1 => h1.elim h.1 (fun h2 => Nat.not_le_of_lt h.2 h2), h.2, h.1⟩
section ZC
variable {D : va_G} {dA : Nat → ClassId} {G : Nat → Option Nat} {base d y : Nat} {p : Program} {l : Launch} {e : Env} {R : Room} {s : State} {m : MethodId} {args : Array Value} {below : List Frame} {meth : Method} {c : Code} {Q : State → Prop} {M S mc ms : Nat}
variable {pc n pc' : Nat} {ls ls' : zLs} {st st' : List zV} {h h' : zH}
theorem zCtx.K (C : zCtx D dA G base d y p l R s m args meth c mc ms) : va_K D zcl (ztys dA) s := C.2.2.2.2.2.2.2.2.2.2.1.1
theorem zCtx.ts (C : zCtx D dA G base d y p l R s m args meth c mc ms) : ∀ w ∈ lwB, w.before args s = true := C.2.2.2.2.2.2.2.1
theorem zCtx.own (C : zCtx D dA G base d y p l R s m args meth c mc ms) : s.vm.findClass (zcn (zow y)) = some m.cls := C.2.2.2.2.2.2.1
theorem zCtx.all (C : zCtx D dA G base d y p l R s m args meth c mc ms) {w : Jvm.Cond} (h : w ∈ lw_all) : w.before args s = true := C.ts w (zlB h)
theorem zupd_V {V : Nat → zV} {k : Nat} {v : zV} (j : Nat) : updV (fun k => zvv (V k)) k (zvv v) j = zvv (zup V k v j) := by
  unfold updV zup
  split <;> rfl
theorem zs_putf (C : zCtx D dA G base d y p l R s m args meth c mc ms) {idx : Nat} (hd : decode (zm y).2.1 pc = .ok (.putfield idx, 3))
    (hx : zX G (.putfield idx) 3 d y pc ls st h = some (.inl (pc', ls', st', h'))) (kk : zOK D dA base y p l e R s m args below meth c Q M S mc ms pc' ls' st' h') : zOK D dA base y p l e R s m args below meth c Q M S mc ms pc ls st h := by
  intro H locs cells slots als hR
  simp only [zX] at hx
  split at hx
  · rename_i f hf
    obtain ⟨hm, hk⟩ := zfind_mem hf
    obtain ⟨ho, hi⟩ := zkey hk
    unfold zputf at hx
    split at hx
    · rename_i v r st
      split at hx
      · rename_i hfin
        obtain ⟨h2, hv, hx⟩ := Option.bind_eq_some_iff.mp hx
        cases zgo_inv hx
        obtain ⟨a, ci, V, rfl, ha, hci, hne, hft, rfl⟩ := zwr_inv hv
        unfold zputOk at hfin
        have hfin1 := List.all_eq_true.mp hfin ci hci
        obtain ⟨q, hq, hkN, hpd, ref, hsame, hlink, hfd⟩ := zfs_ok f hm ci hci
        have hQ : zcl.getD ci ("", fun _ => ("", "", "", false), 0) = q := by simp [List.getD_eq_getElem?_getD, hq]
        rw [hQ] at hfin1
        obtain ⟨hat, hwb, -⟩ := hR.1.2.2 a _ ha
        obtain ⟨q', hq', cell, q1, q2, q3, q4⟩ := hat
        cases hq.symm.trans hq'
        have hK := C.K
        have hts := C.ts
        have hin := C.in (zmem_cl hq)
        obtain ⟨ty0, hty⟩ := zcl_ty q (zmem_cl hq)
        have hap : ∀ x w, x < q.2.2 → w < q.2.2 → x ≠ w → (D.2 ci) x ≠ (D.2 ci) w := va_apart (own := "") (C := q.1) (T := q.2.1) (N := q.2.2) hts hin ty0 hty (zcl_nm q (zmem_cl hq)) hK hq
        obtain ⟨hS, hfc, kC, hkC, hkind⟩ := hK.1 ci q hq
        obtain ⟨cf, kf, fi, fd, hi9, hsl⟩ := hS _ hkN
        have hst := (u_facts hfc hkC (u_lays hts hin hkN) hi9).1
        have hs9 : s.fieldFound? ref (q.2.1 f.2.2.1).2.1 (q.2.1 f.2.2.1).2.2.1 = some (cf, kf, fi, fd) := by
          rcases hsame with h9 | h9
          · rw [h9]; exact hi9
          · exact u_same (hts _ (zlB h9)) _ hi9
        obtain ⟨ty, hd9, hty9⟩ := Option.map_eq_some_iff.mp hpd
        obtain ⟨hnar, hfit⟩ := zfits_ok hft hty9
        have hown : s.vm.findClass (zcn f.1) = some m.cls := by rw [ho]; exact C.own
        have hb9 := hwb (by simp [zwrt, hne])
        have fin : ∀ H' : Heap, H'[a]? = some (cell.setSlot fd.slot (zvv v)) → H'.size = H.size → (∀ x, x ≠ a → H'[x]? = H[x]?) → W p l e R s m args below meth c H' (locs ++ [⟨a, fd.slot⟩]) cells slots Q (F0 m (pc + 3) als (st'.map zvv)) := by
          intro H' e1 e2 e3
          refine kk H' _ cells slots als ⟨hR.1.put (e' := .inr (ci, zup V f.2.2.1 v)) ha rfl rfl trivial e2 e3 ⟨q, hq, ?_⟩, hR.2.1.put e2 e3 hb9, hR.2.2⟩
          rw [hsl] at e1
          exact t_OB.to (V := updV (fun k => zvv (V k)) f.2.2.1 (zvv v)) ⟨_, e1, q2, q3, t_set q4 hap hkN (zvv v)⟩ (fun j _ => zupd_V j)
        subst hi
        have hhs : fd.slot < cell.slots.size := by rw [hsl]; exact k2_hasslot (q4 _ hkN)
        have hlay := hts _ (hin _ (u_in_lay hkN))
        unfold u_lay at hlay
        by_cases hF : (q.2.1 f.2.2.1).2.2.2 = true
        · rw [if_pos hF] at hlay
          rw [hF] at hfin1
          simp only [Bool.not_true, Bool.false_or, Bool.and_eq_true, Bool.not_eq_true'] at hfin1
          have hnest : f.2.2.2.2.2 = false := hfin1.2
          have hdecl : (q.2.1 f.2.2.1).1 = zcn f.1 := by
            rcases hfd hF with h9 | h9
            · exact h9
            · rw [hnest] at h9; cases h9
          rw [if_neg (by rw [hnest]; decide)] at hlink
          have hcf : m.cls = cf := by
            obtain ⟨_, _, c', _, _, _, -, -, hf', -, -, -, hown2, -⟩ := Cond.laysFinal_spec hlay
            have e1 : c' = cf := by have := hi9.symm.trans hf'; simp at this; exact this.1.symm
            rw [hdecl] at hown2
            rw [← e1]; exact Option.some.inj (hown.symm.trans hown2)
          have h6 := u_fits hfc hkC hkind (Or.inr hlay) hi9 hd9 hnar hfit
          exact W.putFinK C.1 C.2.2.1 hown (C.all hlink) hs9 hst hcf (C.2.2.2.2.2.2.2.2.1 hfin1.1) (by rw [q2]; exact h6) q1 q3 hhs rfl rfl hd fin
        · rw [if_neg hF] at hlay
          have h6 := u_store hfc hkC hkind hlay hi9 hd9 hnar hfit
          split at hlink
          · exact va_WputK C.1 C.2.2.1 (f := fd) hown (C.nw hlink rfl rfl) hs9 hst (by rw [q2]; exact h6) q1 q3 hhs rfl rfl hd fin
          · exact W.putK C.1 C.2.2.1 (f := fd) ⟨hown, C.all hlink, ⟨_, _, _, hs9⟩, hst⟩ (by rw [q2]; exact h6) q1 q3 hhs rfl rfl hd fin
      · cases hx
    · cases hx
  · cases hx
theorem zaldI_inv {ks : List Nat} {r : Option Nat} {i x : Int32} (hx : zaldI ks h r i = some x) : ∃ a k n f, r = some a ∧ h.1 a = some (.inl (k, n, .inl f)) ∧ k ∈ ks ∧ zin i n = true ∧ x = f i.toNatClampNeg := by
  unfold zaldI at hx
  split at hx
  · cases hx
  · split at hx
    · split at hx
      · rename_i hc
        cases hx
        simp only [Bool.and_eq_true, List.contains_iff_mem] at hc
        exact ⟨_, _, _, _, rfl, by assumption, hc.1, hc.2, rfl⟩
      · cases hx
    · cases hx
theorem zaldL_inv {r : Option Nat} {i : Int32} {x : Int64} (hx : zaldL h r i = some x) : ∃ a n f, r = some a ∧ h.1 a = some (.inl (3, n, .inr (.inl f))) ∧ zin i n = true ∧ x = f i.toNatClampNeg := by
  unfold zaldL at hx
  split at hx
  · cases hx
  · split at hx
    · split at hx
      · rename_i hc
        cases hx
        simp only [Bool.and_eq_true, beq_iff_eq] at hc
        obtain ⟨rfl, hc2⟩ := hc
        exact ⟨_, _, _, rfl, by assumption, hc2, rfl⟩
      · cases hx
    · cases hx
theorem zaldR_inv {r : Option Nat} {i : Int32} {x : Option Nat} (hx : zaldR h r i = some x) : ∃ a k n f, r = some a ∧ h.1 a = some (.inl (k, n, .inr (.inr f))) ∧ k ∈ [4, 5, 6, 7, 18] ∧ zin i n = true ∧ x = f i.toNatClampNeg := by
  unfold zaldR at hx
  split at hx
  · cases hx
  · split at hx
    · split at hx
      · rename_i hc
        cases hx
        simp only [Bool.and_eq_true, List.contains_iff_mem] at hc
        exact ⟨_, _, _, _, rfl, by assumption, hc.1, hc.2, rfl⟩
      · cases hx
    · cases hx
theorem zs_ald (C : zCtx D dA G base d y p l R s m args meth c mc ms) (i : Instr) (hd : decode (zm y).2.1 pc = .ok (i, n)) (hn : zln i n = n)
    (hi : match i with | .iaload | .baload | .laload | .aaload | .arraylength => True | _ => False)
    (hx : zX G i n d y pc ls st h = some (.inl (pc', ls', st', h'))) (kk : zOK D dA base y p l e R s m args below meth c Q M S mc ms pc' ls' st' h') : zOK D dA base y p l e R s m args below meth c Q M S mc ms pc ls st h := by
  intro H locs cells slots als hR
  have hex := C.1
  have hb := C.2.2.1
  have wk : ∀ {a k n c9}, h.1 a = some (.inl (k, n, c9)) → zweak s a k n c9 H := fun ha => (hR.1.2.2 _ _ ha).1.weak C.K
  cases i <;> first | (cases hi; done) | skip
  all_goals (cases (show 1 = n from hn))
  case iaload =>
    simp only [zX, zald] at hx
    split at hx
    · obtain ⟨x, hv, hx⟩ := Option.bind_eq_some_iff.mp hx
      cases zgo_inv hx
      obtain ⟨a, k, n, f, rfl, ha, hk, hin, rfl⟩ := zaldI_inv hv
      obtain ⟨cell, c1, c2, c3, c4, c5⟩ := wk ha
      obtain ⟨g1, g2, -⟩ := zin_vp hin
      have hty : zak k = .int := by
        simp only [List.mem_cons, List.not_mem_nil, or_false] at hk
        rcases hk with rfl | rfl <;> rfl
      rw [hty] at c2
      exact W.iald hex hb c1 c2 c3 (by rw [c4]; exact g1) (c5 _ g2) rfl rfl hd (kk H locs cells slots als hR)
    · cases hx
  case baload =>
    simp only [zX, zald] at hx
    split at hx
    · obtain ⟨x, hv, hx⟩ := Option.bind_eq_some_iff.mp hx
      cases zgo_inv hx
      obtain ⟨a, k, n, f, rfl, ha, hk, hin, rfl⟩ := zaldI_inv hv
      obtain ⟨cell, c1, c2, c3, c4, c5⟩ := wk ha
      obtain ⟨g1, g2, -⟩ := zin_vp hin
      simp only [List.mem_cons, List.not_mem_nil, or_false] at hk
      rcases hk with rfl | rfl | rfl
      · exact W.bald hex hb c1 c2 c3 (by rw [c4]; exact g1) (c5 _ g2) rfl rfl hd (kk H locs cells slots als hR)
      · exact W.zald hex hb c1 c2 c3 (by rw [c4]; exact g1) (c5 _ g2) rfl rfl hd (kk H locs cells slots als hR)
      · exact W.bald hex hb c1 c2 c3 (by rw [c4]; exact g1) (c5 _ g2) rfl rfl hd (kk H locs cells slots als hR)
    · cases hx
  case laload =>
    simp only [zX, zald] at hx
    split at hx
    · obtain ⟨x, hv, hx⟩ := Option.bind_eq_some_iff.mp hx
      cases zgo_inv hx
      obtain ⟨a, n, f, rfl, ha, hin, rfl⟩ := zaldL_inv hv
      obtain ⟨cell, c1, c2, c3, c4, c5⟩ := wk ha
      obtain ⟨g1, g2, -⟩ := zin_vp hin
      exact W.lald hex hb c1 c2 c3 (by rw [c4]; exact g1) (c5 _ g2) rfl rfl hd (kk H locs cells slots als hR)
    · cases hx
  case aaload =>
    simp only [zX, zald] at hx
    split at hx
    · obtain ⟨x, hv, hx⟩ := Option.bind_eq_some_iff.mp hx
      cases zgo_inv hx
      obtain ⟨a, k, n, f, rfl, ha, hk, hin, rfl⟩ := zaldR_inv hv
      obtain ⟨cell, c1, c2, c3, c4, c5⟩ := wk ha
      obtain ⟨g1, g2, -⟩ := zin_vp hin
      have hty : (zak k).isReference = true := by
        simp only [List.mem_cons, List.not_mem_nil, or_false] at hk
        rcases hk with rfl | rfl | rfl | rfl | rfl <;> rfl
      exact W.aald hex hb c1 c2 hty c3 (by rw [c4]; exact g1) (c5 _ g2) rfl rfl hd (kk H locs cells slots als hR)
    · cases hx
  case arraylength =>
    simp only [zX] at hx
    split at hx
    · obtain ⟨x, hv, hx⟩ := Option.bind_eq_some_iff.mp hx
      cases zgo_inv hx
      unfold zlen at hv
      split at hv
      · cases hv
      · split at hv
        · rename_i ha
          cases hv
          obtain ⟨cell, c1, c2, c3, c4, c5⟩ := wk ha
          exact W.alen hex hb c1 c2 (by rw [c4]) rfl rfl hd (kk H locs cells slots als hR)
        · cases hv
    · cases hx
end ZC
