/-! SOUND, ONE INSTRUCTION: what is made, statics, constants, casts -/
theorem zRA_name {U : State} {cA : ClassId} {ty : FieldType} (h : va_RA U cA ty) : U.vm.findClass ("[" ++ ty.toString) = some cA := by
  cases ty with
  | object C => obtain ⟨kA, comp, h1, h2, h3, h4⟩ := h; exact h4
  | _ => exact h
theorem zrefs_zero {h : zH} {k n : Nat} : zrefs h (.inl (k, n, .inr (.inr fun _ => none))) := by
  unfold zrefs
  split
  · rename_i heq
    cases heq
    intro j hj y9 hy
    cases hy
  · trivial
theorem zcl_nf0 : (zcl.all fun q => (List.range q.2.2).all fun k => decide ((parseFieldDescriptor (q.2.1 k).2.2.1).map zkd ≠ some 9)) = true := by decide +kernel
theorem zcl_nf {q : vw_C} (hq : q ∈ zcl) {k : Nat} (hk : k < q.2.2) {ty : FieldType} (hty : parseFieldDescriptor (q.2.1 k).2.2.1 = some ty) : zkd ty ≠ 9 := by
  have h1 := List.all_eq_true.mp (List.all_eq_true.mp zcl_nf0 q hq) k (List.mem_range.mpr hk)
  rw [hty] at h1
  intro h2
  simp [h2] at h1
section ZC
variable {D : va_G} {dA : Nat → ClassId} {G : Nat → Option Nat} {base d y : Nat} {p : Program} {l : Launch} {e : Env} {R : Room} {s : State} {m : MethodId} {args : Array Value} {below : List Frame} {meth : Method} {c : Code} {Q : State → Prop} {M S mc ms : Nat}
variable {pc n pc' : Nat} {ls ls' : zLs} {st st' : List zV} {h h' : zH}
/-- room for what is made -/
theorem zroom (C : zCtx D dA G base d y p l R s m args meth c mc ms) {H : Heap} {locs : List Loc} {cells slots a b : Nat} {als : Array Slot} (hR : zRel D dA base y s c h ls M S mc ms H locs cells slots als) (ha : h.2.1 + a ≤ M) (hb : h.2.2 + b ≤ S) :
    (cells + a ≤ R.cells ∧ slots + b ≤ R.slots) ∧ cells + a + (M - (h.2.1 + a)) ≤ mc ∧ slots + b + (S - (h.2.2 + b)) ≤ ms := by
  obtain ⟨-, -, -, -, -, -, -, -, -, -, -, -, -, hmc, hms⟩ := C
  obtain ⟨-, -, -, ⟨h1, h2⟩, h3, h4⟩ := hR
  refine ⟨⟨?_, ?_⟩, ?_, ?_⟩ <;> omega
theorem zS_push {H0 H H1 : Heap} {locs : List Loc} (hS : va_S (fun q => base ≤ q) H0 H locs) (z : H1.size = H.size + 1) (o : ∀ q : Nat, q < H.size → H1[q]? = H[q]?) : va_S (fun q => base ≤ q) H0 H1 locs :=
  ⟨by rw [z]; exact Nat.le_succ_of_le hS.1, fun q h1 h2 => (o q (Nat.lt_of_lt_of_le h1 hS.1)).trans (hS.2.1 q h1 h2), hS.2.2⟩
theorem zs_new (C : zCtx D dA G base d y p l R s m args meth c mc ms) {idx : Nat} (hd : decode (zm y).2.1 pc = .ok (.new idx, 3)) (hM : h'.2.1 ≤ M ∧ h'.2.2 ≤ S)
    (hx : zX G (.new idx) 3 d y pc ls st h = some (.inl (pc', ls', st', h'))) (kk : zOK D dA base y p l e R s m args below meth c Q M S mc ms pc' ls' st' h') : zOK D dA base y p l e R s m args below meth c Q M S mc ms pc ls st h := by
  intro H locs cells slots als hR
  simp only [zX] at hx
  split at hx
  · split at hx
    · cases hx
    · split at hx <;> cases hx
  · split at hx
    · rename_i f hf
      obtain ⟨hm, hk⟩ := zfind_mem hf
      obtain ⟨ho, hi⟩ := zkey hk
      unfold znewO at hx
      cases zgo_inv hx
      obtain ⟨q, hq, hN, w1, w2, w3⟩ := znews_ok f hm
      have hown : s.vm.findClass (zcn f.1) = some m.cls := by rw [ho]; exact C.own
      have hKn := C.K.1 _ q hq
      have hin := C.in (zmem_cl hq)
      obtain ⟨ty0, hty⟩ := zcl_ty q (zmem_cl hq)
      obtain ⟨⟨r1, r2⟩, r3, r4⟩ := zroom C hR (a := 1) (b := f.2.2.2) hM.1 hM.2
      subst hi
      refine W.newcK C.1 C.2.2.1 hown (C.all w1) (C.all w2) (C.all w3) rfl hd r1 r2 hKn.2.1 rfl fun H1 kC hkC e1 z1 o1 => ?_
      have hz := hR.1.1
      rw [hz]
      refine kk H1 locs (cells + 1) (slots + f.2.2.2) als ⟨hR.1.push trivial z1 o1 ⟨q, hq, ?_⟩, zS_push hR.2.1 z1 o1, hR.2.2.1, hM, r3, r4⟩
      refine (u_born ty0 C.ts hin hKn hkC e1 hty).to fun k hk9 => ?_
      have hQ : zcl.getD f.2.2.1 ("", fun _ => ("", "", "", false), 0) = q := by simp [List.getD_eq_getElem?_getD, hq]
      unfold zdef
      rw [hQ]
      have h9 := hty k hk9
      have hnf := zcl_nf (zmem_cl hq) hk9 h9
      generalize (q.2.1 k) = tt at h9 ⊢
      obtain ⟨t1, t2, t3, t4⟩ := tt
      dsimp only at h9 ⊢
      rw [h9]
      show defaultValue (ty0 k) = zvv (zdefK (zkd (ty0 k)))
      have hok : ∀ ty : FieldType, ty ≠ .float → ty ≠ .double → defaultValue ty = zvv (zdefK (zkd ty)) := by
        intro ty h1 h2
        cases ty <;> first | rfl | exact absurd rfl h1 | exact absurd rfl h2
      exact hok _ (fun e => hnf (by rw [e]; rfl)) (fun e => hnf (by rw [e]; rfl))
    · cases hx
theorem znewa_inv {k : Nat} {m9 : Int32} {r : zV × zH} (hx : znewa h k m9 = some r) : ¬ m9 < 0 ∧ m9.toNatClampNeg ≤ 1000000 ∧ r = (zr (some h.2.1), zalloc h (.inl (k, m9.toNatClampNeg, zzero k)) m9.toNatClampNeg) := by
  unfold znewa at hx
  split at hx
  · rename_i hc
    simp only [Bool.and_eq_true, Bool.not_eq_true', decide_eq_false_iff_not, decide_eq_true_eq] at hc
    cases hx
    exact ⟨hc.1, hc.2, rfl⟩
  · cases hx
theorem zs_newa (C : zCtx D dA G base d y p l R s m args meth c mc ms) {t : ArrayType} (hd : decode (zm y).2.1 pc = .ok (.newarray t, 2)) (hM : h'.2.1 ≤ M ∧ h'.2.2 ≤ S)
    (hx : zX G (.newarray t) 2 d y pc ls st h = some (.inl (pc', ls', st', h'))) (kk : zOK D dA base y p l e R s m args below meth c Q M S mc ms pc' ls' st' h') : zOK D dA base y p l e R s m args below meth c Q M S mc ms pc ls st h := by
  intro H locs cells slots als hR
  simp only [zX] at hx
  split at hx
  · rename_i m9 st9
    have go : ∀ k : Nat, k < 4 → newarray.typeOf t = zak k → (Jvm.Cond.arrayClass (newarray.typeOf t)) ∈ lw_all → zcont (zzero k) = zcont (zzero k) → ((znewa h k m9).bind fun r => zgo (pc + 2) ls (r.1 :: st9) r.2) = some (.inl (pc', ls', st', h')) →
        (∀ cA N, arrV cA N (fun _ => defaultValue (newarray.typeOf t)) = vp_cell cA (N, zcont (zzero k))) → W p l e R s m args below meth c H locs cells slots Q (F0 m pc als (.int m9 :: st9.map zvv)) := by
      intro k hk hty hw _ hx hcell
      obtain ⟨r, hr, hx⟩ := Option.bind_eq_some_iff.mp hx
      cases zgo_inv hx
      obtain ⟨h0, h1, rfl⟩ := znewa_inv hr
      obtain ⟨⟨r1, r2⟩, r3, r4⟩ := zroom C hR (a := 1) (b := m9.toNatClampNeg) hM.1 hM.2
      have hcb : componentBytes (newarray.typeOf t) ≤ 8 := by cases t <;> decide
      have hby : m9.toNatClampNeg * componentBytes (newarray.typeOf t) ≤ 536870912 := by
        have h2 : m9.toNatClampNeg * componentBytes (newarray.typeOf t) ≤ 1000000 * 8 := Nat.mul_le_mul h1 hcb
        omega
      refine W.newa C.1 C.2.2.1 (C.all hw) rfl hd rfl h0 hby r1 r2 fun cA kA comp g1 g2 g3 => ?_
      obtain ⟨z1, o1, e1⟩ := zpush_o (H := H) (cell := { cls := cA, slots := Array.replicate m9.toNatClampNeg (defaultValue (newarray.typeOf t)), vm := .none })
      have hcA : cA = dA k := by
        have h2 := zRA_name (C.K.2 k _ (ztys_at dA (Nat.lt_trans hk (by decide)))).2
        rw [← hty] at h2
        exact Option.some.inj (g1.symm.trans h2)
      rw [hR.1.1]
      refine kk _ locs (cells + 1) (slots + m9.toNatClampNeg) als ⟨hR.1.push ?_ z1 o1 ?_, zS_push hR.2.1 z1 o1, hR.2.2.1, hM, r3, r4⟩
      · unfold zrefs
        split
        · rename_i heq; cases heq; exact absurd hk (by decide)
        · trivial
      · simp only [zat]
        rw [if_pos (Nat.lt_trans hk (by decide))]
        refine ⟨?_, fun hk1 j hj => ?_⟩
        · rw [e1, arrV_new, hcell, hcA]
        · subst hk1; rfl
    cases t <;> dsimp only at hx <;> first | (cases hx; done) | skip
    case int => exact go 0 (by decide) rfl q227 rfl hx (fun _ _ => rfl)
    case byte => exact go 1 (by decide) rfl q210 rfl hx (fun _ _ => rfl)
    case boolean => exact go 2 (by decide) rfl q1432 rfl hx (fun _ _ => rfl)
    case long => exact go 3 (by decide) rfl q1793 rfl hx (fun _ _ => rfl)
  · cases hx
theorem zs_anewa (C : zCtx D dA G base d y p l R s m args meth c mc ms) {idx : Nat} (hd : decode (zm y).2.1 pc = .ok (.anewarray idx, 3)) (hM : h'.2.1 ≤ M ∧ h'.2.2 ≤ S)
    (hx : zX G (.anewarray idx) 3 d y pc ls st h = some (.inl (pc', ls', st', h'))) (kk : zOK D dA base y p l e R s m args below meth c Q M S mc ms pc' ls' st' h') : zOK D dA base y p l e R s m args below meth c Q M S mc ms pc ls st h := by
  intro H locs cells slots als hR
  simp only [zX] at hx
  split at hx
  · rename_i m9 st9
    split at hx
    · rename_i f hf
      obtain ⟨hm, hk⟩ := zfind_mem hf
      obtain ⟨ho, hi⟩ := zkey hk
      obtain ⟨r, hr, hx⟩ := Option.bind_eq_some_iff.mp hx
      cases zgo_inv hx
      obtain ⟨h0, h1, rfl⟩ := znewa_inv hr
      obtain ⟨w1, w2⟩ := zanews_ok f hm
      have hAO : va_AO f.2.2.2 s := C.2.2.2.2.2.2.2.2.2.2.1.2.2.1 f hm
      have hkk : f.2.2.1 ∈ [4, 5, 6] ∧ zak f.2.2.1 = .object f.2.2.2 := by
        have hall : ∀ f ∈ zanews, f.2.2.1 ∈ [4, 5, 6] ∧ zak f.2.2.1 = .object f.2.2.2 := by decide +kernel
        exact hall f hm
      have hown : s.vm.findClass (zcn f.1) = some m.cls := by rw [ho]; exact C.own
      obtain ⟨⟨r1, r2⟩, r3, r4⟩ := zroom C hR (a := 1) (b := m9.toNatClampNeg) hM.1 hM.2
      have hk8 : f.2.2.1 < 8 ∧ f.2.2.1 ≠ 1 ∧ zzero f.2.2.1 = .inr (.inr fun _ => none) := by
        have hk9 := hkk.1
        simp only [List.mem_cons, List.not_mem_nil, or_false] at hk9
        rcases hk9 with h9 | h9 | h9 <;> rw [h9] <;> exact ⟨by decide, by decide, rfl⟩
      subst hi
      refine W.anew C.1 C.2.2.1 hown (C.all w1) (va_AO.use hAO) rfl hd rfl h0 (by omega) r1 r2 fun cA kA comp g1 g2 g3 g4 => ?_
      obtain ⟨z1, o1, e1⟩ := zpush_o (H := H) (cell := { cls := cA, slots := Array.replicate m9.toNatClampNeg .null, vm := .none })
      have hcA : cA = dA f.2.2.1 := by
        have h2 := zRA_name (C.K.2 _ _ (ztys_at dA hk8.1)).2
        rw [hkk.2] at h2
        exact Option.some.inj (g1.symm.trans h2)
      rw [hR.1.1]
      refine kk _ locs (cells + 1) (slots + m9.toNatClampNeg) als ⟨hR.1.push ?_ z1 o1 ?_, zS_push hR.2.1 z1 o1, hR.2.2.1, hM, r3, r4⟩
      · rw [hk8.2.2]
        exact zrefs_zero
      · simp only [zat]
        rw [if_pos hk8.1]
        refine ⟨?_, fun hk1 => absurd hk1 hk8.2.1⟩
        rw [e1, arrV_new, hcA, hk8.2.2]
        rfl
    · cases hx
  · cases hx
theorem zs_const (C : zCtx D dA G base d y p l R s m args meth c mc ms) (i : Instr) (hd : decode (zm y).2.1 pc = .ok (i, n)) (hn : zln i n = n)
    (hi : match i with | .ldc _ | .ldc_w _ | .ldc2_w _ | .getstatic _ => True | _ => False)
    (hx : zX G i n d y pc ls st h = some (.inl (pc', ls', st', h'))) (kk : zOK D dA base y p l e R s m args below meth c Q M S mc ms pc' ls' st' h') : zOK D dA base y p l e R s m args below meth c Q M S mc ms pc ls st h := by
  intro H locs cells slots als hR
  cases i <;> first | (cases hi; done) | skip
  case ldc idx =>
    cases (show 2 = n from hn)
    simp only [zX] at hx
    split at hx
    · rename_i hc
      obtain ⟨g, hg, hx⟩ := Option.bind_eq_some_iff.mp hx
      · cases zgo_inv hx
        have hM := C.2.2.2.2.2.2.2.2.2.2.1.2.2.2.2.1 g hg
        have hl : Cond.classLink (zcn (zow y)) idx "[Ljava/lang/Object;" ∈ lw_all := by
          rw [hc.1, hc.2]
          exact q449
        exact va_ldcM C.1 C.2.2.1 C.own (C.all hl) hM hd (kk H locs cells slots als hR)
    · split at hx
      · rename_i f hf
        obtain ⟨hm, hk⟩ := zfind_mem hf
        obtain ⟨ho, hi⟩ := zkey hk
        cases zgo_inv hx
        subst hi
        exact lv_ldc C.1 C.2.2.1 (by rw [ho]; exact C.own) (C.all (zldI_ok f hm)) hd (kk H locs cells slots als hR)
      · split at hx
        · rename_i f hf
          obtain ⟨hm, hk⟩ := zfind_mem hf
          obtain ⟨ho, hi⟩ := zkey hk
          obtain ⟨g, hg, hx⟩ := Option.bind_eq_some_iff.mp hx
          · cases zgo_inv hx
            subst hi
            exact va_ldcS C.1 C.2.2.1 (by rw [ho]; exact C.own) (C.2.2.2.2.2.2.2.2.2.2.1.2.2.2.2.2 f hm g hg) hd (kk H locs cells slots als hR)
        · cases hx
  case ldc_w idx =>
    cases (show 3 = n from hn)
    simp only [zX] at hx
    split at hx
    · rename_i f hf
      obtain ⟨hm, hk⟩ := zfind_mem hf
      obtain ⟨ho, hi⟩ := zkey hk
      cases zgo_inv hx
      subst hi
      exact lv_ldcw C.1 C.2.2.1 (by rw [ho]; exact C.own) (C.all (zldI_ok f hm)) hd (kk H locs cells slots als hR)
    · cases hx
  case ldc2_w idx =>
    cases (show 3 = n from hn)
    simp only [zX] at hx
    split at hx
    · rename_i f hf
      obtain ⟨hm, hk⟩ := zfind_mem hf
      obtain ⟨ho, hi⟩ := zkey hk
      cases zgo_inv hx
      subst hi
      exact lv_ldc2 C.1 C.2.2.1 (by rw [ho]; exact C.own) (C.all (zldL_ok f hm)) hd (kk H locs cells slots als hR)
    · cases hx
  case getstatic idx =>
    cases (show 3 = n from hn)
    simp only [zX] at hx
    split at hx
    · rename_i f hf
      obtain ⟨hm, hk⟩ := zfind_mem hf
      obtain ⟨ho, hi⟩ := zkey hk
      cases zgo_inv hx
      obtain ⟨g, hg, hl⟩ := zsts_ok f hm
      obtain ⟨hgm, hgk⟩ := zfind_mem hg
      have hge : g.1 = f.2.2 := by simpa using hgk
      subst hi
      have hZ := C.2.2.2.2.2.2.2.2.2.2.2.1.1 g hgm
      rw [hge] at hZ
      exact va_gets C.1 C.2.2.1 hZ hR.2.1 (by rw [ho]; exact C.own) (C.all hl) (fun _ h9 => h9) hd (kk H locs cells slots als hR)
    · cases hx
end ZC
