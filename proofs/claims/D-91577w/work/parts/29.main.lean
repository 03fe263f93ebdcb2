/-! THE MACHINE OF OUR OWN IS SOUND: the whole run -/
theorem zsp_len_map (as : List zV) : (lg_sl (as.map zvv)).length = (zsp as).length := by
  induction as with
  | nil => rfl
  | cons a as ih =>
    have h1 : (lg_sl ((a :: as).map zvv)).length = (if (zvv a).category = 2 then 2 else 1) + (lg_sl (as.map zvv)).length := by
      unfold lg_sl
      rw [List.map_cons, List.flatMap_cons, List.length_append]
      congr 1
      split <;> rfl
    rw [h1, ih, zvv_cat]
    match a with
    | .inl x => exact Nat.add_comm _ _
    | .inr (.inl x) => exact Nat.add_comm _ _
    | .inr (.inr x) => exact Nat.add_comm _ _
theorem zsp_args : ∀ (as : List zV) (i k : Nat) (v : zV), zg (zsp as) k = some v → (i + k, zvv v) ∈ lv_args i (as.map zvv)
  | [], i, k, v, h => by cases h
  | .inl x :: as, i, k, v, h => by
    cases k with
    | zero =>
      cases h
      exact List.mem_cons_self
    | succ k =>
      have h1 := zsp_args as (i + 1) k v h
      rw [show i + 1 + k = i + (k + 1) by omega] at h1
      exact List.mem_cons_of_mem _ h1
  | .inr (.inl x) :: as, i, k, v, h => by
    cases k with
    | zero =>
      cases h
      exact List.mem_cons_self
    | succ k =>
      cases k with
      | zero => cases h
      | succ k =>
        have h1 := zsp_args as (i + 2) k v h
        rw [show i + 2 + k = i + (k + 1 + 1) by omega] at h1
        exact List.mem_cons_of_mem _ h1
  | .inr (.inr x) :: as, i, k, v, h => by
    have hc : ¬ (zvv (.inr (.inr x))).category = 2 := by rw [zvv_cat]; intro z; cases z
    cases k with
    | zero =>
      cases h
      exact List.mem_cons_self
    | succ k =>
      have h1 := zsp_args as (i + 1) k v h
      rw [show i + 1 + k = i + (k + 1) by omega] at h1
      show _ ∈ (i, zvv (.inr (.inr x))) :: lv_args (if (zvv (.inr (.inr x))).category = 2 then i + 2 else i + 1) (as.map zvv)
      rw [if_neg hc]
      exact List.mem_cons_of_mem _ h1
theorem zg_app : ∀ (a b : zLs) (k : Nat), zg (a ++ b) k = if k < a.length then zg a k else zg b (k - a.length)
  | [], b, k => by simp
  | x :: a, b, 0 => by simp [zg]
  | x :: a, b, k + 1 => by
    show zg (a ++ b) k = _
    rw [zg_app a b k]
    simp only [List.length_cons, Nat.add_lt_add_iff_right, Nat.add_sub_add_right]
    rfl
theorem zg_rep (n k : Nat) : zg (List.replicate n none) k = none := by
  induction n generalizing k with
  | zero => rfl
  | succ n ih =>
    cases k with
    | zero => rfl
    | succ k => exact ih k
theorem zent_g {as : List zV} {n k : Nat} {v : zV} (h : zg (zent as n) k = some v) : zg (zsp as) k = some v := by
  unfold zent at h
  rw [zg_app] at h
  split at h
  · exact h
  · rw [zg_rep] at h; cases h

theorem zlok_at {y' : Nat} {as : List zV} {n k : Nat} {x : Int64} (h : zlok y' as n = true) (hk : zg (zent as n) k = some (zl x)) : (zlgs y').contains k = true := by
  unfold zlok at h
  have hlt := zg_lt hk
  rw [zg_get] at hk
  have h1 : (zent as n)[k]? = some (some (zl x)) := by
    cases hq : (zent as n)[k]? with
    | none => rw [hq] at hk; cases hk
    | some o => rw [hq] at hk; exact congrArg some hk
  have h2 : ((zent as n).zipIdx)[k]? = some (some (zl x), k) := by
    rw [List.getElem?_zipIdx, h1]
    simp
  exact List.all_eq_true.mp h _ (List.mem_of_getElem? h2)
theorem zhd_inv {tl : List (Nat × Nat)} {y : Nat} (h : zhd tl = some y) : ∃ q0 tl', tl = (q0, y) :: tl' := by
  cases tl with
  | nil => cases h
  | cons t tl =>
    obtain ⟨q0, y0⟩ := t
    cases h
    exact ⟨q0, tl, rfl⟩
theorem zsel_inv {h : zH} {r : Option Nat} {tl : List (Nat × Nat)} {y : Nat} (hx : zsel h r tl = some y) : ∃ a ci t, r = some a ∧ zcls h a = some ci ∧ t ∈ tl ∧ t.1 = ci ∧ t.2 = y := by
  unfold zsel at hx
  split at hx
  · cases hx
  · split at hx
    · cases hx
    · rename_i ci hci
      obtain ⟨t, ht, rfl⟩ := Option.map_eq_some_iff.mp hx
      obtain ⟨h1, h2⟩ := zfind_mem ht
      exact ⟨_, ci, t, rfl, hci, h1, by simpa using h2, rfl⟩
theorem zobj_inv {h : zH} {r : Option Nat} (hx : zobj h r = true) : ∃ a ci, r = some a ∧ zcls h a = some ci := by
  unfold zobj at hx
  split at hx
  · cases hx
  · rename_i a
    obtain ⟨ci, hci⟩ := Option.isSome_iff_exists.mp hx
    exact ⟨a, ci, rfl, hci⟩
section ZC
variable {D : va_G} {dA : Nat → ClassId} {G : Nat → Option Nat} {base : Nat} {l : Launch}
/-- a run of n steps is what the model does, in any body -/
def zSnd (D : va_G) (dA : Nat → ClassId) (G : Nat → Option Nat) (base : Nat) (l : Launch) (n : Nat) : Prop :=
  ∀ (d y pc : Nat) (ls : zLs) (st : List zV) (h : zH) (r : zRes), zex G n d y pc ls st h = some r → zle h r.2 →
    ∀ (p : Program) (e : Env) (R : Room) (s : State) (m : MethodId) (args : Array Value) (below : List Frame) (meth : Method) (c : Code) (mc ms : Nat),
      zCtx D dA G base d y p l R s m args meth c mc ms → zOK D dA base y p l e R s m args below meth c (zQ D dA base r below args s mc ms) r.2.2.1 r.2.2.2 mc ms pc ls st h
theorem zmet_of (hl : l.stackTraces = false) {n d y : Nat} {ey : zM} (hy : zms[y]? = some ey) (hS : zSnd D dA G base l n) {as : List zV} {h : zH} {r : zRes} (hok : zlok y as (zm y).2.2.1 = true) (hlen : (zsp as).length ≤ (zm y).2.2.1)
    (hx : zex G n d y 0 (zent as (zm y).2.2.1) [] h = some r) : zMet D dA G base l d y as h r := by
  have hle := zex_heap G _ _ _ _ _ _ _ _ hx
  have he := zm_of hy
  have hmem := List.mem_of_getElem? hy
  have hokm := zms_ok ey hmem
  have hlv := zms_lv hmem
  have hpl : plainFor (zname y) = true := by unfold zname; rw [he]; exact hokm.2.2.2.2.1.1
  have body : ∀ (p : Program) (e : Env) (s : State) (m : MethodId) (args : Array Value) (below : List Frame) (meth : Method) (c : Code) (s₁ : State), BodyLoose p l (zname y) (headSpec (zws y) (zrm d y (r.2.2.1 - h.2.1) (r.2.2.2 - h.2.2))) (zm y).2.1 (zm y).2.2.1 (zm y).2.2.2.1 e s m args below meth c s₁ → c.maxLocals = (zm y).2.2.1 →
      c.exceptionTable.toList = (zm y).2.2.2.2.2.2.1.map (fun q => ⟨q.1, q.2.1, q.2.2.1, q.2.2.2⟩) → zPc D dA G base as h args s →
      W p l e (zrm d y (r.2.2.1 - h.2.1) (r.2.2.2 - h.2.2)) s m args below meth c s.heap [] 0 0 (zQ D dA base r below args s (r.2.2.1 - h.2.1) (r.2.2.2 - h.2.2)) (entryFrame m args (zm y).2.2.1) := by
    intro p e s m args below meth c s₁ B hml htab hP
    obtain ⟨rfl, hI, hT, hSt⟩ := hP
    have hts0 := atoms_spec (ws := zws y) B.pre
    have hts : ∀ w ∈ lwB, w.before (as.map zvv).toArray s = true := fun w hw => hts0 w (List.mem_cons_of_mem _ hw)
    have hown : s.vm.findClass (zcn (zow y)) = some m.cls := by
      have h1 := findClass_of_methodNamed B.named
      have h2 : zcn (zow y) = (zname y).cls := by unfold zname zow; rw [he]; exact hokm.2.2.2.1
      rw [h2]; exact h1
    have hinit : (zm y).2.2.2.2.2.2.2 = true → meth.name = "<init>" := by
      intro hi
      have h1 := (name_of_methodNamed B.named B.method).1
      rw [he] at hi
      have h2 := hokm.2.2.2.2.2.mp hi
      rw [h1]
      unfold zname
      rw [he]
      exact h2
    have C : zCtx D dA G base d y p l (zrm d y (r.2.2.1 - h.2.1) (r.2.2.2 - h.2.2)) s m (as.map zvv).toArray meth c (r.2.2.1 - h.2.1) (r.2.2.2 - h.2.2) :=
      ⟨B.exec, hl, B.bytes, hml, B.returns, B.notSynchronized, hown, hts, hinit, htab, hT, hSt, ⟨Nat.le_refl _, Nat.le_refl _, by rw [he]; exact hlv.1⟩, Nat.le_refl _, Nat.le_refl _⟩
    rw [lg_entry_eq]
    have hlv9 := lv_entry (as.map zvv) (n := (zm y).2.2.1) (by rw [zsp_len_map]; exact hlen)
    refine hS d y 0 _ [] h r hx hle p e _ s m _ below meth c _ _ C s.heap [] 0 0 _ ⟨hI, va_S.rf, ⟨?_, hlv9.2.1, ?_, fun k v hk => ?_, fun k x hk => zlok_at hok hk⟩, hle, by omega, by omega⟩
    · rw [hml]; exact hlv9.1
    · unfold zent
      rw [List.length_append, List.length_replicate, hml]
      omega
    · have h1 := zsp_args as 0 k v (zent_g hk)
      rw [Nat.zero_add] at h1
      exact hlv9.2.2 (k, zvv v) h1
  unfold zMet
  by_cases hnh : (zm y).2.2.2.2.2.2.1 = []
  · refine vx_ofW (cc := (zm y).2.1) (maxL := (zm y).2.2.1) (ret := (zm y).2.2.2.1) hpl (by unfold zws zcodeW; rw [if_pos hnh]; rfl) fun p e s m args below meth c s₁ B hml hno hP => ?_
    refine body p e s m args below meth c s₁ B hml ?_ hP
    rw [hnh]
    cases hc : c.exceptionTable.toList with
    | nil => rfl
    | cons x xs => exact (hno x (by rw [hc]; exact List.mem_cons_self)).elim
  · have hwd : zws y = Jvm.Cond.codeWith (zname y) (zm y).2.1 (zm y).2.2.1 (zm y).2.2.2.1 (zm y).2.2.2.2.2.2.1 :: lwB := by unfold zws zcodeW; rw [if_neg hnh]; rfl
    refine vx_ofWH (cc := (zm y).2.1) (maxL := (zm y).2.2.1) (ret := (zm y).2.2.2.1) hpl hwd fun p e s m args below meth c s₁ B hml hP => ?_
    refine body p e s m args below meth c s₁ B hml ?_ hP
    have h1 := atoms_spec (ws := zws y) B.pre _ (by rw [hwd]; exact List.mem_cons_self)
    exact vx_table (x := zname y) B h1
theorem zthrown {d y pc n : Nat} {p : Program} {e : Env} {R : Room} {s : State} {m : MethodId} {args : Array Value} {below : List Frame} {meth : Method} {c : Code} {mc ms : Nat} {ls : zLs} {rest : List zV} {r : zRes} {ci a : Nat} {h1 : zH} (C : zCtx D dA G base d y p l R s m args meth c mc ms) (hS : zSnd D dA G base l n)
    (hb : zback (zex G n) d y pc ls rest (.inr (ci, a), h1) = some r) : zOKX D dA base y p l e R s m args below meth c (zQ D dA base r below args s mc ms) r.2.2.1 r.2.2.2 mc ms pc ls rest ci a h1 := by
  intro H locs cells slots als ce hR hce hcv hcl
  simp only [zback] at hb
  have htab := C.2.2.2.2.2.2.2.2.2.1
  split at hb
  · split at hb
    · rename_i t ht
      unfold zhand at ht
      split at ht
      · rename_i a9 b9 t9 k9 hh
        split at ht
        · rename_i hpc
          split at ht
          · rename_i e9 hf
            split at ht
            · rename_i hci
              cases ht
              obtain ⟨hm, hk⟩ := zfind_mem hf
              obtain ⟨ho, hi⟩ := zkey hk
              obtain ⟨w1, w2, w3, w4⟩ := zcats_ok e9 hm
              rw [hh] at htab
              have hle := zex_heap G _ _ _ _ _ _ _ _ hb
              have k8 := hS d y t ls [zr (some a)] h1 r hb hle p e R s m args below meth c mc ms C H locs cells slots als hR
              rw [ho, hi] at w2
              rw [hi] at w4
              rw [w1, hci] at w2 w3
              exact vx_catch C.own [] ⟨a9, b9, t, k9⟩ [] htab (fun z hz => by cases hz) (by simp [covers, hpc]) w4 (C.all w2) (C.nw w3 rfl rfl) hce hcv hcl k8
            · cases ht
          · cases ht
        · cases ht
      · cases ht
    · cases hb
  · rename_i hnc
    cases hb
    have h1' : cells ≤ mc := by have := hR.2.2.2.2.1; omega
    have h2' : slots ≤ ms := by have := hR.2.2.2.2.2; omega
    have hout : ∀ x ∈ c.exceptionTable.toList, covers x pc = false := by
      unfold zcov at hnc
      split at hnc
      · rename_i hh
        rw [hh] at htab
        rw [htab]
        intro x hx; cases hx
      · rename_i a9 b9 t9 k9 hh
        rw [hh] at htab
        rw [htab]
        intro x hx
        simp only [List.map_cons, List.map_nil, List.mem_singleton] at hx
        subst hx
        simpa [covers] using hnc
      · exact absurd rfl hnc
    exact vx_out hout C.2.2.2.2.2.1 hce hcv hcl (fun t ht hal => ⟨ci, h1, rfl, rfl, by rw [ht]; exact hR.1.moved hal, zfr_of hR.2.1 ht⟩) hR.2.1.2.2 h1' h2'
theorem zsound (hl : l.stackTraces = false) : ∀ n : Nat, zSnd D dA G base l n := by
  intro n
  induction n with
  | zero => intro d y pc ls st h r hx; cases hx
  | succ n ih =>
    intro d y pc ls st h r hx hle p e R s m args below meth c mc ms C
    have hx : zstep G (zex G n) d y pc ls st h = some r := hx
    unfold zstep at hx
    split at hx
    · cases hx
    · rename_i q hq
      split at hx
      · rename_i hn
        have hd : decode (zm y).2.1 pc = .ok (q.1, q.2) := by
          unfold zf at hq
          split at hq
          · rename_i q9 hq9
            cases hq
            exact hq9
          · cases hq
        generalize ho : zX G q.1 q.2 d y pc ls st h = o at hx
        match o, hx with
        | some (.inl (pc', ls', st', h')), hx =>
          have hle' := zex_heap G _ _ _ _ _ _ _ _ hx
          exact zX_next C _ hd hn hle' ho (ih _ _ _ _ _ _ _ hx hle' p e R s m args below meth c mc ms C)
        | some (.inr (.inr r')), hx =>
          cases hx
          exact zs_end C _ hd hn ho
        | some (.inr (.inl (d', y', as, h1, ls1, rest))), hx =>
          simp only [zK2, Option.bind_eq_some_iff] at hx
          obtain ⟨w, h2, h3⟩ := hx
          have hlw := zex_heap G _ _ _ _ _ _ _ _ h2
          have hwr : w.2.2.1 ≤ r.2.2.1 ∧ w.2.2.2 ≤ r.2.2.2 := by
            match w, h3 with
            | (.inl v, h5), h3 => exact zex_heap G _ _ _ _ _ _ _ _ h3
            | (.inr (ci, a), h5), h3 =>
              simp only [zback] at h3
              split at h3
              · split at h3
                · exact zex_heap G _ _ _ _ _ _ _ _ h3
                · cases h3
              · cases h3
                exact ⟨Nat.le_refl _, Nat.le_refl _⟩
          have kret : ∀ v h5, w = (.inl v, h5) → zOK D dA base y p l e R s m args below meth c (zQ D dA base r below args s mc ms) r.2.2.1 r.2.2.2 mc ms (pc + 3) ls1 (v.toList ++ rest) h5 := by
            intro v h5 hw
            subst hw
            exact ih _ _ _ _ _ _ _ h3 (zex_heap G _ _ _ _ _ _ _ _ h3) p e R s m args below meth c mc ms C
          have kthr : ∀ ci a h5, w = (.inr (ci, a), h5) → zOKX D dA base y p l e R s m args below meth c (zQ D dA base r below args s mc ms) r.2.2.1 r.2.2.2 mc ms pc ls1 rest ci a h5 := by
            intro ci a h5 hw
            subst hw
            exact zthrown C ih h3
          obtain ⟨idx, f, hf, hz, hki⟩ := zX_call _ ho
          obtain ⟨hfm, hfk⟩ := zfind_mem hf
          obtain ⟨hfo, hfi⟩ := zkey hfk
          unfold zinv at hz
          split at hz
          · cases hz
          · rename_i as9 rest9 htk
            obtain ⟨hst, hlen⟩ := ztake_inv htk
            have hok := zks_ok f hfm
            split at hz
            · rename_i hk0
              rcases hki with ⟨hi, hk⟩ | ⟨hi, hk⟩ | ⟨hi, hk⟩
              · obtain ⟨y9, hy9, hz⟩ := Option.bind_eq_some_iff.mp hz
                obtain ⟨q0, tl, hts⟩ := zhd_inv hy9
                obtain ⟨d9, hdep, hsum, hlk, hln, he9⟩ := zcallTo_inv hz
                cases he9
                rw [hi] at hd hn
                rw [show q.2 = 3 from hn.symm] at hd
                obtain ⟨y8, ey, ht8, hy8, -⟩ := hok.2.2.1 hk
                rw [hts] at ht8
                cases ht8
                rw [hst]
                exact zs_static C hfm hfo hfi hk hd hts hdep hsum hlen (zmet_of hl hy8 ih hlk hln h2) hlw hwr kret kthr
              · rcases hk with hk | hk | hk <;> (rw [hk0] at hk; cases hk)
              · rw [hk0] at hk; cases hk
            · rename_i hk0
              split at hz
              · rename_i r9 rest8
                split at hz
                · rename_i hk1
                  rcases hki with ⟨hi, hk⟩ | ⟨hi, hk⟩ | ⟨hi, hk⟩
                  · rw [hk1] at hk; cases hk
                  · rcases hk with hk | hk | hk <;> (rw [hk1] at hk; cases hk)
                  · obtain ⟨y9, hy9, hz⟩ := Option.bind_eq_some_iff.mp hz
                    obtain ⟨a9, ci, t, rfl, hcls, htm, ht1, rfl⟩ := zsel_inv hy9
                    obtain ⟨d9, hdep, hsum, hlk, hln, he9⟩ := zcallTo_inv hz
                    cases he9
                    rw [hi] at hd hn
                    rw [show q.2 = 3 from hn.symm] at hd
                    obtain ⟨q8, ey, hq8, hy8, -⟩ := hok.2.2.2.2.2 hk t htm
                    rw [hst]
                    exact zs_virt C hfm hfo hfi hk hd htm ht1 hcls hdep hsum hlen (zmet_of hl hy8 ih hlk hln h2) hlw hwr kret kthr
                · rename_i hk1
                  split at hz
                  · rename_i hk4
                    rcases hki with ⟨hi, hk⟩ | ⟨hi, hk⟩ | ⟨hi, hk⟩
                    · exact absurd hk hk0
                    · split at hz
                      · rename_i hob
                        obtain ⟨a9, ci, rfl, hcls⟩ := zobj_inv hob
                        obtain ⟨y9, hy9, hz⟩ := Option.bind_eq_some_iff.mp hz
                        obtain ⟨q0, tl, hts⟩ := zhd_inv hy9
                        obtain ⟨d9, hdep, hsum, hlk, hln, he9⟩ := zcallTo_inv hz
                        cases he9
                        rw [hi] at hd hn
                        rw [show q.2 = 3 from hn.symm] at hd
                        obtain ⟨y8, ey, ht8, hy8, -⟩ := hok.2.2.2.2.1 hk4
                        rw [hts] at ht8
                        cases ht8
                        rw [hst]
                        exact zs_super C hfm hfo hfi hk4 hd hts hcls hdep hsum hlen (zmet_of hl hy8 ih hlk hln h2) hlw hwr kret kthr
                      · cases hz
                    · exact absurd hk hk1
                  · rename_i hk4
                    rcases hki with ⟨hi, hk⟩ | ⟨hi, hk⟩ | ⟨hi, hk⟩
                    · exact absurd hk hk0
                    · split at hz
                      · rename_i hsm
                        obtain ⟨a9, rfl⟩ := Option.isSome_iff_exists.mp hsm
                        obtain ⟨y9, hy9, hz⟩ := Option.bind_eq_some_iff.mp hz
                        obtain ⟨q0, tl, hts⟩ := zhd_inv hy9
                        obtain ⟨d9, hdep, hsum, hlk, hln, he9⟩ := zcallTo_inv hz
                        cases he9
                        rw [hi] at hd hn
                        rw [show q.2 = 3 from hn.symm] at hd
                        have hk23 : f.2.2.1 = 2 ∨ f.2.2.1 = 3 := by
                          rcases hk with hk | hk | hk
                          · exact Or.inl hk
                          · exact Or.inr hk
                          · exact absurd hk hk4
                        obtain ⟨hin, y8, ey, ht8, hy8, -⟩ := hok.2.2.2.1 hk23
                        rw [hts] at ht8
                        cases ht8
                        rw [hst]
                        exact zs_ctor C hfm hfo hfi hk23 hd hts hdep hsum hlen (zmet_of hl hy8 ih hlk hln h2) hlw hwr kret kthr
                      · cases hz
                    · exact absurd hk hk1
              · cases hz
      · cases hx
end ZC
