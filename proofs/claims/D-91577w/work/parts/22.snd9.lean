/-! SOUND: every instruction that goes on in the body; the heap only grows -/
section ZC
variable {D : va_G} {dA : Nat → ClassId} {G : Nat → Option Nat} {base d y : Nat} {p : Program} {l : Launch} {e : Env} {R : Room} {s : State} {m : MethodId} {args : Array Value} {below : List Frame} {meth : Method} {c : Code} {Q : State → Prop} {M S mc ms : Nat}
variable {pc n pc' : Nat} {ls ls' : zLs} {st st' : List zV} {h h' : zH}
theorem zcallTo_inv {y' : Nat} {as rest : List zV} {o : zS} (hx : zcallTo d y y' as h ls rest = some o) : ∃ d', zdep d y y' = some d' ∧ zsum rest ≤ 8 ∧ zlok y' as (zm y').2.2.1 = true ∧ (zsp as).length ≤ (zm y').2.2.1 ∧ o = .inr (.inl (d', y', as, h, ls, rest)) := by
  unfold zcallTo at hx
  split at hx
  · cases hx
  · rename_i d' hd'
    split at hx
    · rename_i hc
      cases hx
      simp only [Bool.and_eq_true, decide_eq_true_eq] at hc
      exact ⟨d', hd', hc.1.1, hc.1.2, hc.2, rfl⟩
    · cases hx
theorem zinv_call {f : zK} {o : zS} (hx : zinv f d y ls st h = some o) : ∃ (y' : Nat) (as rest : List zV), zcallTo d y y' as h ls rest = some o := by
  unfold zinv at hx
  split at hx
  · cases hx
  · split at hx
    · obtain ⟨y', -, hx⟩ := Option.bind_eq_some_iff.mp hx
      exact ⟨_, _, _, hx⟩
    · split at hx
      · split at hx
        · obtain ⟨y', -, hx⟩ := Option.bind_eq_some_iff.mp hx
          exact ⟨_, _, _, hx⟩
        · split at hx
          · split at hx
            · obtain ⟨y', -, hx⟩ := Option.bind_eq_some_iff.mp hx
              exact ⟨_, _, _, hx⟩
            · cases hx
          · split at hx
            · obtain ⟨y', -, hx⟩ := Option.bind_eq_some_iff.mp hx
              exact ⟨_, _, _, hx⟩
            · cases hx
      · cases hx
theorem zinv_not {f : zK} (hx : zinv f d y ls st h = some (.inl (pc', ls', st', h'))) : False := by
  obtain ⟨y', as, rest, h9⟩ := zinv_call hx
  obtain ⟨_, _, _, _, _, h8⟩ := zcallTo_inv h9
  cases h8
theorem zs_oinit (C : zCtx D dA G base d y p l R s m args meth c mc ms) {idx a : Nat} (hd : decode (zm y).2.1 pc = .ok (.invokespecial idx, 3)) (hm : (zow y, idx) ∈ zois) (hsum : zsum st ≤ 8)
    (kk : zOK D dA base y p l e R s m args below meth c Q M S mc ms (pc + 3) ls st h) : zOK D dA base y p l e R s m args below meth c Q M S mc ms pc ls (zr (some a) :: st) h := by
  intro H locs cells slots als hR
  obtain ⟨hf1, hf2⟩ := C.fr
  have hrest : ((st.map zvv).map fun v => v.category).sum ≤ 8 := by rw [zsum_cat]; exact hsum
  exact W.objInit C.1 C.2.2.1 C.own (C.all (zois_ok _ hm)) (C.all q140) (C.all q141) rfl hR.2.2.1.1 rfl hd hf1 (by show 2 * 0 + _ + 12 ≤ _; omega) (kk H locs cells slots als hR)
set_option maxHeartbeats 1000000 in
theorem zX_next (C : zCtx D dA G base d y p l R s m args meth c mc ms) (i : Instr) (hd : decode (zm y).2.1 pc = .ok (i, n)) (hn : zln i n = n) (hM : h'.2.1 ≤ M ∧ h'.2.2 ≤ S)
    (hx : zX G i n d y pc ls st h = some (.inl (pc', ls', st', h'))) (kk : zOK D dA base y p l e R s m args below meth c Q M S mc ms pc' ls' st' h') : zOK D dA base y p l e R s m args below meth c Q M S mc ms pc ls st h := by
  cases i
  case new idx => cases (show 3 = n from hn); exact zs_new C hd hM hx kk
  case newarray t => cases (show 2 = n from hn); exact zs_newa C hd hM hx kk
  case anewarray idx => cases (show 3 = n from hn); exact zs_anewa C hd hM hx kk
  case getfield idx => cases (show 3 = n from hn); exact zs_getf C hd hx kk
  case putfield idx => cases (show 3 = n from hn); exact zs_putf C hd hx kk
  case multianewarray idx k =>
    cases (show 4 = n from hn)
    simp only [zX] at hx
    split at hx
    · split at hx
      · rename_i hc
        obtain ⟨r, hr, hx⟩ := Option.bind_eq_some_iff.mp hx
        cases zgo_inv hx
        rw [hc.2.1, hc.2.2] at hd
        exact zs_multi C hd hc.1 hr hM kk
      · cases hx
    · cases hx
  case athrow =>
    simp only [zX] at hx
    split at hx
    · split at hx
      · obtain ⟨q, -, hx⟩ := Option.bind_eq_some_iff.mp hx
        cases hx
      · cases hx
    · cases hx
  case invokespecial idx =>
    cases (show 3 = n from hn)
    simp only [zX] at hx
    split at hx
    · rename_i hc
      split at hx
      · rename_i r st9
        split at hx
        · rename_i hs
          cases zgo_inv hx
          cases r with
          | none => cases hs.1
          | some a => exact zs_oinit C hd (List.contains_iff_mem.mp hc) hs.2 kk
        · cases hx
      · cases hx
    · split at hx
      · split at hx
        · exact (zinv_not hx).elim
        · cases hx
      · cases hx
  case invokestatic idx =>
    cases (show 3 = n from hn)
    simp only [zX] at hx
    split at hx
    · rename_i hc
      split at hx
      · split at hx
        · rename_i hs
          obtain ⟨r, hr, hx⟩ := Option.bind_eq_some_iff.mp hx
          cases zgo_inv hx
          exact zs_copy C hd (List.contains_iff_mem.mp hc) hs hr kk
        · cases hx
      · cases hx
    · split at hx
      · split at hx
        · exact (zinv_not hx).elim
        · cases hx
      · cases hx
  case invokevirtual idx =>
    cases (show 3 = n from hn)
    simp only [zX] at hx
    split at hx
    · rename_i hc
      split at hx
      · rename_i r st9
        split at hx
        · rename_i hs
          obtain ⟨g, hg, hx⟩ := Option.bind_eq_some_iff.mp hx
          cases zgo_inv hx
          rw [hc.2] at hd
          have hoa := hs.1
          unfold zisOA at hoa
          split at hoa
          · cases hoa
          · split at hoa
            · rename_i k9 n9 c9 ha
              have hk4 : k9 = 4 := by simpa using hoa
              subst hk4
              exact zs_getC C hd hc.1 ha hg hs.2 kk
            · cases hoa
        · cases hx
      · cases hx
    · split at hx
      · rename_i hc
        split at hx
        · split at hx
          · rename_i hs
            obtain ⟨r, hr, hx⟩ := Option.bind_eq_some_iff.mp hx
            cases zgo_inv hx
            rw [hc.2] at hd
            exact zs_clone C hd hc.1 hr hs hM kk
          · cases hx
        · cases hx
      · split at hx
        · split at hx
          · exact (zinv_not hx).elim
          · cases hx
        · cases hx
  all_goals first
    | exact zs_loads C _ hd hn trivial hx kk
    | exact zs_stores C _ hd hn trivial hx kk
    | exact zs_arith C _ hd hn trivial hx kk
    | exact zs_misc C _ hd hn trivial hx kk
    | exact zs_ald C _ hd hn trivial hx kk
    | exact zs_ast C _ hd hn trivial hx kk
    | exact zs_const C _ hd hn trivial hx kk
    | exact zs_cast C _ hd hn trivial hx kk
    | (simp only [zX, zret1, zretK] at hx; repeat' (first | (cases hx; done) | split at hx))
/-! the heap only grows -/
def zle (h h' : zH) : Prop := h.2.1 ≤ h'.2.1 ∧ h.2.2 ≤ h'.2.2
theorem zle_rf (h : zH) : zle h h := ⟨Nat.le_refl _, Nat.le_refl _⟩
theorem zle.tr {a b c : zH} (h1 : zle a b) (h2 : zle b c) : zle a c := ⟨Nat.le_trans h1.1 h2.1, Nat.le_trans h1.2 h2.2⟩
theorem zle_alloc (h : zH) (c : zC) (n : Nat) : zle h (zalloc h c n) := ⟨Nat.le_succ _, Nat.le_add_right _ _⟩
end ZC
