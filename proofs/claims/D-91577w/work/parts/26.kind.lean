/-! WHAT KIND OF STEP AN INSTRUCTION MAKES -/
section ZC
variable {G : Nat → Option Nat} {d y : Nat} {pc n : Nat} {ls : zLs} {st : List zV} {h : zH} {z : (Nat × Nat × List zV × zH × zLs × List zV) ⊕ zRes}
theorem zgo_r {pc0 : Nat} {ls0 : zLs} {st0 : List zV} {h0 : zH} (hx : zgo pc0 ls0 st0 h0 = some (.inr z)) : False := by cases hx
theorem zj_r {off : Int} (hx : zj pc off ls st h = some (.inr z)) : False := by
  unfold zj at hx
  split at hx <;> cases hx
theorem zbind_r {α : Type} {o : Option α} {f1 : α → Nat} {f2 : α → zLs} {f3 : α → List zV} {f4 : α → zH} (hx : (o.bind fun x => zgo (f1 x) (f2 x) (f3 x) (f4 x)) = some (.inr z)) : False := by
  obtain ⟨x, -, hx⟩ := Option.bind_eq_some_iff.mp hx
  exact zgo_r hx
def zisC : Instr → Bool
  | .invokestatic _ | .invokespecial _ | .invokevirtual _ | .new _ | .athrow | .areturn | .ireturn | .return_ => true
  | _ => false
set_option maxHeartbeats 2000000 in
theorem zX_inl (i : Instr) (hi : zisC i = false) (hx : zX G i n d y pc ls st h = some (.inr z)) : False := by
  cases i
  case ifCond cnd off =>
    simp only [zX, zif1] at hx
    split at hx
    · split at hx
      · cases cnd <;> dsimp only at hx <;> split at hx <;> exact zgo_r hx
      · cases hx
    · cases hx
  case if_icmp cnd off =>
    simp only [zX, zif2] at hx
    split at hx
    · split at hx
      · cases cnd <;> dsimp only at hx <;> split at hx <;> exact zgo_r hx
      · cases hx
    · cases hx
  case if_acmp cnd off =>
    simp only [zX, zifa] at hx
    split at hx
    · split at hx
      · cases cnd <;> dsimp only at hx <;> split at hx <;> exact zgo_r hx
      · cases hx
    · cases hx
  case newarray t =>
    simp only [zX] at hx
    split at hx
    · cases t <;> dsimp only at hx <;> first | exact zbind_r hx | cases hx
    · cases hx
  all_goals first
    | (cases hi; done)
    | exact zgo_r hx
    | exact zj_r hx
    | (simp only [zX, zloadI, zloadL, zloadR, zstoI, zstoL, zstoR, zbin, zbinL, zun, zald, zastoI, zastoL, zastoR, zifn, zifnn, zgetf, zputf] at hx
       repeat' (first
         | exact zgo_r hx
         | exact zj_r hx
         | exact zbind_r hx
         | (cases hx; done)
         | split at hx))
/-- a call's step -/
theorem zX_call (i : Instr) {d' y' : Nat} {as : List zV} {h1 : zH} {ls1 : zLs} {st1 : List zV} (hx : zX G i n d y pc ls st h = some (.inr (.inl (d', y', as, h1, ls1, st1)))) :
    ∃ idx f, zlnk (zow y) idx = some f ∧ zinv f d y ls st h = some (.inr (.inl (d', y', as, h1, ls1, st1))) ∧ ((i = .invokestatic idx ∧ f.2.2.1 = 0) ∨ (i = .invokespecial idx ∧ (f.2.2.1 = 2 ∨ f.2.2.1 = 3 ∨ f.2.2.1 = 4)) ∨ (i = .invokevirtual idx ∧ f.2.2.1 = 1)) := by
  by_cases hi : zisC i = false
  · exact (zX_inl i hi hx).elim
  · cases i <;> first | (exact absurd rfl hi; done) | skip
    case athrow =>
      simp only [zX] at hx
      split at hx
      · split at hx
        · obtain ⟨q, -, hx⟩ := Option.bind_eq_some_iff.mp hx
          cases hx
        · cases hx
      · cases hx
    case areturn =>
      simp only [zX, zret1] at hx
      repeat' (first | (cases hx; done) | split at hx)
    case ireturn =>
      simp only [zX, zretK, zret1] at hx
      repeat' (first | (cases hx; done) | split at hx)
    case return_ =>
      simp only [zX, zret1] at hx
      repeat' (first | (cases hx; done) | split at hx)
    case new idx =>
      simp only [zX, znewO] at hx
      repeat' (first | (cases hx; done) | split at hx)
    case invokespecial idx =>
      simp only [zX] at hx
      split at hx
      · repeat' (first | exact (zgo_r hx).elim | (cases hx; done) | split at hx)
      · split at hx
        · rename_i f hf
          split at hx
          · rename_i hk
            exact ⟨idx, f, hf, hx, Or.inr (Or.inl ⟨rfl, hk⟩)⟩
          · cases hx
        · cases hx
    case invokestatic idx =>
      simp only [zX] at hx
      split at hx
      · repeat' (first | exact (zbind_r hx).elim | (cases hx; done) | split at hx)
      · split at hx
        · rename_i f hf
          split at hx
          · rename_i hk
            exact ⟨idx, f, hf, hx, Or.inl ⟨rfl, hk⟩⟩
          · cases hx
        · cases hx
    case invokevirtual idx =>
      simp only [zX] at hx
      split at hx
      · repeat' (first | exact (zbind_r hx).elim | exact (zgo_r hx).elim | (cases hx; done) | split at hx)
      · split at hx
        · repeat' (first | exact (zbind_r hx).elim | (cases hx; done) | split at hx)
        · split at hx
          · rename_i f hf
            split at hx
            · rename_i hk
              exact ⟨idx, f, hf, hx, Or.inr (Or.inr ⟨rfl, hk⟩)⟩
            · cases hx
          · cases hx
theorem zinv_notR {f : zK} {r : zRes} (hx : zinv f d y ls st h = some (.inr (.inr r))) : False := by
  obtain ⟨y', as, rest, h9⟩ := zinv_call hx
  obtain ⟨_, _, _, _, _, h8⟩ := zcallTo_inv h9
  cases h8
/-- an end's step -/
theorem zX_end (i : Instr) {r : zRes} (hx : zX G i n d y pc ls st h = some (.inr (.inr r))) :
    (i = .return_ ∧ st = [] ∧ (zm y).2.2.2.1 = none ∧ r = (.inl none, h)) ∨ (∃ x t, i = .ireturn ∧ st = [zi x] ∧ (zm y).2.2.2.1 = some t ∧ zfits (zkd t) (zi x) = true ∧ zkd t < 5 ∧ r = (.inl (some (zi x)), h)) ∨
    (∃ q t, i = .areturn ∧ st = [zr q] ∧ (zm y).2.2.2.1 = some t ∧ zkd t = 6 ∧ r = (.inl (some (zr q)), h)) ∨ (∃ a ci rest, i = .athrow ∧ st = zr (some a) :: rest ∧ zcls h a = some ci ∧ (zm y).2.2.2.2.2.2.1 = [] ∧ r = (.inr (ci, a), h)) ∨
    (∃ idx d1, i = .new idx ∧ y = zneY ∧ idx = zneI ∧ pc = 4 ∧ d = d1 + 1 ∧ zsum st ≤ 8 ∧ r = (.inr (100, h.2.1), h.1, h.2.1 + 1, h.2.2 + 6)) := by
  by_cases hi : zisC i = false
  · exact (zX_inl i hi hx).elim
  · cases i <;> first | (exact absurd rfl hi; done) | skip
    case athrow =>
      simp only [zX] at hx
      split at hx
      · rename_i r st9
        split at hx
        · rename_i hh
          obtain ⟨q, hq, hx⟩ := Option.bind_eq_some_iff.mp hx
          cases hx
          unfold zthr at hq
          split at hq
          · cases hq
          · obtain ⟨ci, hci, rfl⟩ := Option.map_eq_some_iff.mp hq
            exact Or.inr (Or.inr (Or.inr (Or.inl ⟨_, ci, _, rfl, rfl, hci, List.isEmpty_iff.mp hh, rfl⟩)))
        · cases hx
      · cases hx
    case areturn =>
      simp only [zX, zret1] at hx
      split at hx
      · split at hx
        · rename_i hc
          cases hx
          unfold zretR at hc
          split at hc
          · rename_i t ht
            exact Or.inr (Or.inr (Or.inl ⟨_, t, rfl, rfl, ht, by simpa using hc, rfl⟩))
          · cases hc
        · cases hx
      · cases hx
    case ireturn =>
      simp only [zX, zretK, zret1] at hx
      split at hx
      · split at hx
        · rename_i t ht
          split at hx
          · rename_i hc
            cases hx
            exact Or.inr (Or.inl ⟨_, t, rfl, rfl, ht, hc.1, hc.2, rfl⟩)
          · cases hx
        · cases hx
      · cases hx
    case return_ =>
      simp only [zX, zret1] at hx
      split at hx
      · rename_i hc
        cases hx
        exact Or.inl ⟨rfl, by simpa using hc.2, by simpa using hc.1, rfl⟩
      · cases hx
    case new idx =>
      simp only [zX] at hx
      split at hx
      · rename_i hc
        split at hx
        · cases hx
        · split at hx
          · rename_i hs
            cases hx
            exact Or.inr (Or.inr (Or.inr (Or.inr ⟨idx, _, rfl, hc.1, hc.2.1, hc.2.2, rfl, hs, rfl⟩)))
          · cases hx
      · split at hx
        · exact (zgo_r (z := .inr r) hx).elim
        · cases hx
    case invokespecial idx =>
      simp only [zX] at hx
      split at hx
      · repeat' (first | exact (zgo_r hx).elim | (cases hx; done) | split at hx)
      · split at hx
        · split at hx
          · exact (zinv_notR hx).elim
          · cases hx
        · cases hx
    case invokestatic idx =>
      simp only [zX] at hx
      split at hx
      · repeat' (first | exact (zbind_r hx).elim | (cases hx; done) | split at hx)
      · split at hx
        · split at hx
          · exact (zinv_notR hx).elim
          · cases hx
        · cases hx
    case invokevirtual idx =>
      simp only [zX] at hx
      split at hx
      · repeat' (first | exact (zbind_r hx).elim | exact (zgo_r hx).elim | (cases hx; done) | split at hx)
      · split at hx
        · repeat' (first | exact (zbind_r hx).elim | (cases hx; done) | split at hx)
        · split at hx
          · split at hx
            · exact (zinv_notR hx).elim
            · cases hx
          · cases hx
/-- a run only adds to the heap -/
theorem zex_heap (G : Nat → Option Nat) : ∀ (n d y pc : Nat) (ls : zLs) (st : List zV) (h : zH) (r : zRes), zex G n d y pc ls st h = some r → zle h r.2 := by
  intro n
  induction n with
  | zero => intro d y pc ls st h r hx; cases hx
  | succ n ih =>
    intro d y pc ls st h r hx
    have hx : zstep G (zex G n) d y pc ls st h = some r := hx
    unfold zstep at hx
    split at hx
    · cases hx
    · rename_i q hq
      split at hx
      · generalize ho : zX G q.1 q.2 d y pc ls st h = o at hx
        match o, hx with
        | some (.inl (pc', ls', st', h')), hx => exact (zX_mono _ ho).tr (ih _ _ _ _ _ _ _ hx)
        | some (.inr (.inl (d', y', as, h1, ls1, st1))), hx =>
          simp only [zK2, Option.bind_eq_some_iff] at hx
          obtain ⟨w, h2, h3⟩ := hx
          have hh : h1 = h := by
            obtain ⟨idx, f, hf, hz, -⟩ := zX_call _ ho
            obtain ⟨y2, as2, rest2, h9⟩ := zinv_call hz
            obtain ⟨_, _, _, _, _, h8⟩ := zcallTo_inv h9
            cases h8
            rfl
          subst hh
          have h4 := ih _ _ _ _ _ _ _ h2
          refine h4.tr ?_
          match w, h3 with
          | (.inl v, h5), h3 => exact ih _ _ _ _ _ _ _ h3
          | (.inr (ci, a), h5), h3 =>
            simp only [zback] at h3
            split at h3
            · split at h3
              · exact ih _ _ _ _ _ _ _ h3
              · cases h3
            · cases h3
              exact zle_rf _
        | some (.inr (.inr r')), hx =>
          cases hx
          rcases zX_end _ ho with ⟨-, -, -, e⟩ | ⟨x, t, -, -, -, -, -, e⟩ | ⟨x, t, -, -, -, -, e⟩ | ⟨x, t, rest, -, -, -, -, e⟩ | ⟨x, d1, -, -, -, -, -, -, e⟩
          · rw [e]; exact zle_rf _
          · rw [e]; exact zle_rf _
          · rw [e]; exact zle_rf _
          · rw [e]; exact zle_rf _
          · rw [e]; exact ⟨Nat.le_succ _, Nat.le_add_right _ _⟩
      · cases hx
end ZC
