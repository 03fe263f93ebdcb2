/-! THE HEAP ONLY GROWS -/
section ZC
variable {G : Nat → Option Nat} {d y : Nat} {pc n pc' : Nat} {ls ls' : zLs} {st st' : List zV} {h h' : zH}
theorem zgo_h {pc0 : Nat} {ls0 : zLs} {st0 : List zV} {h0 : zH} (hx : zgo pc0 ls0 st0 h0 = some (.inl (pc', ls', st', h'))) : h' = h0 := by cases zgo_inv hx; rfl
theorem zle_eq (e : h' = h) : zle h h' := by rw [e]; exact zle_rf h
theorem zle_up {f : Nat → Option zC} : zle h (f, h.2.1, h.2.2) := ⟨Nat.le_refl _, Nat.le_refl _⟩
theorem zle_newa {k : Nat} {m9 : Int32} {r : zV × zH} (hx : znewa h k m9 = some r) : zle h r.2 := by
  obtain ⟨-, -, rfl⟩ := znewa_inv hx
  exact zle_alloc _ _ _
theorem zle_copy {sr dr : Option Nat} {sp dp m9 : Int32} (hv : zcopy h sr sp dr dp m9 = some h') : zle h h' := by
  unfold zcopy at hv
  split at hv
  · split at hv
    · split at hv
      · cases hv; exact zle_up
      · cases hv
    · split at hv
      · cases hv; exact zle_up
      · cases hv
    · cases hv
  · cases hv
theorem zle_multi {a b : Int32} {r : zV × zH} (hx : zmulti h a b = some r) : zle h r.2 := by
  unfold zmulti at hx
  split at hx
  · cases hx
    obtain ⟨e1, e2, -⟩ := zrows_eq (zalloc h (.inl (7, a.toNatClampNeg, .inr (.inr fun j => if j < a.toNatClampNeg then some (h.2.1 + 1 + j) else none))) a.toNatClampNeg) b.toNatClampNeg a.toNatClampNeg
    refine zle.tr (zle_alloc h (.inl (7, a.toNatClampNeg, .inr (.inr fun j => if j < a.toNatClampNeg then some (h.2.1 + 1 + j) else none))) a.toNatClampNeg) ⟨?_, ?_⟩
    · show _ ≤ (zrows _ _ _ _).2.1
      rw [e1]; exact Nat.le_add_right _ _
    · show _ ≤ (zrows _ _ _ _).2.2
      rw [e2]; exact Nat.le_add_right _ _
  · cases hx
theorem zle_clone {r : Option Nat} {q : zV × zH} (hx : zclone h r = some q) : zle h q.2 := by
  unfold zclone at hx
  split at hx
  · cases hx
  · split at hx
    · cases hx; exact zle_alloc _ _ _
    · cases hx
theorem zX_mono (i : Instr) (hx : zX G i n d y pc ls st h = some (.inl (pc', ls', st', h'))) : zle h h' := by
  cases i
  case new idx =>
    simp only [zX] at hx
    split at hx
    · split at hx
      · cases hx
      · split at hx <;> cases hx
    · split at hx
      · unfold znewO at hx
        cases zgo_inv hx
        exact zle_alloc _ _ _
      · cases hx
  case newarray t =>
    simp only [zX] at hx
    split at hx
    · cases t <;> dsimp only at hx <;> first | (cases hx; done) | skip
      all_goals
        obtain ⟨r, hr, hx⟩ := Option.bind_eq_some_iff.mp hx
        cases zgo_inv hx
        exact zle_newa hr
    · cases hx
  case anewarray idx =>
    simp only [zX] at hx
    split at hx
    · split at hx
      · obtain ⟨r, hr, hx⟩ := Option.bind_eq_some_iff.mp hx
        cases zgo_inv hx
        exact zle_newa hr
      · cases hx
    · cases hx
  case putfield idx =>
    simp only [zX] at hx
    split at hx
    · unfold zputf at hx
      split at hx
      · split at hx
        · obtain ⟨r, hr, hx⟩ := Option.bind_eq_some_iff.mp hx
          cases zgo_inv hx
          obtain ⟨_, _, _, _, _, _, _, _, rfl⟩ := zwr_inv hr
          exact zle_up
        · cases hx
      · cases hx
    · cases hx
  case getfield idx =>
    simp only [zX] at hx
    split at hx
    · unfold zgetf at hx
      split at hx
      · obtain ⟨r, hr, hx⟩ := Option.bind_eq_some_iff.mp hx
        exact zle_eq (zgo_h hx)
      · cases hx
    · cases hx
  case iastore =>
    simp only [zX, zastoI] at hx
    split at hx
    · obtain ⟨r, hr, hx⟩ := Option.bind_eq_some_iff.mp hx
      cases zgo_inv hx
      obtain ⟨_, _, _, _, _, _, _, _, rfl⟩ := zastI_inv hr
      exact zle_up
    · cases hx
  case bastore =>
    simp only [zX, zastoI] at hx
    split at hx
    · obtain ⟨r, hr, hx⟩ := Option.bind_eq_some_iff.mp hx
      cases zgo_inv hx
      obtain ⟨_, _, _, _, _, _, _, _, rfl⟩ := zastI_inv hr
      exact zle_up
    · cases hx
  case lastore =>
    simp only [zX, zastoL] at hx
    split at hx
    · obtain ⟨r, hr, hx⟩ := Option.bind_eq_some_iff.mp hx
      cases zgo_inv hx
      obtain ⟨_, _, _, _, _, _, rfl⟩ := zastL_inv hr
      exact zle_up
    · cases hx
  case aastore =>
    simp only [zX, zastoR] at hx
    split at hx
    · obtain ⟨r, hr, hx⟩ := Option.bind_eq_some_iff.mp hx
      cases zgo_inv hx
      obtain ⟨_, _, _, _, _, _, _, _, _, rfl⟩ := zastR_inv hr
      exact zle_up
    · cases hx
  case multianewarray idx k =>
    simp only [zX] at hx
    split at hx
    · split at hx
      · obtain ⟨r, hr, hx⟩ := Option.bind_eq_some_iff.mp hx
        cases zgo_inv hx
        exact zle_multi hr
      · cases hx
    · cases hx
  case invokespecial idx =>
    simp only [zX] at hx
    split at hx
    · split at hx
      · split at hx
        · exact zle_eq (zgo_h hx)
        · cases hx
      · cases hx
    · split at hx
      · split at hx
        · exact (zinv_not hx).elim
        · cases hx
      · cases hx
  case invokestatic idx =>
    simp only [zX] at hx
    split at hx
    · split at hx
      · split at hx
        · obtain ⟨r, hr, hx⟩ := Option.bind_eq_some_iff.mp hx
          cases zgo_inv hx
          exact zle_copy hr
        · cases hx
      · cases hx
    · split at hx
      · split at hx
        · exact (zinv_not hx).elim
        · cases hx
      · cases hx
  case invokevirtual idx =>
    simp only [zX] at hx
    split at hx
    · split at hx
      · split at hx
        · exact zle_eq (zgo_h (Option.bind_eq_some_iff.mp hx).choose_spec.2)
        · cases hx
      · cases hx
    · split at hx
      · split at hx
        · split at hx
          · obtain ⟨r, hr, hx⟩ := Option.bind_eq_some_iff.mp hx
            cases zgo_inv hx
            exact zle_clone hr
          · cases hx
        · cases hx
      · split at hx
        · split at hx
          · exact (zinv_not hx).elim
          · cases hx
        · cases hx
  case ifCond cnd off =>
    simp only [zX, zif1] at hx
    split at hx
    · split at hx
      · cases cnd <;> dsimp only at hx <;> split at hx <;> exact zle_eq (zgo_h hx)
      · cases hx
    · cases hx
  case if_icmp cnd off =>
    simp only [zX, zif2] at hx
    split at hx
    · split at hx
      · cases cnd <;> dsimp only at hx <;> split at hx <;> exact zle_eq (zgo_h hx)
      · cases hx
    · cases hx
  case if_acmp cnd off =>
    simp only [zX, zifa] at hx
    split at hx
    · split at hx
      · cases cnd <;> dsimp only at hx <;> split at hx <;> exact zle_eq (zgo_h hx)
      · cases hx
    · cases hx
  case ldc idx =>
    simp only [zX] at hx
    split at hx
    · exact zle_eq (zgo_h (Option.bind_eq_some_iff.mp hx).choose_spec.2)
    · split at hx
      · exact zle_eq (zgo_h hx)
      · split at hx
        · exact zle_eq (zgo_h (Option.bind_eq_some_iff.mp hx).choose_spec.2)
        · cases hx
  case athrow =>
    simp only [zX] at hx
    split at hx
    · split at hx
      · obtain ⟨q, -, hx⟩ := Option.bind_eq_some_iff.mp hx
        cases hx
      · cases hx
    · cases hx
  case tableswitch dflt lo hi offs =>
    simp only [zX] at hx
    split at hx
    · exact zle_eq (zgo_h (Option.bind_eq_some_iff.mp hx).choose_spec.2)
    · cases hx
  all_goals first
    | exact zle_eq (zgo_h hx)
    | exact zle_eq (zs_j hx).2.2.2
    | exact zle_eq (zs_loadI hx).choose_spec.2.2.2.2
    | exact zle_eq (zs_loadL hx).choose_spec.2.2.2.2
    | exact zle_eq (zs_loadR hx).choose_spec.2.2.2.2
    | exact zle_eq (zs_stoI hx).choose_spec.2.2.2.2
    | exact zle_eq (zs_stoR hx).choose_spec.2.2.2.2
    | exact zle_eq (zs_stoL hx).choose_spec.2.2.2.2.2
    | exact zle_eq (zs_bin hx).choose_spec.choose_spec.choose_spec.2.2.2.2
    | exact zle_eq (zs_binL hx).choose_spec.choose_spec.choose_spec.2.2.2.2
    | exact zle_eq (zs_un hx).choose_spec.choose_spec.2.2.2.2
    | (simp only [zX, zald, zifn, zifnn, zret1, zretK] at hx
       repeat' (first
         | (cases hx; done)
         | exact zle_eq (zgo_h hx)
         | exact zle_eq (zs_j hx).2.2.2
         | exact zle_eq (zgo_h (Option.bind_eq_some_iff.mp hx).choose_spec.2)
         | split at hx))
end ZC
