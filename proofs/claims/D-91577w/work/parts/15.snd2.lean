/-! SOUND, ONE INSTRUCTION: arithmetic, constants, stack, branches -/
section ZC
variable {D : va_G} {dA : Nat → ClassId} {G : Nat → Option Nat} {base d y : Nat} {p : Program} {l : Launch} {e : Env} {R : Room} {s : State} {m : MethodId} {args : Array Value} {below : List Frame} {meth : Method} {c : Code} {Q : State → Prop} {M S mc ms : Nat}
variable {pc n pc' : Nat} {ls ls' : zLs} {st st' : List zV} {h h' : zH}
theorem zs_arith (C : zCtx D dA G base d y p l R s m args meth c mc ms) (i : Instr) (hd : decode (zm y).2.1 pc = .ok (i, n)) (hn : zln i n = n)
    (hi : match i with | .iadd | .isub | .imul | .iand | .ior | .ixor | .ishl | .ishr | .iushr | .ineg | .i2b | .i2c | .i2l | .l2i | .idiv | .irem | .ladd | .lsub | .lmul | .land | .lor | .ldiv | .lrem | .lshl | .lshr | .lcmp => True | _ => False)
    (hx : zX G i n d y pc ls st h = some (.inl (pc', ls', st', h'))) (kk : zOK D dA base y p l e R s m args below meth c Q M S mc ms pc' ls' st' h') : zOK D dA base y p l e R s m args below meth c Q M S mc ms pc ls st h := by
  have hex := C.1
  have hb := C.2.2.1
  intro H locs cells slots als hR
  cases i <;> first | (cases hi; done) | skip
  all_goals (cases (show 1 = n from hn))
  case iadd => obtain ⟨a, b, r, rfl, rfl, rfl, rfl, rfl⟩ := zs_bin hx; exact lv_iadd hex hb hd (kk H locs cells slots als hR)
  case isub => obtain ⟨a, b, r, rfl, rfl, rfl, rfl, rfl⟩ := zs_bin hx; exact lv_isub hex hb hd (kk H locs cells slots als hR)
  case imul => obtain ⟨a, b, r, rfl, rfl, rfl, rfl, rfl⟩ := zs_bin hx; exact lv_imul hex hb hd (kk H locs cells slots als hR)
  case iand => obtain ⟨a, b, r, rfl, rfl, rfl, rfl, rfl⟩ := zs_bin hx; exact lv_iand hex hb hd (kk H locs cells slots als hR)
  case ior => obtain ⟨a, b, r, rfl, rfl, rfl, rfl, rfl⟩ := zs_bin hx; exact lv_ior hex hb hd (kk H locs cells slots als hR)
  case ixor => obtain ⟨a, b, r, rfl, rfl, rfl, rfl, rfl⟩ := zs_bin hx; exact lv_ixor hex hb hd (kk H locs cells slots als hR)
  case ishl => obtain ⟨a, b, r, rfl, rfl, rfl, rfl, rfl⟩ := zs_bin hx; exact lv_ishl hex hb hd (kk H locs cells slots als hR)
  case ishr => obtain ⟨a, b, r, rfl, rfl, rfl, rfl, rfl⟩ := zs_bin hx; exact lv_ishr hex hb hd (kk H locs cells slots als hR)
  case iushr => obtain ⟨a, b, r, rfl, rfl, rfl, rfl, rfl⟩ := zs_bin hx; exact lv_iushr hex hb hd rfl (kk H locs cells slots als hR)
  case ineg => obtain ⟨a, r, rfl, rfl, rfl, rfl, rfl⟩ := zs_un hx; exact lv_ineg hex hb hd (kk H locs cells slots als hR)
  case i2b => obtain ⟨a, r, rfl, rfl, rfl, rfl, rfl⟩ := zs_un hx; exact lv_i2b hex hb hd rfl (kk H locs cells slots als hR)
  case i2c => obtain ⟨a, r, rfl, rfl, rfl, rfl, rfl⟩ := zs_un hx; exact lv_i2c hex hb hd rfl (kk H locs cells slots als hR)
  case ladd => obtain ⟨a, b, r, rfl, rfl, rfl, rfl, rfl⟩ := zs_binL hx; exact lv_ladd hex hb hd (kk H locs cells slots als hR)
  case lsub => obtain ⟨a, b, r, rfl, rfl, rfl, rfl, rfl⟩ := zs_binL hx; exact lv_lsub hex hb hd (kk H locs cells slots als hR)
  case lmul => obtain ⟨a, b, r, rfl, rfl, rfl, rfl, rfl⟩ := zs_binL hx; exact lv_lmul hex hb hd (kk H locs cells slots als hR)
  case land => obtain ⟨a, b, r, rfl, rfl, rfl, rfl, rfl⟩ := zs_binL hx; exact lv_land hex hb hd (kk H locs cells slots als hR)
  case lor => obtain ⟨a, b, r, rfl, rfl, rfl, rfl, rfl⟩ := zs_binL hx; exact lv_lor hex hb hd (kk H locs cells slots als hR)
  case i2l =>
    simp only [zX] at hx; split at hx
    · cases zgo_inv hx; exact lv_i2l hex hb hd rfl (kk H locs cells slots als hR)
    · cases hx
  case l2i =>
    simp only [zX] at hx; split at hx
    · cases zgo_inv hx; exact lv_l2i hex hb hd rfl (kk H locs cells slots als hR)
    · cases hx
  case idiv =>
    simp only [zX] at hx; split at hx
    · split at hx
      · cases hx
      · rename_i h0; cases zgo_inv hx; exact lv_idiv hex hb hd h0 (kk H locs cells slots als hR)
    · cases hx
  case irem =>
    simp only [zX] at hx; split at hx
    · split at hx
      · cases hx
      · rename_i h0; cases zgo_inv hx; exact lv_irem hex hb hd h0 (kk H locs cells slots als hR)
    · cases hx
  case ldiv =>
    simp only [zX] at hx; split at hx
    · split at hx
      · cases hx
      · rename_i h0; cases zgo_inv hx; exact lv_ldiv hex hb hd h0 (kk H locs cells slots als hR)
    · cases hx
  case lrem =>
    simp only [zX] at hx; split at hx
    · split at hx
      · cases hx
      · rename_i h0; cases zgo_inv hx; exact lv_lrem hex hb hd h0 (kk H locs cells slots als hR)
    · cases hx
  case lshl =>
    simp only [zX] at hx; split at hx
    · cases zgo_inv hx; exact lv_lshl hex hb hd rfl (kk H locs cells slots als hR)
    · cases hx
  case lshr =>
    simp only [zX] at hx; split at hx
    · cases zgo_inv hx; exact lv_lshr hex hb hd rfl (kk H locs cells slots als hR)
    · cases hx
  case lcmp =>
    simp only [zX] at hx; split at hx
    · cases zgo_inv hx; exact W.lcmp hex hb hd (kk H locs cells slots als hR)
    · cases hx
theorem zjt_inv {off : Int} {t : Nat} (hx : zjt pc off = some t) : (pc : Int) + off = (t : Int) := by
  unfold zjt at hx
  split at hx
  · rename_i h0
    cases hx
    exact ztg_int h0
  · cases hx
theorem zs_br {P : Prop} {_ : Decidable P} {A B : Nat} {H : Heap} {locs : List Loc} {cells slots : Nat} {als : Array Slot} (hx : (if P then zgo A ls st h else zgo B ls st h) = some (.inl (pc', ls', st', h'))) (kk : zOK D dA base y p l e R s m args below meth c Q M S mc ms pc' ls' st' h') (hR : zRel D dA base y s c h ls M S mc ms H locs cells slots als) :
    (P → W p l e R s m args below meth c H locs cells slots Q (F0 m A als (st.map zvv))) ∧ (¬ P → W p l e R s m args below meth c H locs cells slots Q (F0 m B als (st.map zvv))) := by
  refine ⟨fun hp => ?_, fun hp => ?_⟩
  · rw [if_pos hp] at hx
    cases zgo_inv hx
    exact kk H locs cells slots als hR
  · rw [if_neg hp] at hx
    cases zgo_inv hx
    exact kk H locs cells slots als hR
theorem zs_misc (C : zCtx D dA G base d y p l R s m args meth c mc ms) (i : Instr) (hd : decode (zm y).2.1 pc = .ok (i, n)) (hn : zln i n = n)
    (hi : match i with | .iconst _ | .bipush _ | .sipush _ | .lconst _ | .aconst_null | .pop | .dup | .dup_x1 | .dup2 | .goto _ | .ifCond .. | .if_icmp .. | .if_acmp .. | .ifnull _ | .ifnonnull _ | .tableswitch .. | .lookupswitch .. => True | _ => False)
    (hx : zX G i n d y pc ls st h = some (.inl (pc', ls', st', h'))) (kk : zOK D dA base y p l e R s m args below meth c Q M S mc ms pc' ls' st' h') : zOK D dA base y p l e R s m args below meth c Q M S mc ms pc ls st h := by
  have hex := C.1
  have hb := C.2.2.1
  intro H locs cells slots als hR
  cases i <;> first | (cases hi; done) | skip
  case iconst v => cases (show 1 = n from hn); cases zgo_inv hx; exact lv_iconst hex hb hd rfl (kk H locs cells slots als hR)
  case bipush v => cases (show 2 = n from hn); cases zgo_inv hx; exact lv_bipush hex hb hd rfl (kk H locs cells slots als hR)
  case sipush v => cases (show 3 = n from hn); cases zgo_inv hx; exact lv_sipush hex hb hd rfl (kk H locs cells slots als hR)
  case lconst v => cases (show 1 = n from hn); cases zgo_inv hx; exact lv_lconst hex hb hd rfl (kk H locs cells slots als hR)
  case aconst_null => cases (show 1 = n from hn); cases zgo_inv hx; exact lv_null hex hb hd (kk H locs cells slots als hR)
  case pop =>
    cases (show 1 = n from hn)
    simp only [zX] at hx; split at hx
    · split at hx
      · rename_i hc; cases zgo_inv hx; exact lv_pop hex hb hd ((zvv_cat _).trans hc) (kk H locs cells slots als hR)
      · cases hx
    · cases hx
  case dup =>
    cases (show 1 = n from hn)
    simp only [zX] at hx; split at hx
    · split at hx
      · rename_i hc; cases zgo_inv hx; exact lv_dup hex hb hd ((zvv_cat _).trans hc) (kk H locs cells slots als hR)
      · cases hx
    · cases hx
  case dup_x1 =>
    cases (show 1 = n from hn)
    simp only [zX] at hx; split at hx
    · split at hx
      · rename_i hc; cases zgo_inv hx; exact lv_dup_x1 hex hb hd ((zvv_cat _).trans hc.1) ((zvv_cat _).trans hc.2) (kk H locs cells slots als hR)
      · cases hx
    · cases hx
  case dup2 =>
    cases (show 1 = n from hn)
    simp only [zX] at hx; split at hx
    · split at hx
      · rename_i hc; cases zgo_inv hx; exact lv_dup2_11 hex hb hd ((zvv_cat _).trans hc.1) ((zvv_cat _).trans hc.2) (kk H locs cells slots als hR)
      · cases hx
    · cases hx
  case goto off =>
    cases (show 3 = n from hn)
    obtain ⟨ht, rfl, rfl, rfl⟩ := zs_j hx
    exact lv_goto hex hb hd ht (kk H locs cells slots als hR)
  case ifCond cnd off =>
    cases (show 3 = n from hn)
    simp only [zX, zif1] at hx
    split at hx
    · split at hx
      · rename_i h0
        have ht := ztg_int h0
        cases cnd <;> dsimp only at hx <;> have hbr := zs_br hx kk hR
        case eq => exact lv_if_eq hex hb hd ht hbr.1 hbr.2
        case ne => exact lv_if_ne hex hb hd ht hbr.2 hbr.1
        case lt => exact lv_if_lt hex hb hd ht hbr.1 hbr.2
        case ge => exact lv_if_ge hex hb hd ht hbr.1 hbr.2
        case gt => exact lv_if_gt hex hb hd ht hbr.1 hbr.2
        case le => exact lv_if_le hex hb hd ht hbr.1 hbr.2
      · cases hx
    · cases hx
  case if_icmp cnd off =>
    cases (show 3 = n from hn)
    simp only [zX, zif2] at hx
    split at hx
    · split at hx
      · rename_i h0
        have ht := ztg_int h0
        cases cnd <;> dsimp only at hx <;> have hbr := zs_br hx kk hR
        case eq => exact lv_icmp_eq hex hb hd ht hbr.1 hbr.2
        case ne => exact lv_icmp_ne hex hb hd ht hbr.2 hbr.1
        case lt => exact lv_icmp_lt hex hb hd ht hbr.1 hbr.2
        case ge => exact lv_icmp_ge hex hb hd ht hbr.1 hbr.2
        case gt => exact lv_icmp_gt hex hb hd ht hbr.1 hbr.2
        case le => exact lv_icmp_le hex hb hd ht hbr.1 hbr.2
      · cases hx
    · cases hx
  case if_acmp cnd off =>
    cases (show 3 = n from hn)
    simp only [zX, zifa] at hx
    split at hx
    · split at hx
      · rename_i h0
        have ht := ztg_int h0
        cases cnd <;> dsimp only at hx <;> have hbr := zs_br hx kk hR
        case eq => exact lv_acmp_eq hex hb hd ht hbr.1 hbr.2
        case ne => exact lv_acmp_ne hex hb hd ht hbr.2 hbr.1
      · cases hx
    · cases hx
  case ifnull off =>
    cases (show 3 = n from hn)
    simp only [zX, zifn] at hx
    split at hx
    · rename_i r st9
      split at hx
      · rename_i h0
        have hbr := zs_br hx kk hR
        cases r with
        | none => exact lv_ifnullN hex hb hd (ztg_int h0) (hbr.1 rfl)
        | some a => exact lv_ifnull hex hb hd (hbr.2 (by simp))
      · cases hx
    · cases hx
  case ifnonnull off =>
    cases (show 3 = n from hn)
    simp only [zX, zifnn] at hx
    split at hx
    · rename_i r st9
      split at hx
      · rename_i h0
        have hbr := zs_br hx kk hR
        cases r with
        | none => exact lv_ifnonnullN hex hb hd (hbr.1 rfl)
        | some a => exact lv_ifnonnull hex hb hd (ztg_int h0) (hbr.2 (by simp))
      · cases hx
    · cases hx
  case tableswitch dflt lo hi offs =>
    simp only [zX] at hx
    split at hx
    · obtain ⟨t, ht, hx⟩ := Option.bind_eq_some_iff.mp hx
      cases zgo_inv hx
      unfold zswt at ht
      split at ht
      · rename_i h0
        exact lv_tableOut hex hb hd (Or.inl h0) (zjt_inv ht) (kk H locs cells slots als hR)
      · rename_i h0
        split at ht
        · rename_i h2
          exact lv_tableOut hex hb hd (Or.inr h2) (zjt_inv ht) (kk H locs cells slots als hR)
        · rename_i h2
          obtain ⟨o, ho, ht⟩ := Option.bind_eq_some_iff.mp ht
          exact lv_tableIn hex hb hd h0 h2 ho (zjt_inv ht) (kk H locs cells slots als hR)
    · cases hx
  case lookupswitch dflt ps =>
    simp only [zX] at hx
    split at hx
    · obtain ⟨t, ht, hx⟩ := Option.bind_eq_some_iff.mp hx
      cases zgo_inv hx
      unfold zlkt at ht
      split at ht
      · rename_i h0
        exact lv_lookup hex hb hd h0 rfl (zjt_inv ht) (kk H locs cells slots als hR)
      · cases ht
    · cases hx
end ZC
