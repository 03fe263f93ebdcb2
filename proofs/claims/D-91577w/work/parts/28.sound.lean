/-! THE MACHINE OF OUR OWN IS SOUND -/
theorem znE_find : decode (zm zneY).2.1 4 = .ok (.new 107, 3) ∧ decode (zm zneY).2.1 7 = .ok (.dup, 1) ∧ decode (zm zneY).2.1 8 = .ok (.invokespecial 109, 3) ∧ decode (zm zneY).2.1 11 = .ok (.athrow, 1) ∧ zow zneY = zneO ∧ (zm zneY).2.2.2.2.2.2.1 = [] := ⟨dX1_need_4, dX1_need_7, dX1_need_8, dX1_need_11, rfl, rfl⟩
section ZC
variable {D : va_G} {dA : Nat → ClassId} {G : Nat → Option Nat} {base d y : Nat} {p : Program} {l : Launch} {e : Env} {R : Room} {s : State} {m : MethodId} {args : Array Value} {below : List Frame} {meth : Method} {c : Code} {M S mc ms : Nat}
variable {pc n pc' : Nat} {ls ls' : zLs} {st st' : List zV} {h h' : zH} {r : zRes}
abbrev zQ (D : va_G) (dA : Nat → ClassId) (base : Nat) (r : zRes) (below : List Frame) (args : Array Value) (s : State) (mc ms : Nat) : State → Prop := vx_MQ below (zQc D dA base r) (zXC D dA base r) args s mc ms (fun q => base ≤ q)
theorem zfr_of {H : Heap} {locs : List Loc} {t : State} (hS : va_S (fun q => base ≤ q) s.heap H locs) (ht : t.heap = H) : zFr base s t := ⟨by rw [ht]; exact hS.1, fun q h1 h2 => by rw [ht]; exact hS.2.1 q h1 h2⟩
/-- the ends -/
theorem zs_end (C : zCtx D dA G base d y p l R s m args meth c mc ms) (i : Instr) (hd : decode (zm y).2.1 pc = .ok (i, n)) (hn : zln i n = n) (hx : zX G i n d y pc ls st h = some (.inr (.inr r))) :
    zOK D dA base y p l e R s m args below meth c (zQ D dA base r below args s mc ms) r.2.2.1 r.2.2.2 mc ms pc ls st h := by
  intro H locs cells slots als hR
  have hb := C.2.2.1
  have hr := C.2.2.2.2.1
  have hlk := C.2.2.2.2.2.1
  have hS := hR.2.1
  rcases zX_end _ hx with ⟨rfl, rfl, hre, rfl⟩ | ⟨x, t, rfl, rfl, hre, hft, hk5, rfl⟩ | ⟨q, t, rfl, rfl, hre, hk6, rfl⟩ | ⟨a, ci, rest, rfl, rfl, hcl, hnh, rfl⟩ | ⟨idx, d1, rfl, hy, hidx, hpc, hdd, hsum, rfl⟩
  · cases (show 1 = n from hn)
    have h1 : cells ≤ mc := by have := hR.2.2.2.2.1; omega
    have h2 : slots ≤ ms := by have := hR.2.2.2.2.2; omega
    exact W.widen h1 h2 (vx_ret (W.vret C.1 hb (hr.trans hre) (fun t ht hW => ⟨none, h, rfl, rfl, by rw [ht]; exact hR.1.moved hW.alike, zfr_of hS ht⟩) hS.2.2 hd hlk))
  · cases (show 1 = n from hn)
    have h1 : cells ≤ mc := by have := hR.2.2.2.2.1; omega
    have h2 : slots ≤ ms := by have := hR.2.2.2.2.2; omega
    exact W.widen h1 h2 (vx_ret (W.zret C.1 hb (hr.trans hre) (zfits_ok hft rfl).1 (fun t ht hW => ⟨some (zi x), h, rfl, rfl, by rw [ht]; exact hR.1.moved hW.alike, zfr_of hS ht⟩) hS.2.2 hd hlk))
  · cases (show 1 = n from hn)
    have h1 : cells ≤ mc := by have := hR.2.2.2.2.1; omega
    have h2 : slots ≤ ms := by have := hR.2.2.2.2.2; omega
    have hrt : (∃ n, t = .object n) ∨ ∃ t2, t = .array t2 := by
      cases t <;> first | exact Or.inl ⟨_, rfl⟩ | exact Or.inr ⟨_, rfl⟩ | (simp [zkd] at hk6; done)
    have hv : zvv (zr q) = .null ∨ ∃ a, zvv (zr q) = .ref a := by
      cases q with
      | none => exact Or.inl rfl
      | some a => exact Or.inr ⟨a, rfl⟩
    exact W.widen h1 h2 (vx_ret (W.aret C.1 hb (hr.trans hre) hrt hv (fun t ht hW => ⟨some (zr q), h, rfl, rfl, by rw [ht]; exact hR.1.moved hW.alike, zfr_of hS ht⟩) hS.2.2 hd hlk))
  · cases (show 1 = n from hn)
    have h1 : cells ≤ mc := by have := hR.2.2.2.2.1; omega
    have h2 : slots ≤ ms := by have := hR.2.2.2.2.2; omega
    obtain ⟨V, hV⟩ := zcls_inv hcl
    obtain ⟨q, cell, kV, hq, v1, v2, v3, v4⟩ := zobj_at C (hR.1.2.2 a _ hV).1
    have hex : zexn ci = q.1 := by
      have hlt : ci < zcl.length := (List.getElem?_eq_some_iff.mp hq).1
      unfold zexn
      rw [if_neg (by intro e9; rw [e9] at hlt; exact absurd hlt (by decide))]
      simp [List.getD_eq_getElem?_getD, hq]
    have htab : ∀ x ∈ c.exceptionTable.toList, covers x pc = false := by
      rw [C.2.2.2.2.2.2.2.2.2.1, hnh]
      intro x hx9
      cases hx9
    exact vx_athrow C.1 hb hd (vx_out htab hlk v1 v2 (by rw [← hex] at v3; exact v3) (fun t ht hal => ⟨ci, h, rfl, rfl, by rw [ht]; exact hR.1.moved hal, zfr_of hS ht⟩) hS.2.2 h1 h2)
  · cases (show 3 = n from hn)
    subst hy; subst hidx; subst hpc; subst hdd
    obtain ⟨d0, d3, d4, d7, ho, hnh⟩ := znE_find
    have hc1 : cells + 1 ≤ mc := by have := hR.2.2.2.2.1; dsimp only at this; omega
    have hc2 : slots + 6 ≤ ms := by have := hR.2.2.2.2.2; dsimp only at this; omega
    have hown : s.vm.findClass "SecretBuyers" = some m.cls := C.2.2.2.2.2.2.1
    have hSt := C.2.2.2.2.2.2.2.2.2.2.2.1
    have hts := C.2.2.2.2.2.2.2.1
    have hTb := C.2.2.2.2.2.2.2.2.2.2.1
    have hat : ∀ w ∈ zneW, w.before args s = true := by
      intro w hw
      have h1 := of_decide_eq_true (List.all_eq_true.mp zneW_in w hw)
      have h2 := List.all_eq_true.mp zneW_ok w hw
      simp only [Bool.and_eq_true, Bool.or_eq_true] at h2
      rcases h2.1 with h3 | h3
      · exact hts w (zlB (List.mem_filter.mpr ⟨h1, h3⟩))
      · have h4 := hTb.2.1 w h1 h3
        have h5 : w.onTables = true := by cases w <;> first | (cases h3; done) | rfl
        exact va_Nw.use h5 h4
    have hgood : ∀ w ∈ Jvm.Cond.classLink "SecretBuyers" 107 "java/util/NoSuchElementException" :: Jvm.Cond.initialized "java/util/NoSuchElementException" :: zneW, vx_ot w = true := by
      intro w hw
      rcases List.mem_cons.mp hw with rfl | hw
      · rfl
      · rcases List.mem_cons.mp hw with rfl | hw
        · rfl
        · have h2 := List.all_eq_true.mp zneW_ok w hw
          exact (Bool.and_eq_true_iff.mp h2).2
    have hzq : ∀ {C9 n9 d9 : String} {g : Nat}, g ≠ 100 → va_Z C9 n9 d9 (zvv (zsta G g)) (fun q => base ≤ q) s s.heap → va_Zq C9 n9 d9 (fun q => base ≤ q) s s.heap := by
      intro C9 n9 d9 g hg hz
      unfold zsta at hz
      rw [if_neg hg] at hz
      cases hgg : G g with
      | none => rw [hgg] at hz; exact Or.inl hz
      | some t => rw [hgg] at hz; exact Or.inr ⟨t, hz⟩
    have hU : vx_Zq Bundle.tN "UNASSIGNED_STACK" Bundle.steD (fun q => base ≤ q) s s.heap := ⟨hzq (g := 4) (by decide) (hSt.1 (4, "java/lang/Throwable", "UNASSIGNED_STACK", "[Ljava/lang/StackTraceElement;") (by decide +kernel)), hSt.2.1⟩
    have hN : vx_Zq Bundle.tN "SUPPRESSED_SENTINEL" Bundle.listD (fun q => base ≤ q) s s.heap := ⟨hzq (g := 5) (by decide) (hSt.1 (5, "java/lang/Throwable", "SUPPRESSED_SENTINEL", "Ljava/util/List;") (by decide +kernel)), hSt.2.2⟩
    have hrest : ((st.map zvv).map fun v => v.category).sum ≤ 8 := by rw [zsum_cat]; exact hsum
    have htab : ∀ x ∈ c.exceptionTable.toList, covers x (4 + 7) = false := by
      rw [C.2.2.2.2.2.2.2.2.2.1, hnh]
      intro x hx9
      cases hx9
    obtain ⟨-, -, -, -, -, -, -, -, -, -, -, -, ⟨f1, f2, f3⟩, hmc, hms⟩ := id C
    refine vx_throw0 (names := ["java/lang/RuntimeException", "java/lang/Exception"]) (A := fun q => base ≤ q) C.1 hb C.2.1 hown (by decide) (by decide) (hts _ (zlB q1472)) (hts _ (zlB q133)) hat hgood hU hN hS hR.2.2.1.1 d0 d3 d4 d7 htab (by simp only [List.length_cons, List.length_nil]; omega) (by simp only [List.length_cons, List.length_nil]; omega) (by omega) (by omega) hlk (fun t hal hz hold => ?_) hS.2.2 hc1 hc2
    have hsz := hR.1.1
    refine ⟨100, _, by rw [hsz], rfl, ⟨by rw [hz, hsz], by rw [hz]; exact Nat.le_succ_of_le hR.1.2.1, fun b f hf => ?_⟩, by rw [hz]; exact Nat.le_succ_of_le hS.1, fun q h1 h2 => (hold q (Nat.lt_of_lt_of_le h1 hS.1)).trans (hS.2.1 q h1 h2)⟩
    have h9 := hR.1.2.2 b f hf
    exact ⟨(h9.1.moved hal).kept (hold b h9.1.lt), h9.2.1, h9.2.2.mono (fun _ _ z => z)⟩
end ZC
