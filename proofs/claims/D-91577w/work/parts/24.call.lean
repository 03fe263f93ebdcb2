/-! CALLS: a method's contract out of a run, and what a caller has of it -/
def zname (y : Nat) : MethodName := (zm y).1
def zcodeW (e : zM) : Jvm.Cond := if e.2.2.2.2.2.2.1 = [] then Cond.code e.1 e.2.1 e.2.2.1 e.2.2.2.1 else Cond.codeWith e.1 e.2.1 e.2.2.1 e.2.2.2.1 e.2.2.2.2.2.2.1
def zws (y : Nat) : List Jvm.Cond := zcodeW (zm y) :: lwB
def zrm (d y mc ms : Nat) : Room := { frames := d * 19 + (zm y).2.2.2.2.1, cells := mc, slots := ms, locals := 60 * (d * 19 + (zm y).2.2.2.2.1) }
def zFr (base : Nat) (st t : State) : Prop := st.heap.size ≤ t.heap.size ∧ ∀ q : Nat, q < st.heap.size → ¬ base ≤ q → t.heap[q]? = st.heap[q]?
def zPc (D : va_G) (dA : Nat → ClassId) (G : Nat → Option Nat) (base : Nat) (as : List zV) (h : zH) : Array Value → State → Prop := fun av U => av = (as.map zvv).toArray ∧ zInv D dA base U h U.heap ∧ zTab D dA G U ∧ zSta G base U U.heap
def zQc (D : va_G) (dA : Nat → ClassId) (base : Nat) (r : zRes) : Array Value → State → Outcome → State → Prop := fun _ st o t => ∃ v h', r = (.inl v, h') ∧ o = .returned (v.map zvv) ∧ zInv D dA base t h' t.heap ∧ zFr base st t
def zXC (D : va_G) (dA : Nat → ClassId) (base : Nat) (r : zRes) : Addr → String → State → State → Prop := fun q E st t => ∃ ci h', r = (.inr (ci, q), h') ∧ E = zexn ci ∧ zInv D dA base t h' t.heap ∧ zFr base st t
def zMet (D : va_G) (dA : Nat → ClassId) (G : Nat → Option Nat) (base : Nat) (l : Launch) (d y : Nat) (as : List zV) (h : zH) (r : zRes) : Prop :=
  vx_Met l (zname y) (zws y) (zrm d y (r.2.2.1 - h.2.1) (r.2.2.2 - h.2.2)) (zPc D dA G base as h) (zQc D dA base r) (zXC D dA base r) (r.2.2.1 - h.2.1) (r.2.2.2 - h.2.2) (fun q => base ≤ q)
theorem zms_lv0 : (zms.all fun e => decide (1 ≤ e.2.2.2.2.1 ∧ e.2.2.2.2.1 ≤ 18 ∧ e.2.2.1 ≤ 20)) = true := by decide +kernel
theorem zms_lv {e : zM} (h : e ∈ zms) : 1 ≤ e.2.2.2.2.1 ∧ e.2.2.2.2.1 ≤ 18 ∧ e.2.2.1 ≤ 20 := of_decide_eq_true (List.all_eq_true.mp zms_lv0 e h)
theorem zlwB_good : ∀ w ∈ lwB, goodWord w = true := by
  intro w hw
  rcases List.mem_append.mp hw with h | h
  · simp only [zXW, List.mem_cons, List.not_mem_nil, or_false] at h
    rcases h with rfl | rfl | rfl <;> rfl
  · exact (List.mem_filter.mp h).2
theorem zword {w : Jvm.Cond} (hg : goodWord w = true) {args a' : Array Value} {s U : State} (hW : s.WarmedH U.vm) (h : w.before args s = true) : w.before a' U = true := word_at hW (good_of_word hg) h
theorem zcodeW_in {e : zM} (h : e ∈ zms) : zcodeW e ∈ lw_all := by
  have h1 := (zms_ok e h).1
  unfold zcodeW
  split
  · rename_i hc; rw [if_pos hc] at h1; exact h1
  · rename_i hc; rw [if_neg hc] at h1; exact h1
theorem zms_len : zms.length = 305 := by decide +kernel
theorem zm_of {y : Nat} {e : zM} (h : zms[y]? = some e) : zm y = e := by
  have hlt := (List.getElem?_eq_some_iff.mp h).1
  rw [zms_len] at hlt
  unfold zm
  rw [if_neg (Nat.ne_of_lt hlt)]
  simp [List.getD_eq_getElem?_getD, h]
theorem ztake_inv {n : Nat} {st as rest : List zV} (h : ztake n st = some (as, rest)) : st = as.reverse ++ rest ∧ as.length = n := by
  unfold ztake at h
  split at h
  · rename_i hn
    cases h
    refine ⟨by rw [List.reverse_reverse, List.take_append_drop], ?_⟩
    rw [List.length_reverse, List.length_take]
    omega
  · cases h
section ZC
variable {D : va_G} {dA : Nat → ClassId} {G : Nat → Option Nat} {base d y : Nat} {p : Program} {l : Launch} {e : Env} {R : Room} {s : State} {m : MethodId} {args : Array Value} {below : List Frame} {meth : Method} {c : Code} {Q : State → Prop} {M S mc ms : Nat}
variable {pc n pc' : Nat} {ls ls' : zLs} {st st' : List zV} {h h' : zH}
/-- what a call has brought: it came back, or threw -/
def zCR (p : Program) (l : Launch) (e : Env) (R : Room) (s : State) (m : MethodId) (args : Array Value) (below : List Frame) (meth : Method) (c : Code) (T : State) (locs : List Loc) (cells slots : Nat) (g : JFrame) (av : Array Value) (rest : List Value) (Post : Pt → Array Value → Option Value → Pt → Prop) (PostX : Pt → Array Value → Addr → Pt → Prop) : Prop :=
  (∃ (v : Option Value) (vm₁ : Vm) (B : Pt), s.WarmedH vm₁ ∧ Stand p l e R s m args below meth c B.U B.locs B.cells B.slots ∧ Post ⟨T.setVm vm₁, locs, cells, slots⟩ av v B ∧
      ∀ target, Steps p.tables e below (B.U.setTop { g with pc := g.pc + 3, stack := v.toList ++ rest }) target → Steps p.tables e below (T.setTop g) target) ∨
    (∃ (q : Addr) (vm₁ : Vm) (B : Pt), s.WarmedH vm₁ ∧ Stand p l e R s m args below meth c B.U B.locs B.cells B.slots ∧ PostX ⟨T.setVm vm₁, locs, cells, slots⟩ av q B ∧
      Steps p.tables e below (T.setTop g) ((B.U.setTop { g with stack := rest }).pushFrame (.throwing q)))
/-- thrown: the same place, with an exception over it -/
def zOKX (D : va_G) (dA : Nat → ClassId) (base y : Nat) (p : Program) (l : Launch) (e : Env) (R : Room) (s : State) (m : MethodId) (args : Array Value) (below : List Frame) (meth : Method) (c : Code) (Q : State → Prop) (M S mc ms : Nat) (pc : Nat) (ls : zLs) (rest : List zV) (ci a : Nat) (h : zH) : Prop :=
  ∀ (H : Heap) (locs : List Loc) (cells slots : Nat) (als : Array Slot) (ce : Cell), zRel D dA base y s c h ls M S mc ms H locs cells slots als → H[a]? = some ce → ce.vm = .none → s.vm.findClass (zexn ci) = some ce.cls →
    vx_W p l e R s m args below meth c H locs cells slots Q (F0 m pc als (rest.map zvv)) a
theorem zblind {as : List zV} : FrameBlind (zPc D dA G base as h) := fun a U g mk q =>
  ⟨q.1, q.2.1.moved (u := U) (U := U.calling g mk a) (Vm.Alike.refl U.vm), q.2.2.1.vm (u := U) (U := U.calling g mk a) rfl, q.2.2.2.moved (u := U) (U := U.calling g mk a) (Vm.Alike.refl U.vm)⟩
/-- room for a callee -/
theorem zdep_room (C : zCtx D dA G base d y p l R s m args meth c mc ms) {d' y' : Nat} {ey : zM} (hy' : zms[y']? = some ey) (hd : zdep d y y' = some d') (a b : Nat) :
    (zrm d' y' a b).frames + 1 ≤ R.frames ∧ 8 + (ey.2.2.1 + 11) + (zrm d' y' a b).locals ≤ R.locals := by
  obtain ⟨-, -, -, -, -, -, -, -, -, -, -, -, ⟨h1, h2, h3⟩, -⟩ := C
  obtain ⟨l1, l2, l3⟩ := zms_lv (List.mem_of_getElem? hy')
  have hl : (zm y').2.2.2.2.1 = ey.2.2.2.2.1 := by rw [zm_of hy']
  unfold zdep at hd
  show d' * 19 + (zm y').2.2.2.2.1 + 1 ≤ R.frames ∧ 8 + (ey.2.2.1 + 11) + 60 * (d' * 19 + (zm y').2.2.2.2.1) ≤ R.locals
  rw [hl] at hd ⊢
  split at hd
  · rename_i hlt
    cases hd
    constructor <;> omega
  · split at hd
    · cases hd
    · cases hd
      constructor <;> omega
theorem zback_of (C : zCtx D dA G base d y p l R s m args meth c mc ms) {d' y' : Nat} {ey : zM} (hy' : zms[y']? = some ey) (hdep : zdep d y y' = some d') {as : List zV} {r : zRes} (hM : zMet D dA G base l d' y' as h r) :
    vx_Back l R p e below s args (zname y') 3 8 (PreOf R (r.2.2.1 - h.2.1) (r.2.2.2 - h.2.2) (zPc D dA G base as h)) (PostOf (zQc D dA base r) (r.2.2.1 - h.2.1) (r.2.2.2 - h.2.2) (fun q => base ≤ q)) (vx_Post (zXC D dA base r) (r.2.2.1 - h.2.1) (r.2.2.2 - h.2.2) (fun q => base ≤ q)) := by
  obtain ⟨r1, r2⟩ := zdep_room C hy' hdep (r.2.2.1 - h.2.1) (r.2.2.2 - h.2.2)
  have he := zm_of hy'
  have hmem := List.mem_of_getElem? hy'
  have hok := zms_ok ey hmem
  have hws : ∀ w ∈ zws y', ∀ (a' : Array Value) (U : State), s.WarmedH U.vm → w.before a' U = true := by
    intro w hw a' U hW
    have hw2 : w ∈ lwB := by
      rcases List.mem_cons.mp hw with h9 | h9
      · rw [h9, he]; exact zlB (zcodeW_in hmem)
      · exact h9
    exact zword (zlwB_good w hw2) hW (C.ts w hw2)
  have hini : ∀ (a' : Array Value) (U : State), s.WarmedH U.vm → (Cond.initialized (zname y').cls).before a' U = true := by
    intro a' U hW
    have h9 : Cond.initialized (zname y').cls ∈ lwB := by
      unfold zname; rw [he]; exact zlB hok.2.2.1
    exact zword (zlwB_good _ h9) hW (C.ts _ h9)
  have hcd : zcodeW (zm y') ∈ zws y' := List.mem_cons_self
  unfold zcodeW at hcd
  split at hcd
  · exact vx_back hM zblind rfl rfl r1 (by rw [← he] at r2; exact r2) hws hcd hini
  · exact vx_backW hM zblind rfl rfl r1 (by rw [← he] at r2; exact r2) hws hcd hini
/-- behind the call -/
theorem zcall_end (C : zCtx D dA G base d y p l R s m args meth c mc ms) {rest : List zV} {av : Array Value} {r : zRes} (hle : zle h r.2) (hrM : r.2.2.1 ≤ M ∧ r.2.2.2 ≤ S)
    (kret : ∀ v h1, r = (.inl v, h1) → zOK D dA base y p l e R s m args below meth c Q M S mc ms (pc + 3) ls (v.toList ++ rest) h1)
    (kthr : ∀ ci a h1, r = (.inr (ci, a), h1) → zOKX D dA base y p l e R s m args below meth c Q M S mc ms pc ls rest ci a h1)
    {H : Heap} {locs : List Loc} {cells slots : Nat} {als : Array Slot} (hR : zRel D dA base y s c h ls M S mc ms H locs cells slots als) {g : JFrame} (hg : ∀ pc9 st9, ({ g with pc := pc9, stack := st9 } : JFrame) = F0 m pc9 als st9) (hpc : g.pc = pc)
    (hcr : ∀ T : State, T.heap = H → Stand p l e R s m args below meth c T locs cells slots → zCR p l e R s m args below meth c T locs cells slots g av (rest.map zvv) (PostOf (zQc D dA base r) (r.2.2.1 - h.2.1) (r.2.2.2 - h.2.2) (fun q => base ≤ q)) (vx_Post (zXC D dA base r) (r.2.2.1 - h.2.1) (r.2.2.2 - h.2.2) (fun q => base ≤ q))) :
    W p l e R s m args below meth c H locs cells slots Q g := by
  intro T hT X
  have rel : ∀ (t : State) (h1 : zH) (U' : State) (L : List Loc), r.2 = h1 → U'.heap = t.heap → s.vm.Alike t.vm → zInv D dA base t h1 t.heap → H.size ≤ t.heap.size → (∀ q : Nat, q < H.size → ¬ base ≤ q → t.heap[q]? = H[q]?) → (∀ q ∈ L, base ≤ q.base) →
      zRel D dA base y s c h1 ls M S mc ms U'.heap (locs ++ L) (cells + (r.2.2.1 - h.2.1)) (slots + (r.2.2.2 - h.2.2)) als := by
    intro t h1 U' L e0 e1 hal hI hz hk hL
    subst e0
    obtain ⟨hI0, hS0, hL0, hMM, hc1, hc2⟩ := hR
    rw [e1]
    have hal' : t.vm.Alike s.vm := hal.symm
    refine ⟨hI.moved hal', ⟨Nat.le_trans hS0.1 hz, fun q q1 q2 => (hk q (Nat.lt_of_lt_of_le q1 hS0.1) q2).trans (hS0.2.1 q q1 q2), fun q hq => ?_⟩, hL0, hrM, ?_, ?_⟩
    · rcases List.mem_append.mp hq with h9 | h9
      · exact hS0.2.2 q h9
      · exact hL q h9
    · have := hle.1; omega
    · have := hle.2; omega
  rcases hcr T hT X with ⟨v, vm₁, B, hW, X', hpost, st9⟩ | ⟨q, vm₁, B, hW, X', hpost, st9⟩
  · obtain ⟨U', l2, c2, s2⟩ := B
    obtain ⟨g', mk, t, L, e1, e2, ⟨v', h1, er, eo, hI, hz, hk⟩, e3, hL, e4, e5⟩ := hpost
    dsimp only [Pt.U, Pt.locs, Pt.cells, Pt.slots] at e1 e2 e3 e4 e5 X' st9
    subst e3; subst e4; subst e5
    have hst0 : (State.calling (T.setVm vm₁) g' mk av).heap = H := hT
    have hv : v = v'.map zvv := by cases eo; rfl
    have hal : s.vm.Alike t.vm := by rw [← e2]; exact X'.warmed.alike
    have hz' : H.size ≤ t.heap.size := by have h9 := hz; rw [hst0] at h9; exact h9
    have hk' : ∀ q : Nat, q < H.size → ¬ base ≤ q → t.heap[q]? = H[q]? := by
      intro q q1 q2
      have h9 := hk q (by rw [hst0]; exact q1) q2
      rw [hst0] at h9; exact h9
    have hrel := rel t h1 U' L (by rw [er]) e1 hal hI hz' hk' hL
    obtain ⟨t2, a1, b1⟩ := kret v' h1 er U'.heap (locs ++ L) _ _ als hrel U' rfl X'
    refine ⟨t2, st9 t2 ?_, b1⟩
    rw [hg, hpc, hv]
    have e9 : (v'.map zvv).toList ++ rest.map zvv = (v'.toList ++ rest).map zvv := by cases v' <;> simp
    rw [e9]
    exact a1
  · obtain ⟨U', l2, c2, s2⟩ := B
    obtain ⟨g', mk, t, L, E, ce, e1, e2, ⟨ci, h1, er, eE, hI, hz, hk⟩, hce, hcv, hcl, e3, hL, e4, e5⟩ := hpost
    dsimp only [Pt.U, Pt.locs, Pt.cells, Pt.slots] at e1 e2 e3 e4 e5 X' st9
    subst e3; subst e4; subst e5
    have hst0 : (State.calling (T.setVm vm₁) g' mk av).heap = H := hT
    have hal : s.vm.Alike t.vm := by rw [← e2]; exact X'.warmed.alike
    have hz' : H.size ≤ t.heap.size := by have h9 := hz; rw [hst0] at h9; exact h9
    have hk' : ∀ q : Nat, q < H.size → ¬ base ≤ q → t.heap[q]? = H[q]? := by
      intro q q1 q2
      have h9 := hk q (by rw [hst0]; exact q1) q2
      rw [hst0] at h9; exact h9
    have hrel := rel t h1 U' L (by rw [er]) e1 hal hI hz' hk' hL
    have hcl9 : s.vm.findClass (zexn ci) = some ce.cls := by rw [← eE]; exact vx_cls hW hcl
    obtain ⟨t2, a1, b1⟩ := kthr ci q h1 er U'.heap (locs ++ L) _ _ als ce hrel (by rw [e1]; exact hce) hcv hcl9 U' rfl X'
    refine ⟨t2, st9.trans ?_, b1⟩
    have e9 : ({ g with stack := rest.map zvv } : JFrame) = F0 m pc als (rest.map zvv) := by
      have := hg g.pc (rest.map zvv)
      rw [hpc] at this
      rw [← this]
      cases g
      dsimp only at hpc
      subst hpc
      rfl
    rw [e9]
    exact a1
end ZC
