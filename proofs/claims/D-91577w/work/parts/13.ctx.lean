/-! the tables at a state, the statics, the context of a body -/
/-- words that don't ride in the lists -/
def zisNW : Cond → Bool
  | .fieldLinkNest .. => true
  | .methodLinkNest .. => true
  | .castable .. => true
  | .declares .. => true
  | _ => false
def zTab (D : va_G) (dA : Nat → ClassId) (G : Nat → Option Nat) (U : State) : Prop :=
  va_K D zcl (ztys dA) U ∧ (∀ w ∈ lw_tbl, zisNW w = true → va_Nw w U) ∧ (∀ e ∈ zanews, va_AO e.2.2.2 U) ∧ (Cond.arrayOver (.array .int)).before #[] U = true ∧
  (∀ g, G 0 = some g → va_Mi "[Ljava/lang/Object;" g U) ∧ (∀ e ∈ zldS, ∀ g, G e.2.2.2 = some g → vk_R (zcn e.1) e.2.1 e.2.2.1 g U)
def zSta (G : Nat → Option Nat) (base : Nat) (U : State) (H : Heap) : Prop :=
  (∀ f ∈ zstF, va_Z f.2.1 f.2.2.1 f.2.2.2 (zvv (zsta G f.1)) (fun q => base ≤ q) U H) ∧ vx_L Bundle.tN "UNASSIGNED_STACK" Bundle.steD (fun q => base ≤ q) U H ∧ vx_L Bundle.tN "SUPPRESSED_SENTINEL" Bundle.listD (fun q => base ≤ q) U H
theorem zNw_warm {w : Cond} (hw : zisNW w = true) {s U : State} (hW : s.WarmedH U.vm) (h : va_Nw w s) : va_Nw w U := by
  cases w <;> first | (cases hw; done) | exact h.warmF hW | exact h.warmM hW | exact h.warmC hW | exact h.warmD hW
theorem zNw_vm {w : Cond} (hw : zisNW w = true) {u U : State} (hv : u.vm = U.vm) (h : va_Nw w u) : va_Nw w U := by
  cases w <;> first | (cases hw; done) | exact va_tabs rfl hv h
theorem zTab.warm {D : va_G} {dA : Nat → ClassId} {G : Nat → Option Nat} {s U : State} (hW : s.WarmedH U.vm) (h : zTab D dA G s) : zTab D dA G U :=
  ⟨va_K.moved hW.alike h.1, fun w hw hn => zNw_warm hn hW (h.2.1 w hw hn), fun e he => (h.2.2.1 e he).moved hW.alike, over_moved hW.alike h.2.2.2.1,
    fun g hg => (h.2.2.2.2.1 g hg).moved hW.alike, fun e he g hg => (h.2.2.2.2.2 e he g hg).warm hW⟩
theorem zTab.vm {D : va_G} {dA : Nat → ClassId} {G : Nat → Option Nat} {u U : State} (hv : u.vm = U.vm) (h : zTab D dA G u) : zTab D dA G U := by
  have hal : u.vm.Alike U.vm := by rw [hv]; exact Vm.Alike.refl _
  exact ⟨va_K.moved hal h.1, fun w hw hn => zNw_vm hn hv (h.2.1 w hw hn), fun e he => (h.2.2.1 e he).moved hal, over_moved hal h.2.2.2.1,
    fun g hg => (h.2.2.2.2.1 g hg).moved hal, fun e he g hg => (h.2.2.2.2.2 e he g hg).same hv.symm⟩
theorem zSta.moved {G : Nat → Option Nat} {base : Nat} {u U : State} {H : Heap} (hvm : u.vm.Alike U.vm) (h : zSta G base u H) : zSta G base U H := ⟨fun f hf => (h.1 f hf).moved hvm, h.2.1.moved hvm, h.2.2.moved hvm⟩
theorem zSta.kept {G : Nat → Option Nat} {base : Nat} {U : State} {H H1 : Heap} (h : zSta G base U H) (hq : ∀ a : Nat, a < H.size → ¬ base ≤ a → H1[a]? = H[a]?) : zSta G base U H1 := ⟨fun f hf => (h.1 f hf).kept hq, h.2.1.kept hq, h.2.2.kept hq⟩
/-- what holds all through a body of method y at depth d -/
def zCtx (D : va_G) (dA : Nat → ClassId) (G : Nat → Option Nat) (base d y : Nat) (p : Program) (l : Launch) (R : Room) (s : State) (m : MethodId) (args : Array Value) (meth : Method) (c : Code) (mc ms : Nat) : Prop :=
  p.tables.exec = Jvm.exec ∧ l.stackTraces = false ∧ c.code = (zm y).2.1 ∧ c.maxLocals = (zm y).2.2.1 ∧ meth.sig.returnType = (zm y).2.2.2.1 ∧ meth.locks = false ∧ s.vm.findClass (zcn (zow y)) = some m.cls ∧
  (∀ w ∈ lwB, w.before args s = true) ∧ ((zm y).2.2.2.2.2.2.2 = true → meth.name = "<init>") ∧ c.exceptionTable.toList = (zm y).2.2.2.2.2.2.1.map (fun q => ⟨q.1, q.2.1, q.2.2.1, q.2.2.2⟩) ∧ zTab D dA G s ∧ zSta G base s s.heap ∧
  (d * 19 + (zm y).2.2.2.2.1 ≤ R.frames ∧ 60 * (d * 19 + (zm y).2.2.2.2.1) ≤ R.locals ∧ 1 ≤ (zm y).2.2.2.2.1) ∧ mc ≤ R.cells ∧ ms ≤ R.slots
/-- at a place of the body: the heap, what was written, the locals, the room; M, S: cells and slots still to be made till the end -/
def zRel (D : va_G) (dA : Nat → ClassId) (base y : Nat) (s : State) (c : Code) (h : zH) (ls : zLs) (M S mc ms : Nat) (H : Heap) (locs : List Loc) (cells slots : Nat) (als : Array Slot) : Prop :=
  zInv D dA base s h H ∧ va_S (fun q => base ≤ q) s.heap H locs ∧ zLoc y c.maxLocals als ls ∧ (h.2.1 ≤ M ∧ h.2.2 ≤ S) ∧ cells + (M - h.2.1) ≤ mc ∧ slots + (S - h.2.2) ≤ ms
def zOK (D : va_G) (dA : Nat → ClassId) (base y : Nat) (p : Program) (l : Launch) (e : Env) (R : Room) (s : State) (m : MethodId) (args : Array Value) (below : List Frame) (meth : Method) (c : Code) (Q : State → Prop) (M S mc ms : Nat) (pc : Nat) (ls : zLs) (st : List zV) (h : zH) : Prop :=
  ∀ (H : Heap) (locs : List Loc) (cells slots : Nat) (als : Array Slot), zRel D dA base y s c h ls M S mc ms H locs cells slots als →
    W p l e R s m args below meth c H locs cells slots Q (F0 m pc als (st.map zvv))
section ZC
variable {D : va_G} {dA : Nat → ClassId} {G : Nat → Option Nat} {base d y : Nat} {p : Program} {l : Launch} {e : Env} {R : Room} {s : State} {m : MethodId} {args : Array Value} {below : List Frame} {meth : Method} {c : Code} {Q : State → Prop} {M S mc ms : Nat}
variable {pc n pc' : Nat} {ls ls' : zLs} {st st' : List zV} {h h' : zH}
/-- the same place of the heap, other locals and stack -/
theorem zRel.loc {H : Heap} {locs : List Loc} {cells slots : Nat} {als als' : Array Slot} (hR : zRel D dA base y s c h ls M S mc ms H locs cells slots als) (h' : zLoc y c.maxLocals als' ls') : zRel D dA base y s c h ls' M S mc ms H locs cells slots als' :=
  ⟨hR.1, hR.2.1, h', hR.2.2.2⟩
theorem zRel.get {H : Heap} {locs : List Loc} {cells slots : Nat} {als : Array Slot} (hR : zRel D dA base y s c h ls M S mc ms H locs cells slots als) {k : Nat} {v : zV} (hk : zg ls k = some v) : als[k]? = some (.val (zvv v)) := hR.2.2.1.2.2.2.1 k v hk
theorem ztg_int {pc : Nat} {off : Int} (h : 0 ≤ (pc : Int) + off) : (pc : Int) + off = (ztg pc off : Int) := by
  unfold ztg
  omega
abbrev zOKx (D : va_G) (dA : Nat → ClassId) (base y : Nat) (p : Program) (l : Launch) (e : Env) (R : Room) (s : State) (m : MethodId) (args : Array Value) (below : List Frame) (meth : Method) (c : Code) (Q : State → Prop) (M S mc ms : Nat) : Nat → zLs → List zV → zH → Prop := zOK D dA base y p l e R s m args below meth c Q M S mc ms
end ZC
