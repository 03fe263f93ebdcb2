/-! THE MACHINE OF OUR OWN: values, a heap as a function of addresses, one step an instruction (zX), a run by fuel (zex) and its limit (runF) -/
abbrev zV : Type := Int32 ⊕ Int64 ⊕ Option Nat
abbrev zi (x : Int32) : zV := Sum.inl x
abbrev zl (x : Int64) : zV := Sum.inr (Sum.inl x)
abbrev zr (r : Option Nat) : zV := Sum.inr (Sum.inr r)
def zvv : zV → Value
  | .inl x => .int x
  | .inr (.inl x) => .long x
  | .inr (.inr r) => va_rf r
abbrev zA : Type := (Nat → Int32) ⊕ (Nat → Int64) ⊕ (Nat → Option Nat)
/-- a cell: an array (kind, length, contents) or an object (place in zcl, fields) -/
abbrev zC : Type := (Nat × Nat × zA) ⊕ (Nat × (Nat → zV))
/-- the heap: cells, the next address, the slots used -/
abbrev zH : Type := (Nat → Option zC) × Nat × Nat
/-- an end: returned, or thrown (class of objects, address) -/
abbrev zRes : Type := (Option zV ⊕ (Nat × Nat)) × zH
abbrev zLs : Type := List (Option zV)
/-- a step's outcome: goes on; a call (depth, method, arguments, heap, locals and stack behind it); an end -/
abbrev zS : Type := (Nat × zLs × List zV × zH) ⊕ ((Nat × Nat × List zV × zH × zLs × List zV) ⊕ zRes)
def zcat : zV → Nat
  | .inr (.inl _) => 2
  | _ => 1
def zg : zLs → Nat → Option zV
  | [], _ => none
  | x :: _, 0 => x
  | _ :: xs, k + 1 => zg xs k
def zup {α : Type} (f : Nat → α) (k : Nat) (v : α) : Nat → α := fun j => if j = k then v else f j
def zfld (o idx : Nat) : Option zF := zfind (fun e => e.1 == o && e.2.1 == idx) zfs
def zlnk (o idx : Nat) : Option zK := zfind (fun e => e.1 == o && e.2.1 == idx) zks
/-- the law, behind the methods of the table -/
def mLaw : Nat := 305
def zlawM : zM := (⟨"SecretBuyersLaw", "law", "([I)Z"⟩, code, 7, some .boolean, 19, 0, [], false)
def zm (y : Nat) : zM := if y = 305 then zlawM else zms.getD y (⟨"", "", ""⟩, ⟨#[]⟩, 0, none, 0, 0, [], false)
/-- slots that ever hold a long -/
def zlgs (y : Nat) : List Nat := ((zfind (fun e : Nat × List Nat => e.1 == y) zlongs).map (fun e => e.2)).getD []
def zkill (y : Nat) (ls : zLs) (k : Nat) : zLs := match k with
  | 0 => ls
  | j + 1 => if (zlgs y).contains j then ls.set j none else ls
def zst1 (y : Nat) (ls : zLs) (k : Nat) (v : zV) : zLs := (zkill y ls k).set k (some v)
def zst2 (y : Nat) (ls : zLs) (k : Nat) (v : zV) : zLs := ((zkill y ls k).set k (some v)).set (k + 1) none
/-- the locals at a method's entry -/
def zsp : List zV → zLs
  | [] => []
  | .inr (.inl x) :: vs => some (zl x) :: none :: zsp vs
  | v :: vs => some v :: zsp vs
def zent (args : List zV) (n : Nat) : zLs := zsp args ++ List.replicate (n - (zsp args).length) none
def zlok (y : Nat) (args : List zV) (n : Nat) : Bool := (zent args n).zipIdx.all fun p => match p.1 with
  | some (.inr (.inl _)) => (zlgs y).contains p.2
  | _ => true
/-! heap -/
def zfits : Nat → zV → Bool
  | 0, .inl _ => true
  | 1, .inl x => x == 0 || x == 1
  | 2, .inl x => decide (-128 ≤ x) && decide (x ≤ 127)
  | 3, .inl x => decide (0 ≤ x) && decide (x ≤ 65535)
  | 5, .inr (.inl _) => true
  | 6, .inr (.inr _) => true
  | _, _ => false
def zsame : Nat → zV → Bool
  | 5, .inr (.inl _) => true
  | 6, .inr (.inr _) => true
  | 5, _ => false
  | 6, _ => false
  | _, .inl _ => true
  | _, _ => false
/-- read a field: its place, its kind, the classes of objects that have it there -/
def zrd (h : zH) (r : Option Nat) (k kd : Nat) (cis : List Nat) : Option zV := match r with
  | none => none
  | some a => match h.1 a with
    | some (.inr (ci, V)) => if cis.contains ci && zsame kd (V k) then some (V k) else none
    | _ => none
def zwr (h : zH) (r : Option Nat) (k kd : Nat) (cis : List Nat) (v : zV) : Option zH := match r with
  | none => none
  | some a => match h.1 a with
    | some (.inr (ci, V)) => if cis.contains ci && ci != zConstStr && zfits kd v then some (zup h.1 a (some (.inr (ci, zup V k v))), h.2.1, h.2.2) else none
    | _ => none
def zin (i : Int32) (n : Nat) : Bool := !(decide (i < 0)) && decide (i.toNatClampNeg < n)
def zaldI (ks : List Nat) (h : zH) (r : Option Nat) (i : Int32) : Option Int32 := match r with
  | none => none
  | some a => match h.1 a with
    | some (.inl (k, n, .inl f)) => if ks.contains k && zin i n then some (f i.toNatClampNeg) else none
    | _ => none
def zaldL (h : zH) (r : Option Nat) (i : Int32) : Option Int64 := match r with
  | none => none
  | some a => match h.1 a with
    | some (.inl (k, n, .inr (.inl f))) => if k == 3 && zin i n then some (f i.toNatClampNeg) else none
    | _ => none
def zaldR (h : zH) (r : Option Nat) (i : Int32) : Option (Option Nat) := match r with
  | none => none
  | some a => match h.1 a with
    | some (.inl (k, n, .inr (.inr f))) => if [4, 5, 6, 7, 18].contains k && zin i n then some (f i.toNatClampNeg) else none
    | _ => none
def znar (k : Nat) (x : Int32) : Int32 := if k = 1 then x.toInt8.toInt32 else if k = 2 then x &&& 1 else x
def zastI (ks : List Nat) (h : zH) (r : Option Nat) (i x : Int32) : Option zH := match r with
  | none => none
  | some a => match h.1 a with
    | some (.inl (k, n, .inl f)) => if ks.contains k && zin i n then some (zup h.1 a (some (.inl (k, n, .inl (zup f i.toNatClampNeg (znar k x))))), h.2.1, h.2.2) else none
    | _ => none
def zastL (h : zH) (r : Option Nat) (i : Int32) (x : Int64) : Option zH := match r with
  | none => none
  | some a => match h.1 a with
    | some (.inl (k, n, .inr (.inl f))) => if k == 3 && zin i n then some (zup h.1 a (some (.inl (k, n, .inr (.inl (zup f i.toNatClampNeg x))))), h.2.1, h.2.2) else none
    | _ => none
/-- the class of objects at an address -/
def zcls (h : zH) (a : Nat) : Option Nat := match h.1 a with
  | some (.inr (ci, _)) => some ci
  | _ => none
/-- which classes of objects an array of references may hold -/
def zhold (k ci : Nat) : Bool := (k == 4 && zcastObj.contains ci) || (k == 5 && ci == zciVisit) || (k == 6 && ci == zciShop)
def zstor (h : zH) (k : Nat) (x : Option Nat) : Bool := match x with
  | none => true
  | some b => match zcls h b with
    | some ci => zhold k ci
    | none => false
def zastR (h : zH) (r : Option Nat) (i : Int32) (x : Option Nat) : Option zH := match r with
  | none => none
  | some a => match h.1 a with
    | some (.inl (k, n, .inr (.inr f))) => if [4, 5, 6].contains k && zin i n && zstor h k x then some (zup h.1 a (some (.inl (k, n, .inr (.inr (zup f i.toNatClampNeg x))))), h.2.1, h.2.2) else none
    | _ => none
def zlen (h : zH) (r : Option Nat) : Option Int32 := match r with
  | none => none
  | some a => match h.1 a with
    | some (.inl (_, n, _)) => some (Int32.ofNat n)
    | _ => none
def zalloc (h : zH) (c : zC) (n : Nat) : zH := (zup h.1 h.2.1 (some c), h.2.1 + 1, h.2.2 + n)
def zzero (k : Nat) : zA := if k = 3 then .inr (.inl fun _ => 0) else if k < 3 then .inl fun _ => 0 else .inr (.inr fun _ => none)
def znewa (h : zH) (k : Nat) (n : Int32) : Option (zV × zH) := if !(decide (n < 0)) && decide (n.toNatClampNeg ≤ 1000000) then some (zr (some h.2.1), zalloc h (.inl (k, n.toNatClampNeg, zzero k)) n.toNatClampNeg) else none
def zdefK : Nat → zV
  | 5 => zl 0
  | 6 => zr none
  | _ => zi 0
/-- an object's fields at its making -/
def zdef (ci : Nat) (k : Nat) : zV := match (zcl.getD ci ("", fun _ => ("", "", "", false), 0)).2.1 k with
  | (_, _, d, _) => zdefK (((parseFieldDescriptor d).map zkd).getD 0)
/-- System.arraycopy, for byte arrays and arrays of Objects -/
def zcopy (h : zH) (s : Option Nat) (sp : Int32) (d : Option Nat) (dp n : Int32) : Option zH := match s, d with
  | some a, some b => match h.1 a, h.1 b with
    | some (.inl (k1, n1, .inl f)), some (.inl (k2, n2, .inl g)) =>
      if k1 == 1 && k2 == 1 && !(decide (sp < 0)) && !(decide (dp < 0)) && !(decide (n < 0)) && decide (sp.toNatClampNeg + n.toNatClampNeg ≤ n1) && decide (dp.toNatClampNeg + n.toNatClampNeg ≤ n2)
      then some (zup h.1 b (some (.inl (k2, n2, .inl (va_cpy f g sp.toNatClampNeg dp.toNatClampNeg n.toNatClampNeg)))), h.2.1, h.2.2) else none
    | some (.inl (k1, n1, .inr (.inr f))), some (.inl (k2, n2, .inr (.inr g))) =>
      if k1 == 4 && k2 == 4 && !(decide (sp < 0)) && !(decide (dp < 0)) && !(decide (n < 0)) && decide (sp.toNatClampNeg + n.toNatClampNeg ≤ n1) && decide (dp.toNatClampNeg + n.toNatClampNeg ≤ n2)
      then some (zup h.1 b (some (.inl (k2, n2, .inr (.inr (va_cpy f g sp.toNatClampNeg dp.toNatClampNeg n.toNatClampNeg))))), h.2.1, h.2.2) else none
    | _, _ => none
  | _, _ => none
/-- rows of an array of arrays of ints -/
def zrows (h : zH) (k m : Nat) : Nat → zH
  | 0 => h
  | j + 1 => zalloc (zrows h k m j) (.inl (0, m, .inl fun _ => 0)) m
/-- new int[n][m] -/
def zmulti (h : zH) (n m : Int32) : Option (zV × zH) :=
  if !(decide (n < 0)) && !(decide (m < 0)) && decide (n.toNatClampNeg ≤ 1000000) && decide (m.toNatClampNeg ≤ 1000000)
  then some (zr (some h.2.1), zrows (zalloc h (.inl (7, n.toNatClampNeg, .inr (.inr fun j => if j < n.toNatClampNeg then some (h.2.1 + 1 + j) else none))) n.toNatClampNeg) 0 m.toNatClampNeg n.toNatClampNeg) else none
/-- a byte array's clone -/
def zclone (h : zH) (r : Option Nat) : Option (zV × zH) := match r with
  | none => none
  | some a => match h.1 a with
    | some (.inl (1, n, .inl f)) => some (zr (some h.2.1), zalloc h (.inl (1, n, .inl f)) n)
    | _ => none
/-! calls -/
def zdep (d y y' : Nat) : Option Nat := if (zm y').2.2.2.2.1 < (zm y).2.2.2.2.1 then some d else match d with
  | 0 => none
  | d + 1 => some d
def zsum (st : List zV) : Nat := (st.map zcat).sum
def zcallTo (d y y' : Nat) (args : List zV) (h : zH) (ls : zLs) (rest : List zV) : Option zS := match zdep d y y' with
  | none => none
  | some d' => if zsum rest ≤ 8 && zlok y' args (zm y').2.2.1 && decide ((zsp args).length ≤ (zm y').2.2.1) then some (.inr (.inl (d', y', args, h, ls, rest))) else none
def ztake (n : Nat) (st : List zV) : Option (List zV × List zV) := if n ≤ st.length then some ((st.take n).reverse, st.drop n) else none
def zgo (pc : Nat) (ls : zLs) (st : List zV) (h : zH) : Option zS := some (.inl (pc, ls, st, h))
def ztg (pc : Nat) (off : Int) : Nat := ((pc : Int) + off).toNat
def zcmp (c : ClassFile.Cond) (x y : Int32) : Bool := match c with
  | .eq => decide (x = y)
  | .ne => !(decide (x = y))
  | .lt => decide (x < y)
  | .ge => decide (y ≤ x)
  | .gt => decide (y < x)
  | .le => decide (x ≤ y)
def zlcmp (x y : Int64) : Int32 := lg_cmp x y
def zswI (pc : Nat) (dflt lo hi : Int) (offs : Array Int) (x : Int32) : Nat :=
  if x.toInt < lo then ztg pc dflt else if hi < x.toInt then ztg pc dflt else match offs[(x.toInt - lo).toNat]? with
  | some o => ztg pc o
  | none => 0
