/-! ONE STEP, A RUN BY FUEL, ITS LIMIT -/
abbrev zow (y : Nat) : Nat := (zm y).2.2.2.2.2.1
def zloadI (k : Nat) (pc n : Nat) (ls : zLs) (st : List zV) (h : zH) : Option zS := match zg ls k with
  | some (.inl x) => zgo (pc + n) ls (zi x :: st) h
  | _ => none
def zloadL (k : Nat) (pc n : Nat) (ls : zLs) (st : List zV) (h : zH) : Option zS := match zg ls k with
  | some (.inr (.inl x)) => zgo (pc + n) ls (zl x :: st) h
  | _ => none
def zloadR (k : Nat) (pc n : Nat) (ls : zLs) (st : List zV) (h : zH) : Option zS := match zg ls k with
  | some (.inr (.inr x)) => zgo (pc + n) ls (zr x :: st) h
  | _ => none
def zstoI (k y : Nat) (pc n : Nat) (ls : zLs) (st : List zV) (h : zH) : Option zS := match st with
  | .inl x :: st => if k < ls.length then zgo (pc + n) (zst1 y ls k (zi x)) st h else none
  | _ => none
def zstoR (k y : Nat) (pc n : Nat) (ls : zLs) (st : List zV) (h : zH) : Option zS := match st with
  | .inr (.inr x) :: st => if k < ls.length then zgo (pc + n) (zst1 y ls k (zr x)) st h else none
  | _ => none
def zstoL (k y : Nat) (pc n : Nat) (ls : zLs) (st : List zV) (h : zH) : Option zS := match st with
  | .inr (.inl x) :: st => if k + 1 < ls.length ∧ (zlgs y).contains k = true then zgo (pc + n) (zst2 y ls k (zl x)) st h else none
  | _ => none
def zbin (f : Int32 → Int32 → Int32) (pc : Nat) (ls : zLs) (st : List zV) (h : zH) : Option zS := match st with
  | .inl b :: .inl a :: st => zgo (pc + 1) ls (zi (f a b) :: st) h
  | _ => none
def zbinL (f : Int64 → Int64 → Int64) (pc : Nat) (ls : zLs) (st : List zV) (h : zH) : Option zS := match st with
  | .inr (.inl b) :: .inr (.inl a) :: st => zgo (pc + 1) ls (zl (f a b) :: st) h
  | _ => none
def zun (f : Int32 → Int32) (pc : Nat) (ls : zLs) (st : List zV) (h : zH) : Option zS := match st with
  | .inl a :: st => zgo (pc + 1) ls (zi (f a) :: st) h
  | _ => none
/-- a jump to be taken -/
def zj (pc : Nat) (off : Int) (ls : zLs) (st : List zV) (h : zH) : Option zS := if 0 ≤ (pc : Int) + off then zgo (ztg pc off) ls st h else none
def zif1 (c : ClassFile.Cond) (off : Int) (pc : Nat) (ls : zLs) (st : List zV) (h : zH) : Option zS := match st with
  | .inl x :: st => if 0 ≤ (pc : Int) + off then (match c with
    | .eq => if x = 0 then zgo (ztg pc off) ls st h else zgo (pc + 3) ls st h
    | .ne => if x = 0 then zgo (pc + 3) ls st h else zgo (ztg pc off) ls st h
    | .lt => if x < 0 then zgo (ztg pc off) ls st h else zgo (pc + 3) ls st h
    | .ge => if 0 ≤ x then zgo (ztg pc off) ls st h else zgo (pc + 3) ls st h
    | .gt => if 0 < x then zgo (ztg pc off) ls st h else zgo (pc + 3) ls st h
    | .le => if x ≤ 0 then zgo (ztg pc off) ls st h else zgo (pc + 3) ls st h) else none
  | _ => none
def zif2 (c : ClassFile.Cond) (off : Int) (pc : Nat) (ls : zLs) (st : List zV) (h : zH) : Option zS := match st with
  | .inl y :: .inl x :: st => if 0 ≤ (pc : Int) + off then (match c with
    | .eq => if x = y then zgo (ztg pc off) ls st h else zgo (pc + 3) ls st h
    | .ne => if x = y then zgo (pc + 3) ls st h else zgo (ztg pc off) ls st h
    | .lt => if x < y then zgo (ztg pc off) ls st h else zgo (pc + 3) ls st h
    | .ge => if y ≤ x then zgo (ztg pc off) ls st h else zgo (pc + 3) ls st h
    | .gt => if y < x then zgo (ztg pc off) ls st h else zgo (pc + 3) ls st h
    | .le => if x ≤ y then zgo (ztg pc off) ls st h else zgo (pc + 3) ls st h) else none
  | _ => none
def zifa (c : ClassFile.ACond) (off : Int) (pc : Nat) (ls : zLs) (st : List zV) (h : zH) : Option zS := match st with
  | .inr (.inr y) :: .inr (.inr x) :: st => if 0 ≤ (pc : Int) + off then (match c with
    | .eq => if x = y then zgo (ztg pc off) ls st h else zgo (pc + 3) ls st h
    | .ne => if x = y then zgo (pc + 3) ls st h else zgo (ztg pc off) ls st h) else none
  | _ => none
/-- a switch's target -/
def zjt (pc : Nat) (off : Int) : Option Nat := if 0 ≤ (pc : Int) + off then some (ztg pc off) else none
def zswt (pc : Nat) (dflt lo hi : Int) (offs : Array Int) (x : Int32) : Option Nat := if x.toInt < lo then zjt pc dflt else if hi < x.toInt then zjt pc dflt else (offs[(x.toInt - lo).toNat]?).bind fun o => zjt pc o
def zlkt (pc : Nat) (dflt : Int) (ps : Array (Int × Int)) (x : Int32) : Option Nat := if (ps.toList.zip (ps.toList.drop 1)).all (fun (a, next) => a.1 < next.1) = true then zjt pc (Op.lookupswitch.offset ps.toList dflt x.toInt) else none
def zifn (off : Int) (pc : Nat) (ls : zLs) (st : List zV) (h : zH) : Option zS := match st with
  | .inr (.inr r) :: st => if 0 ≤ (pc : Int) + off then (if r = none then zgo (ztg pc off) ls st h else zgo (pc + 3) ls st h) else none
  | _ => none
def zifnn (off : Int) (pc : Nat) (ls : zLs) (st : List zV) (h : zH) : Option zS := match st with
  | .inr (.inr r) :: st => if 0 ≤ (pc : Int) + off then (if r = none then zgo (pc + 3) ls st h else zgo (ztg pc off) ls st h) else none
  | _ => none
def zald (ty : Nat) (pc : Nat) (ls : zLs) (st : List zV) (h : zH) : Option zS := match st with
  | .inl i :: .inr (.inr r) :: st => match ty with
    | 0 => (zaldI [0, 16] h r i).bind fun x => zgo (pc + 1) ls (zi x :: st) h
    | 1 => (zaldI [1, 2, 17] h r i).bind fun x => zgo (pc + 1) ls (zi x :: st) h
    | 2 => (zaldL h r i).bind fun x => zgo (pc + 1) ls (zl x :: st) h
    | _ => (zaldR h r i).bind fun x => zgo (pc + 1) ls (zr x :: st) h
  | _ => none
def zastoI (ks : List Nat) (pc : Nat) (ls : zLs) (st : List zV) (h : zH) : Option zS := match st with
  | .inl x :: .inl i :: .inr (.inr r) :: st => (zastI ks h r i x).bind fun h' => zgo (pc + 1) ls st h'
  | _ => none
def zastoL (pc : Nat) (ls : zLs) (st : List zV) (h : zH) : Option zS := match st with
  | .inr (.inl x) :: .inl i :: .inr (.inr r) :: st => (zastL h r i x).bind fun h' => zgo (pc + 1) ls st h'
  | _ => none
def zastoR (pc : Nat) (ls : zLs) (st : List zV) (h : zH) : Option zS := match st with
  | .inr (.inr x) :: .inl i :: .inr (.inr r) :: st => (zastR h r i x).bind fun h' => zgo (pc + 1) ls st h'
  | _ => none
def zfnew (o idx : Nat) : Option (Nat × Nat × Nat × Nat) := zfind (fun e : Nat × Nat × Nat × Nat => e.1 == o && e.2.1 == idx) znews
def zfanew (o idx : Nat) : Option (Nat × Nat × Nat × String) := zfind (fun e : Nat × Nat × Nat × String => e.1 == o && e.2.1 == idx) zanews
def zfldI (o idx : Nat) : Option (Nat × Nat × Int32) := zfind (fun e : Nat × Nat × Int32 => e.1 == o && e.2.1 == idx) zldI
def zfldL (o idx : Nat) : Option (Nat × Nat × Int64) := zfind (fun e : Nat × Nat × Int64 => e.1 == o && e.2.1 == idx) zldL
def zfldS (o idx : Nat) : Option (Nat × Nat × String × Nat) := zfind (fun e : Nat × Nat × String × Nat => e.1 == o && e.2.1 == idx) zldS
def zfsts (o idx : Nat) : Option (Nat × Nat × Nat) := zfind (fun e : Nat × Nat × Nat => e.1 == o && e.2.1 == idx) zsts
def zputOk (e : zF) (y : Nat) : Bool := e.2.2.2.2.1.all fun ci => !((zcl.getD ci ("", fun _ => ("", "", "", false), 0)).2.1 e.2.2.1).2.2.2 || ((zm y).2.2.2.2.2.2.2 && !e.2.2.2.2.2)
def zgetf (e : zF) (pc : Nat) (ls : zLs) (st : List zV) (h : zH) : Option zS := match st with
  | .inr (.inr r) :: st => (zrd h r e.2.2.1 e.2.2.2.1 e.2.2.2.2.1).bind fun v => zgo (pc + 3) ls (v :: st) h
  | _ => none
def zputf (e : zF) (y pc : Nat) (ls : zLs) (st : List zV) (h : zH) : Option zS := match st with
  | v :: .inr (.inr r) :: st => if zputOk e y = true then (zwr h r e.2.2.1 e.2.2.2.1 e.2.2.2.2.1 v).bind fun h' => zgo (pc + 3) ls st h' else none
  | _ => none
/-- which method the receiver's class has -/
def zsel (h : zH) (r : Option Nat) (tl : List (Nat × Nat)) : Option Nat := match r with
  | none => none
  | some a => match zcls h a with
    | none => none
    | some ci => (zfind (fun t : Nat × Nat => t.1 == ci) tl).map fun t => t.2
def zobj (h : zH) (r : Option Nat) : Bool := match r with
  | none => false
  | some a => (zcls h a).isSome
def zhd (tl : List (Nat × Nat)) : Option Nat := tl.head?.map fun t => t.2
/-- a call through the table -/
def zinv (e : zK) (d y : Nat) (ls : zLs) (st : List zV) (h : zH) : Option zS := match ztake e.2.2.2.2.1 st with
  | none => none
  | some (as, rest) => if e.2.2.1 = 0 then (zhd e.2.2.2.2.2.1).bind fun y' => zcallTo d y y' as h ls rest else match rest with
    | .inr (.inr r) :: rest => if e.2.2.1 = 1 then (zsel h r e.2.2.2.2.2.1).bind fun y' => zcallTo d y y' (zr r :: as) h ls rest
      else if e.2.2.1 = 4 then (if zobj h r = true then (zhd e.2.2.2.2.2.1).bind fun y' => zcallTo d y y' (zr r :: as) h ls rest else none)
      else if r.isSome = true then (zhd e.2.2.2.2.2.1).bind fun y' => zcallTo d y y' (zr r :: as) h ls rest else none
    | _ => none
def znewO (e : Nat × Nat × Nat × Nat) (pc : Nat) (ls : zLs) (st : List zV) (h : zH) : Option zS :=
  zgo (pc + 3) ls (zr (some h.2.1) :: st) (zalloc h (.inr (e.2.2.1, zdef e.2.2.1)) e.2.2.2)
def zcastOk (o idx : Nat) (h : zH) (a : Nat) : Bool := match h.1 a with
  | some (.inr (ci, _)) => match zfind (fun e : Nat × Nat × String × List Nat => e.1 == o && e.2.1 == idx) zcasts with
    | some e => e.2.2.2.contains ci
    | none => false
  | some (.inl (k, _, _)) => match zfind (fun e : Nat × Nat × String × Nat => e.1 == o && e.2.1 == idx) zacasts with
    | some e => e.2.2.2 == k
    | none => false
  | none => false
def zckOk (o idx : Nat) (h : zH) (r : Option Nat) : Bool := match r with
  | none => true
  | some a => zcastOk o idx h a
def zinOk (o idx : Nat) (h : zH) (r : Option Nat) : Bool := match r with
  | none => false
  | some a => zcastOk o idx h a && (zcls h a).isSome
/-- what is thrown -/
def zthr (h : zH) (r : Option Nat) : Option (Nat × Nat) := match r with
  | none => none
  | some a => (zcls h a).map fun ci => (ci, a)
/-- an array of Objects -/
def zisOA (h : zH) (r : Option Nat) : Bool := match r with
  | none => false
  | some a => match h.1 a with
    | some (.inl (k, _, _)) => k == 4
    | _ => false
def zret1 (r : Option zV) (h : zH) : Option zS := some (.inr (.inr (.inl r, h)))
def zsta (G : Nat → Option Nat) (g : Nat) : zV := if g = 100 then zi 1 else zr (G g)
def zretK (ty : Option FieldType) (st : List zV) (h : zH) : Option zS := match st with
  | [.inl x] => match ty with
    | some t => if zfits (zkd t) (zi x) = true ∧ zkd t < 5 then zret1 (some (zi x)) h else none
    | none => none
  | _ => none
def zretR (o : Option FieldType) : Bool := match o with
  | some t => zkd t == 6
  | none => false
/-- an instruction's bytes (a switch: any) -/
def zln (i : Instr) (n : Nat) : Nat := match i with
  | .iload _ | .istore _ | .aload _ | .astore _ | .lload _ | .lstore _ | .bipush _ | .ldc _ | .newarray _ => 2
  | .getfield _ | .putfield _ | .getstatic _ | .invokevirtual _ | .invokespecial _ | .invokestatic _ | .new _ | .anewarray _ | .checkcast _ | .instanceof _ | .if_acmp .. | .if_icmp .. | .ifCond .. | .ifnull _ | .ifnonnull _ | .goto _ | .iinc .. | .sipush _ | .ldc_w _ | .ldc2_w _ => 3
  | .multianewarray .. => 4
  | .tableswitch .. | .lookupswitch .. => n
  | _ => 1
/-- one instruction -/
def zX (G : Nat → Option Nat) (i : Instr) (n d y pc : Nat) (ls : zLs) (st : List zV) (h : zH) : Option zS := match i with
  | .aaload => zald 3 pc ls st h
  | .aastore => zastoR pc ls st h
  | .aconst_null => zgo (pc + 1) ls (zr none :: st) h
  | .aload k => zloadR k pc n ls st h
  | .aload_n k => zloadR k pc n ls st h
  | .anewarray idx => match st with
    | .inl m :: st => match zfanew (zow y) idx with
      | some e => (znewa h e.2.2.1 m).bind fun r => zgo (pc + 3) ls (r.1 :: st) r.2
      | none => none
    | _ => none
  | .areturn => match st with
    | [.inr (.inr r)] => if zretR (zm y).2.2.2.1 = true then zret1 (some (zr r)) h else none
    | _ => none
  | .arraylength => match st with
    | .inr (.inr r) :: st => (zlen h r).bind fun x => zgo (pc + 1) ls (zi x :: st) h
    | _ => none
  | .astore k => zstoR k y pc n ls st h
  | .astore_n k => zstoR k y pc n ls st h
  | .athrow => match st with
    | .inr (.inr r) :: _ => if (zm y).2.2.2.2.2.2.1.isEmpty = true then (zthr h r).bind fun q => some (.inr (.inr (.inr q, h))) else none
    | _ => none
  | .baload => zald 1 pc ls st h
  | .bastore => zastoI [1, 2] pc ls st h
  | .bipush b => zgo (pc + 2) ls (zi ((Int8.ofInt b).toInt32) :: st) h
  | .checkcast idx => match st with
    | .inr (.inr r) :: st => if zckOk (zow y) idx h r = true then zgo (pc + 3) ls (zr r :: st) h else none
    | _ => none
  | .dup => match st with
    | v :: st => if zcat v = 1 then zgo (pc + 1) ls (v :: v :: st) h else none
    | _ => none
  | .dup_x1 => match st with
    | v :: w :: st => if zcat v = 1 ∧ zcat w = 1 then zgo (pc + 1) ls (v :: w :: v :: st) h else none
    | _ => none
  | .dup2 => match st with
    | v :: w :: st => if zcat v = 1 ∧ zcat w = 1 then zgo (pc + 1) ls (v :: w :: v :: w :: st) h else none
    | _ => none
  | .getfield idx => match zfld (zow y) idx with
    | some e => zgetf e pc ls st h
    | none => none
  | .getstatic idx => match zfsts (zow y) idx with
    | some e => zgo (pc + 3) ls (zsta G e.2.2 :: st) h
    | none => none
  | .goto off => zj pc off ls st h
  | .i2b => zun (fun x => x.toInt8.toInt32) pc ls st h
  | .i2c => zun (fun x => (x.toUInt32 % 65536).toInt32) pc ls st h
  | .i2l => match st with
    | .inl x :: st => zgo (pc + 1) ls (zl x.toInt64 :: st) h
    | _ => none
  | .iadd => zbin (fun a b => a + b) pc ls st h
  | .iaload => zald 0 pc ls st h
  | .iand => zbin (fun a b => a &&& b) pc ls st h
  | .iastore => zastoI [0] pc ls st h
  | .iconst v => zgo (pc + 1) ls (zi (Int32.ofInt v) :: st) h
  | .idiv => match st with
    | .inl b :: .inl a :: st => if b = 0 then none else zgo (pc + 1) ls (zi (a / b) :: st) h
    | _ => none
  | .if_acmp c off => zifa c off pc ls st h
  | .if_icmp c off => zif2 c off pc ls st h
  | .ifCond c off => zif1 c off pc ls st h
  | .ifnonnull off => zifnn off pc ls st h
  | .ifnull off => zifn off pc ls st h
  | .iinc k v => match zg ls k with
    | some (.inl x) => if n = 3 ∧ k < ls.length then zgo (pc + 3) (zst1 y ls k (zi (x + Int32.ofInt v))) st h else none
    | _ => none
  | .iload k => zloadI k pc n ls st h
  | .iload_n k => zloadI k pc n ls st h
  | .imul => zbin (fun a b => a * b) pc ls st h
  | .ineg => zun (fun x => -x) pc ls st h
  | .instanceof idx => match st with
    | .inr (.inr r) :: st => if zinOk (zow y) idx h r = true then zgo (pc + 3) ls (zi 1 :: st) h else none
    | _ => none
  | .invokespecial idx => if zois.contains (zow y, idx) then (match st with
      | .inr (.inr r) :: st => if r.isSome = true ∧ zsum st ≤ 8 then zgo (pc + 3) ls st h else none
      | _ => none) else match zlnk (zow y) idx with
    | some e => if e.2.2.1 = 2 ∨ e.2.2.1 = 3 ∨ e.2.2.1 = 4 then zinv e d y ls st h else none
    | none => none
  | .invokestatic idx => if zacs.contains (zow y, idx) then (match st with
      | .inl m :: .inl dp :: .inr (.inr dr) :: .inl sp :: .inr (.inr sr) :: st => if zsum st ≤ 8 then (zcopy h sr sp dr dp m).bind fun h' => zgo (pc + 3) ls st h' else none
      | _ => none) else match zlnk (zow y) idx with
    | some e => if e.2.2.1 = 0 then zinv e d y ls st h else none
    | none => none
  | .invokevirtual idx => if zow y = zgcO ∧ idx = zgcI then (match st with
      | .inr (.inr r) :: st => if zisOA h r = true ∧ zsum st ≤ 8 then (G 0).bind fun g => zgo (pc + 3) ls (zr (some g) :: st) h else none
      | _ => none) else if zow y = zgcO ∧ idx = zclI then (match st with
      | .inr (.inr r) :: st => if zsum st ≤ 8 then (zclone h r).bind fun q => zgo (pc + 3) ls (q.1 :: st) q.2 else none
      | _ => none) else match zlnk (zow y) idx with
    | some e => if e.2.2.1 = 1 then zinv e d y ls st h else none
    | none => none
  | .ior => zbin (fun a b => a ||| b) pc ls st h
  | .irem => match st with
    | .inl b :: .inl a :: st => if b = 0 then none else zgo (pc + 1) ls (zi (a - a / b * b) :: st) h
    | _ => none
  | .ireturn => zretK (zm y).2.2.2.1 st h
  | .ishl => zbin (fun a b => a <<< (b &&& 31)) pc ls st h
  | .ishr => zbin (fun a b => a >>> (b &&& 31)) pc ls st h
  | .istore k => zstoI k y pc n ls st h
  | .istore_n k => zstoI k y pc n ls st h
  | .isub => zbin (fun a b => a - b) pc ls st h
  | .iushr => zbin (fun a b => (a.toUInt32 >>> (b.toUInt32 &&& Int32.toUInt32 31)).toInt32) pc ls st h
  | .ixor => zbin (fun a b => a ^^^ b) pc ls st h
  | .l2i => match st with
    | .inr (.inl x) :: st => zgo (pc + 1) ls (zi x.toInt32 :: st) h
    | _ => none
  | .ladd => zbinL (fun a b => a + b) pc ls st h
  | .laload => zald 2 pc ls st h
  | .land => zbinL (fun a b => a &&& b) pc ls st h
  | .lastore => zastoL pc ls st h
  | .lcmp => match st with
    | .inr (.inl b) :: .inr (.inl a) :: st => zgo (pc + 1) ls (zi (zlcmp a b) :: st) h
    | _ => none
  | .lconst v => zgo (pc + 1) ls (zl (Int64.ofNat (v : Nat)) :: st) h
  | .ldc idx => if zow y = zgcO ∧ idx = zmirI then ((G 0).bind fun g => zgo (pc + 2) ls (zr (some g) :: st) h) else match zfldI (zow y) idx with
    | some e => zgo (pc + 2) ls (zi e.2.2 :: st) h
    | none => match zfldS (zow y) idx with
      | some e => ((G e.2.2.2).bind fun g => zgo (pc + 2) ls (zr (some g) :: st) h)
      | none => none
  | .ldc_w idx => match zfldI (zow y) idx with
    | some e => zgo (pc + 3) ls (zi e.2.2 :: st) h
    | none => none
  | .ldc2_w idx => match zfldL (zow y) idx with
    | some e => zgo (pc + 3) ls (zl e.2.2 :: st) h
    | none => none
  | .ldiv => match st with
    | .inr (.inl b) :: .inr (.inl a) :: st => if b = 0 then none else zgo (pc + 1) ls (zl (a / b) :: st) h
    | _ => none
  | .lload k => zloadL k pc n ls st h
  | .lload_n k => zloadL k pc n ls st h
  | .lmul => zbinL (fun a b => a * b) pc ls st h
  | .lookupswitch dflt ps => match st with
    | .inl x :: st => (zlkt pc dflt ps x).bind fun t => zgo t ls st h
    | _ => none
  | .lor => zbinL (fun a b => a ||| b) pc ls st h
  | .lrem => match st with
    | .inr (.inl b) :: .inr (.inl a) :: st => if b = 0 then none else zgo (pc + 1) ls (zl (a - a / b * b) :: st) h
    | _ => none
  | .lshl => match st with
    | .inl b :: .inr (.inl a) :: st => zgo (pc + 1) ls (zl (a <<< (b.toInt64 &&& 63)) :: st) h
    | _ => none
  | .lshr => match st with
    | .inl b :: .inr (.inl a) :: st => zgo (pc + 1) ls (zl (a >>> (b.toInt64 &&& 63)) :: st) h
    | _ => none
  | .lstore k => zstoL k y pc n ls st h
  | .lstore_n k => zstoL k y pc n ls st h
  | .lsub => zbinL (fun a b => a - b) pc ls st h
  | .multianewarray idx dims => match st with
    | .inl m :: .inl k :: st => if zow y = zneO ∧ idx = zmuI ∧ dims = 2 then (zmulti h k m).bind fun r => zgo (pc + 4) ls (r.1 :: st) r.2 else none
    | _ => none
  | .new idx => if y = zneY ∧ idx = zneI ∧ pc = 4 then (match d with | 0 => none | _ + 1 => if zsum st ≤ 8 then some (.inr (.inr (.inr (100, h.2.1), h.1, h.2.1 + 1, h.2.2 + 6))) else none) else match zfnew (zow y) idx with
    | some e => znewO e pc ls st h
    | none => none
  | .newarray t => match st with
    | .inl m :: st => match t with
      | .int => (znewa h 0 m).bind fun r => zgo (pc + 2) ls (r.1 :: st) r.2
      | .byte => (znewa h 1 m).bind fun r => zgo (pc + 2) ls (r.1 :: st) r.2
      | .boolean => (znewa h 2 m).bind fun r => zgo (pc + 2) ls (r.1 :: st) r.2
      | .long => (znewa h 3 m).bind fun r => zgo (pc + 2) ls (r.1 :: st) r.2
      | _ => none
    | _ => none
  | .pop => match st with
    | v :: st => if zcat v = 1 then zgo (pc + 1) ls st h else none
    | _ => none
  | .putfield idx => match zfld (zow y) idx with
    | some e => zputf e y pc ls st h
    | none => none
  | .return_ => if (zm y).2.2.2.1.isNone = true ∧ st.isEmpty = true then zret1 none h else none
  | .sipush v => zgo (pc + 3) ls (zi ((Int16.ofInt v).toInt32) :: st) h
  | .tableswitch dflt lo hi offs => match st with
    | .inl x :: st => (zswt pc dflt lo hi offs x).bind fun t => zgo t ls st h
    | _ => none
  | _ => none
/-- the instruction at hand -/
def zf (y pc : Nat) : Option (Instr × Nat) := match decode (zm y).2.1 pc with
  | .ok q => some q
  | .error _ => none
/-- a handler for what was thrown at pc: only the first row of the table is asked -/
def zhand (y pc ci : Nat) : Option Nat := match (zm y).2.2.2.2.2.2.1 with
  | [(a, b, t, k)] => if a ≤ pc ∧ pc < b then (match zfind (fun e : Nat × Nat × Nat × String => e.1 == zow y && e.2.1 == k) zcats with
    | some e => if e.2.2.1 = ci then some t else none
    | none => none) else none
  | _ => none
def zcov (y pc : Nat) : Bool := match (zm y).2.2.2.2.2.2.1 with
  | [] => false
  | [(a, b, _, _)] => decide (a ≤ pc ∧ pc < b)
  | _ => true
/-- behind a call -/
def zback (E : Nat → Nat → Nat → zLs → List zV → zH → Option zRes) (d y pc : Nat) (ls : zLs) (st : List zV) : zRes → Option zRes
  | (.inl v, h) => E d y (pc + 3) ls (v.toList ++ st) h
  | (.inr (ci, a), h) => if zcov y pc = true then (match zhand y pc ci with
      | some t => E d y t ls [zr (some a)] h
      | none => none) else some (.inr (ci, a), h)
def zK2 (E : Nat → Nat → Nat → zLs → List zV → zH → Option zRes) (d y pc : Nat) : Option zS → Option zRes
  | none => none
  | some (.inl (pc', ls, st, h)) => E d y pc' ls st h
  | some (.inr (.inl (d', y', as, h, ls, st))) => (E d' y' 0 (zent as (zm y').2.2.1) [] h).bind (zback E d y pc ls st)
  | some (.inr (.inr r)) => some r
def zstep (G : Nat → Option Nat) (E : Nat → Nat → Nat → zLs → List zV → zH → Option zRes) (d y pc : Nat) (ls : zLs) (st : List zV) (h : zH) : Option zRes := match zf y pc with
  | none => none
  | some q => if zln q.1 q.2 = q.2 then zK2 E d y pc (zX G q.1 q.2 d y pc ls st h) else none
/-- by fuel -/
def zex (G : Nat → Option Nat) : Nat → Nat → Nat → Nat → zLs → List zV → zH → Option zRes
  | 0, _, _, _, _, _, _ => none
  | n + 1, d, y, pc, ls, st, h => zstep G (zex G n) d y pc ls st h
theorem zK2_mono {E F : Nat → Nat → Nat → zLs → List zV → zH → Option zRes} (hEF : ∀ d y pc ls st h r, E d y pc ls st h = some r → F d y pc ls st h = some r) {d y pc : Nat} {o : Option zS} {r : zRes} (h : zK2 E d y pc o = some r) : zK2 F d y pc o = some r := by
  match o, h with
  | some (.inl (pc', ls, st, h1)), h => exact hEF _ _ _ _ _ _ _ h
  | some (.inr (.inl (d', y', as, h1, ls, st))), h =>
    simp only [zK2, Option.bind_eq_some_iff] at h ⊢
    obtain ⟨q, h2, h3⟩ := h
    refine ⟨q, hEF _ _ _ _ _ _ _ h2, ?_⟩
    match q, h3 with
    | (.inl v, h4), h3 => exact hEF _ _ _ _ _ _ _ h3
    | (.inr (ci, a), h4), h3 =>
      simp only [zback] at h3 ⊢
      split at h3
      · rename_i hc
        rw [if_pos hc]
        split at h3
        · exact hEF _ _ _ _ _ _ _ h3
        · cases h3
      · rename_i hc
        rw [if_neg hc]
        exact h3
  | some (.inr (.inr q)), h => exact h
theorem zex_mono (G : Nat → Option Nat) : ∀ (n d y pc : Nat) (ls : zLs) (st : List zV) (h : zH) (r : zRes), zex G n d y pc ls st h = some r → zex G (n + 1) d y pc ls st h = some r := by
  intro n
  induction n with
  | zero => intro d y pc ls st h r e; cases e
  | succ n ih =>
    intro d y pc ls st h r e
    show zstep G (zex G (n + 1)) d y pc ls st h = some r
    have e : zstep G (zex G n) d y pc ls st h = some r := e
    unfold zstep at e ⊢
    split at e
    · cases e
    · split at e
      · rename_i hc
        rw [if_pos hc]
        exact zK2_mono ih e
      · cases e
theorem zex_le (G : Nat → Option Nat) {n m : Nat} (hnm : n ≤ m) {d y pc : Nat} {ls : zLs} {st : List zV} {h : zH} {r : zRes} (e : zex G n d y pc ls st h = some r) : zex G m d y pc ls st h = some r := by
  induction hnm with
  | refl => exact e
  | step _ ih => exact zex_mono G _ _ _ _ _ _ _ _ ih
/-- the limit -/
noncomputable def runF (G : Nat → Option Nat) (d y pc : Nat) (ls : zLs) (st : List zV) (h : zH) : Option zRes :=
  Classical.epsilon fun o : Option zRes => ∃ n, (zex G n d y pc ls st h = o ∧ (o = none → ∀ m, zex G m d y pc ls st h = none))
theorem runF_iff (G : Nat → Option Nat) (d y pc : Nat) (ls : zLs) (st : List zV) (h : zH) (r : zRes) : runF G d y pc ls st h = some r ↔ ∃ n, zex G n d y pc ls st h = some r := by
  have hex : ∃ o : Option zRes, ∃ n, (zex G n d y pc ls st h = o ∧ (o = none → ∀ m, zex G m d y pc ls st h = none)) := by
    by_cases hx : ∃ n q, zex G n d y pc ls st h = some q
    · obtain ⟨n, q, hq⟩ := hx
      exact ⟨some q, n, hq, fun h => by cases h⟩
    · refine ⟨none, 0, rfl, fun _ m => ?_⟩
      cases hm : zex G m d y pc ls st h with
      | none => rfl
      | some q => exact absurd ⟨m, q, hm⟩ hx
  obtain ⟨n, h1, h2⟩ := Classical.epsilon_spec hex
  change zex G n d y pc ls st h = runF G d y pc ls st h at h1
  change runF G d y pc ls st h = none → _ at h2
  constructor
  · intro e
    exact ⟨n, h1.trans e⟩
  · intro ⟨m, hm⟩
    cases hr : runF G d y pc ls st h with
    | none => rw [h2 hr m] at hm; cases hm
    | some q =>
      rw [hr] at h1
      have e1 := zex_le G (Nat.le_max_left n m) h1
      have e2 := zex_le G (Nat.le_max_right n m) hm
      exact e1.symm.trans e2
theorem runF_eq (G : Nat → Option Nat) (d y pc : Nat) (ls : zLs) (st : List zV) (h : zH) : runF G d y pc ls st h = zstep G (runF G) d y pc ls st h := by
  apply Option.ext
  intro r
  rw [runF_iff]
  constructor
  · intro ⟨n, hn⟩
    cases n with
    | zero => cases hn
    | succ n =>
      have hn : zstep G (zex G n) d y pc ls st h = some r := hn
      unfold zstep at hn ⊢
      split at hn
      · cases hn
      · split at hn
        · rename_i hc
          rw [if_pos hc]
          exact zK2_mono (fun _ _ _ _ _ _ _ e => (runF_iff ..).mpr ⟨n, e⟩) hn
        · cases hn
  · intro e
    unfold zstep at e
    cases hz : zf y pc with
    | none => rw [hz] at e; cases e
    | some q =>
      rw [hz] at e
      by_cases hq : zln q.1 q.2 = q.2
      case neg =>
        have e : (if zln q.1 q.2 = q.2 then zK2 (runF G) d y pc (zX G q.1 q.2 d y pc ls st h) else none) = some r := e
        rw [if_neg hq] at e
        cases e
      have e : (if zln q.1 q.2 = q.2 then zK2 (runF G) d y pc (zX G q.1 q.2 d y pc ls st h) else none) = some r := e
      rw [if_pos hq] at e
      have key : ∃ n, zK2 (zex G n) d y pc (zX G q.1 q.2 d y pc ls st h) = some r := by
        generalize zX G q.1 q.2 d y pc ls st h = o at e
        match o, e with
        | some (.inl (pc', ls, st, h1)), e => exact (runF_iff ..).mp e
        | some (.inr (.inl (d', y', as, h1, ls, st))), e =>
          simp only [zK2, Option.bind_eq_some_iff] at e ⊢
          obtain ⟨w, h2, h3⟩ := e
          obtain ⟨n1, h2⟩ := (runF_iff ..).mp h2
          match w, h3 with
          | (.inl v, h4), h3 =>
            obtain ⟨n2, h3⟩ := (runF_iff ..).mp h3
            exact ⟨max n1 n2, _, zex_le G (Nat.le_max_left _ _) h2, zex_le G (Nat.le_max_right _ _) h3⟩
          | (.inr (ci, a), h4), h3 =>
            simp only [zback] at h3
            split at h3
            · rename_i hc
              split at h3
              · rename_i t ht
                obtain ⟨n2, h3⟩ := (runF_iff ..).mp h3
                refine ⟨max n1 n2, _, zex_le G (Nat.le_max_left _ _) h2, ?_⟩
                simp only [zback, hc, if_true, ht]
                exact zex_le G (Nat.le_max_right _ _) h3
              · cases h3
            · rename_i hc
              refine ⟨n1, _, h2, ?_⟩
              simp only [zback]
              rw [if_neg hc]
              exact h3
        | some (.inr (.inr q)), e => exact ⟨0, e⟩
      obtain ⟨n, hn⟩ := key
      refine ⟨n + 1, ?_⟩
      show zstep G (zex G n) d y pc ls st h = some r
      unfold zstep
      rw [hz]
      show (if zln q.1 q.2 = q.2 then zK2 (zex G n) d y pc (zX G q.1 q.2 d y pc ls st h) else none) = some r
      rw [if_pos hq]
      exact hn
