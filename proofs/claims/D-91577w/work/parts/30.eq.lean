/-! EQUATIONS: what a run does, block by block -/
section ZE
variable {G : Nat → Option Nat} {d y : Nat} {pc n : Nat} {ls : zLs} {st : List zV} {h : zH}
noncomputable def callF (G : Nat → Option Nat) (d y : Nat) (as : List zV) (h : zH) : Option zRes := runF G d y 0 (zent as (zm y).2.2.1) [] h
theorem zrun_step {i : Instr} (hd : decode (zm y).2.1 pc = .ok (i, n)) (hn : zln i n = n) : ∀ (G : Nat → Option Nat) (d : Nat) (ls : zLs) (st : List zV) (h : zH), runF G d y pc ls st h = zK2 (runF G) d y pc (zX G i n d y pc ls st h) := by
  intro G d ls st h
  have hz : zf y pc = some (i, n) := by unfold zf; rw [hd]
  rw [runF_eq]
  unfold zstep
  rw [hz]
  show (if zln i n = n then zK2 (runF G) d y pc (zX G i n d y pc ls st h) else none) = _
  rw [if_pos hn]
abbrev zT (y pc : Nat) (i : Instr) (n : Nat) : Prop := ∀ (G : Nat → Option Nat) (d : Nat) (ls : zLs) (st : List zV) (h : zH), runF G d y pc ls st h = zK2 (runF G) d y pc (zX G i n d y pc ls st h)
theorem zK_go {pc' : Nat} : zK2 (runF G) d y pc (zgo pc' ls st h) = runF G d y pc' ls st h := rfl
theorem zK_none : zK2 (runF G) d y pc none = none := rfl
theorem zK_ret {r : zRes} : zK2 (runF G) d y pc (some (.inr (.inr r))) = some r := rfl
theorem zK_ite {P : Prop} {_ : Decidable P} {a b : Option zS} : zK2 (runF G) d y pc (if P then a else b) = if P then zK2 (runF G) d y pc a else zK2 (runF G) d y pc b := by
  split <;> rfl
theorem zK_bind {α : Type} {o : Option α} {f : α → Option zS} : zK2 (runF G) d y pc (o.bind f) = o.bind fun x => zK2 (runF G) d y pc (f x) := by
  cases o <;> rfl
def zrdI (h : zH) (r : Option Nat) (k kd : Nat) (cis : List Nat) : Option Int32 := (zrd h r k kd cis).bind fun v => match v with
  | .inl x => some x
  | _ => none
def zrdL (h : zH) (r : Option Nat) (k kd : Nat) (cis : List Nat) : Option Int64 := (zrd h r k kd cis).bind fun v => match v with
  | .inr (.inl x) => some x
  | _ => none
def zrdR (h : zH) (r : Option Nat) (k kd : Nat) (cis : List Nat) : Option (Option Nat) := (zrd h r k kd cis).bind fun v => match v with
  | .inr (.inr x) => some x
  | _ => none
theorem zrd_same {r : Option Nat} {k kd : Nat} {cis : List Nat} {v : zV} (hx : zrd h r k kd cis = some v) : zsame kd v = true := by
  unfold zrd at hx
  split at hx
  · cases hx
  · split at hx
    · split at hx
      · rename_i hc
        cases hx
        exact (Bool.and_eq_true_iff.mp hc).2
      · cases hx
    · cases hx
theorem zrd_I {β : Type} {r : Option Nat} {k kd : Nat} {cis : List Nat} (hk : kd < 5) {f : zV → Option β} : (zrd h r k kd cis).bind f = (zrdI h r k kd cis).bind fun x => f (zi x) := by
  unfold zrdI
  cases hx : zrd h r k kd cis with
  | none => rfl
  | some v =>
    have hs := zrd_same hx
    match v, hs with
    | .inl x, _ => rfl
    | .inr (.inl x), hs =>
      match kd, hk, hs with
      | 0, _, hs => cases hs
      | 1, _, hs => cases hs
      | 2, _, hs => cases hs
      | 3, _, hs => cases hs
      | 4, _, hs => cases hs
    | .inr (.inr x), hs =>
      match kd, hk, hs with
      | 0, _, hs => cases hs
      | 1, _, hs => cases hs
      | 2, _, hs => cases hs
      | 3, _, hs => cases hs
      | 4, _, hs => cases hs
theorem zrd_I0 {β : Type} {r : Option Nat} {k : Nat} {cis : List Nat} {f : zV → Option β} : (zrd h r k 0 cis).bind f = (zrdI h r k 0 cis).bind fun x => f (zi x) := zrd_I (by decide)
theorem zrd_I1 {β : Type} {r : Option Nat} {k : Nat} {cis : List Nat} {f : zV → Option β} : (zrd h r k 1 cis).bind f = (zrdI h r k 1 cis).bind fun x => f (zi x) := zrd_I (by decide)
theorem zrd_I2 {β : Type} {r : Option Nat} {k : Nat} {cis : List Nat} {f : zV → Option β} : (zrd h r k 2 cis).bind f = (zrdI h r k 2 cis).bind fun x => f (zi x) := zrd_I (by decide)
theorem zrd_I3 {β : Type} {r : Option Nat} {k : Nat} {cis : List Nat} {f : zV → Option β} : (zrd h r k 3 cis).bind f = (zrdI h r k 3 cis).bind fun x => f (zi x) := zrd_I (by decide)
theorem zrd_L5 {β : Type} {r : Option Nat} {k : Nat} {cis : List Nat} {f : zV → Option β} : (zrd h r k 5 cis).bind f = (zrdL h r k 5 cis).bind fun x => f (zl x) := by
  unfold zrdL
  cases hx : zrd h r k 5 cis with
  | none => rfl
  | some v =>
    have hs := zrd_same hx
    match v, hs with
    | .inl x, hs => cases hs
    | .inr (.inl x), hs => rfl
    | .inr (.inr x), hs => cases hs
theorem zrd_R6 {β : Type} {r : Option Nat} {k : Nat} {cis : List Nat} {f : zV → Option β} : (zrd h r k 6 cis).bind f = (zrdR h r k 6 cis).bind fun x => f (zr x) := by
  unfold zrdR
  cases hx : zrd h r k 6 cis with
  | none => rfl
  | some v =>
    have hs := zrd_same hx
    match v, hs with
    | .inl x, hs => cases hs
    | .inr (.inl x), hs => cases hs
    | .inr (.inr x), hs => rfl
/-- the receiver's class, where only one is awaited -/
def zchk (h : zH) (r : Option Nat) (ci : Nat) : Bool := match r with
  | some a => zcls h a == some ci
  | none => false
theorem zcN (n : Nat) : (Nat.cast (no_index (OfNat.ofNat n : Nat)) : Int) = OfNat.ofNat n := rfl
theorem zfin0 : ((0 : Fin 4) : Nat) = 0 := rfl
theorem zfin1 : ((1 : Fin 4) : Nat) = 1 := rfl
theorem zfin2 : ((2 : Fin 4) : Nat) = 2 := rfl
theorem zfin3 : ((3 : Fin 4) : Nat) = 3 := rfl
theorem zback_v {v : zV} {h' : zH} : zback (runF G) d y pc ls st (.inl (some v), h') = runF G d y (pc + 3) ls (v :: st) h' := rfl
theorem zback_n {h' : zH} : zback (runF G) d y pc ls st (.inl none, h') = runF G d y (pc + 3) ls st h' := rfl
theorem zK_call {y' d' : Nat} {as rest : List zV} (hdep : zdep d y y' = some d') (hs : zsum rest ≤ 8) (hl : zlok y' as (zm y').2.2.1 = true) (hn : (zsp as).length ≤ (zm y').2.2.1) : zK2 (runF G) d y pc (zcallTo d y y' as h ls rest) = (callF G d' y' as h).bind (zback (runF G) d y pc ls rest) := by
  unfold zcallTo
  rw [hdep]
  simp [hs, hl, hn, zK2, callF]
theorem zK_call2 {y' d' : Nat} {as rest : List zV} (hdep : zdep d y y' = some d') (hl : zlok y' as (zm y').2.2.1 = true) (hn : (zsp as).length ≤ (zm y').2.2.1) : zK2 (runF G) d y pc (zcallTo d y y' as h ls rest) = if zsum rest ≤ 8 then (callF G d' y' as h).bind (zback (runF G) d y pc ls rest) else none := by
  by_cases hs : zsum rest ≤ 8
  · rw [if_pos hs]; exact zK_call hdep hs hl hn
  · rw [if_neg hs]
    unfold zcallTo
    rw [hdep]
    simp [hs, zK2]
theorem zsel1 {β : Type} {r : Option Nat} {ci y' : Nat} {f : Nat → Option β} : (zsel h r [(ci, y')]).bind f = if zchk h r ci = true then f y' else none := by
  cases r with
  | none => rfl
  | some a =>
    match hz : zcls h a with
    | none => simp [zsel, zchk, hz]
    | some c =>
      by_cases e : ci = c
      · subst e; simp [zsel, zchk, hz, zfind]
      · have e2 : ¬ c = ci := fun q => e q.symm
        simp [zsel, zchk, hz, zfind, e, e2]
theorem zsel2 {β : Type} {r : Option Nat} {ci ck y' : Nat} {f : Nat → Option β} : (zsel h r [(ci, y'), (ck, y')]).bind f = if (zchk h r ci || zchk h r ck) = true then f y' else none := by
  cases r with
  | none => rfl
  | some a =>
    match hz : zcls h a with
    | none => simp [zsel, zchk, hz]
    | some c =>
      by_cases e : ci = c
      · subst e; simp [zsel, zchk, hz, zfind]
      · have e2 : ¬ c = ci := fun q => e q.symm
        by_cases g : ck = c
        · subst g; simp [zsel, zchk, hz, zfind, e]
        · have g2 : ¬ c = ck := fun q => g q.symm
          simp [zsel, zchk, hz, zfind, e, e2, g, g2]
def znewaH (h : zH) (k : Nat) (n : Int32) : Option zH := (znewa h k n).map fun q => q.2
def zmultiH (h : zH) (n m : Int32) : Option zH := (zmulti h n m).map fun q => q.2
def zcloneH (h : zH) (r : Option Nat) : Option zH := (zclone h r).map fun q => q.2
theorem zna_bind {β : Type} {k : Nat} {m9 : Int32} {f : zV × zH → Option β} : (znewa h k m9).bind f = (znewaH h k m9).bind fun h' => f (zr (some h.2.1), h') := by
  unfold znewaH znewa
  split <;> rfl
theorem zmu_bind {β : Type} {k m9 : Int32} {f : zV × zH → Option β} : (zmulti h k m9).bind f = (zmultiH h k m9).bind fun h' => f (zr (some h.2.1), h') := by
  unfold zmultiH zmulti
  split <;> rfl
theorem zcln_bind {β : Type} {r : Option Nat} {f : zV × zH → Option β} : (zclone h r).bind f = (zcloneH h r).bind fun h' => f (zr (some h.2.1), h') := by
  unfold zcloneH zclone
  split
  · rfl
  · split <;> rfl
theorem ztake0 {st : List zV} : ztake 0 st = some ([], st) := rfl
theorem ztake1 {a : zV} {st : List zV} : ztake 1 (a :: st) = some ([a], st) := by simp [ztake]
theorem ztake2 {a b : zV} {st : List zV} : ztake 2 (b :: a :: st) = some ([a, b], st) := by simp [ztake]
theorem ztake3 {a b c : zV} {st : List zV} : ztake 3 (c :: b :: a :: st) = some ([a, b, c], st) := by simp [ztake]
theorem ztake4 {a b c e : zV} {st : List zV} : ztake 4 (e :: c :: b :: a :: st) = some ([a, b, c, e], st) := by simp [ztake]
theorem ztake5 {a b c e f : zV} {st : List zV} : ztake 5 (f :: e :: c :: b :: a :: st) = some ([a, b, c, e, f], st) := by simp [ztake]
theorem ztake6 {a b c e f g : zV} {st : List zV} : ztake 6 (g :: f :: e :: c :: b :: a :: st) = some ([a, b, c, e, f, g], st) := by simp [ztake]
theorem ztake7 {a b c e f g i : zV} {st : List zV} : ztake 7 (i :: g :: f :: e :: c :: b :: a :: st) = some ([a, b, c, e, f, g, i], st) := by simp [ztake]
theorem ztake9 {a b c e f g i j k : zV} {st : List zV} : ztake 9 (k :: j :: i :: g :: f :: e :: c :: b :: a :: st) = some ([a, b, c, e, f, g, i, j, k], st) := by simp [ztake]
theorem zhd1 {q y' : Nat} {tl : List (Nat × Nat)} : zhd ((q, y') :: tl) = some y' := rfl
theorem zsum_n : zsum [] = 0 := rfl
theorem zsum_c {v : zV} {st : List zV} : zsum (v :: st) = zcat v + zsum st := by simp [zsum]
theorem zcat_i {x : Int32} : zcat (Sum.inl x) = 1 := rfl
theorem zcat_l {x : Int64} : zcat (Sum.inr (Sum.inl x)) = 2 := rfl
theorem zcat_r {x : Option Nat} : zcat (Sum.inr (Sum.inr x)) = 1 := rfl
theorem zrK_I {x : Int32} : zretK (some .int) [Sum.inl x] h = some (.inr (.inr (.inl (some (zi x)), h))) := rfl
theorem zrK_Z {x : Int32} : zretK (some .boolean) [Sum.inl x] h = if zfits 1 (zi x) = true then some (.inr (.inr (.inl (some (zi x)), h))) else none := by simp [zretK, zret1, zkd]
theorem zrK_B {x : Int32} : zretK (some .byte) [Sum.inl x] h = if zfits 2 (zi x) = true then some (.inr (.inr (.inl (some (zi x)), h))) else none := by simp [zretK, zret1, zkd]
theorem zrK_C {x : Int32} : zretK (some .char) [Sum.inl x] h = if zfits 3 (zi x) = true then some (.inr (.inr (.inl (some (zi x)), h))) else none := by simp [zretK, zret1, zkd]
theorem zrR_o {c : String} : zretR (some (.object c)) = true := rfl
theorem zrR_a {t : FieldType} : zretR (some (.array t)) = true := rfl
theorem zneq : (mX1_need = zneY) = True := by simp [mX1_need, zneY]
end ZE
