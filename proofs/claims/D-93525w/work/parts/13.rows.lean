set_option maxRecDepth 100000
/-! ===== one row an instruction ===== -/
section JRows
variable {α : Type} {C : Cw} {rr : α → Wd → Outcome → Prop} {X A B : Option (Wd × α)} {cc : ByteArray} {own : String} {d : Nat} {w : Wd} {pc : Nat} {lv : Lv} {st : List AV}
/-- an int within -/
def ib (i : Int32) (n : Nat) : Bool := decide (0 ≤ i.toInt) && decide (i.toInt < n)
theorem ib_in {i : Int32} {n : Nat} (h : ib i n = true) : vp_in i n := by
  rw [vp_in_iff]
  simpa [ib] using h
def room (w : Wd) (sl : Nat) : Bool := Nat.ble (gN w + 1) (LIMC + 8) && Nat.ble (gS w + sl) LIMS
theorem room_spec {w : Wd} {sl : Nat} (h : room w sl = true) : gN w + 1 ≤ LIMC + 8 ∧ gS w + sl ≤ LIMS := by
  unfold room at h
  rw [Bool.and_eq_true] at h
  exact ⟨Nat.le_of_ble_eq_true h.1, Nat.le_of_ble_eq_true h.2⟩
/-- no step: a reference isn't null -/
theorem j_nn {v : Option Nat} {Y : Nat → Option (Wd × α)} (k : ∀ a, v = some a → Jf C rr (Y a) w pc lv st) : Jf C rr (v.bind Y) w pc lv st := by
  intro res hX
  cases hv : v with
  | none => rw [hv] at hX; cases hX
  | some a => rw [hv] at hX; exact k a hv res hX
/-- no step: an index is within -/
theorem j_ib {i : Int32} {n : Nat} (k : ib i n = true → Jf C rr X w pc lv st) : Jf C rr (if ib i n = true then X else none) w pc lv st := by
  intro res hX
  by_cases h : ib i n = true
  · rw [if_pos h] at hX; exact k h res hX
  · rw [if_neg h] at hX; cases hX
theorem j_rm {sl : Nat} (k : room w sl = true → Jf C rr X w pc lv st) : Jf C rr (if room w sl = true then X else none) w pc lv st := by
  intro res hX
  by_cases h : room w sl = true
  · rw [if_pos h] at hX; exact k h res hX
  · rw [if_neg h] at hX; cases hX
theorem j_dp {n : Nat} (k : n ≤ d → Jf C rr X w pc lv st) : Jf C rr (if n ≤ d then X else none) w pc lv st := by
  intro res hX
  by_cases h : n ≤ d
  · rw [if_pos h] at hX; exact k h res hX
  · rw [if_neg h] at hX; cases hX
theorem j_none : Jf C rr none w pc lv st := fun _ h => by cases h
theorem j_eq {Y : Option (Wd × α)} (e : X = Y) (k : Jf C rr Y w pc lv st) : Jf C rr X w pc lv st := e ▸ k
/-- a boolean is an int -/
theorem j_unZ {x : Int32} (k : Jf C rr X w pc lv (aI x :: st)) : Jf C rr X w pc lv (aZ x :: st) := fun res hX H locs cells slots ls h => k res hX H locs cells slots ls (h.d1.p (okI w x))
theorem j_toZ {x : Int32} (hb : B01 x) (k : Jf C rr X w pc lv (aZ x :: st)) : Jf C rr X w pc lv (aI x :: st) := fun res hX H locs cells slots ls h => k res hX H locs cells slots ls (h.d1.p (okZ w hb))

theorem j_iconst {n : Int} {x : Int32} (K : Cx C cc own d) (hd : decode cc pc = .ok (.iconst n, 1)) (hv : Int32.ofInt n = x) (k : Jf C rr X w (pc + 1) lv (aI x :: st)) : Jf C rr X w pc lv st :=
  fun res hX H locs cells slots ls h => lv_iconst K.ex K.cb hd hv (k res hX H locs cells slots ls (h.p (okI w x)))
theorem j_bipush {n : Int} {x : Int32} (K : Cx C cc own d) (hd : decode cc pc = .ok (.bipush n, 2)) (hv : (Int8.ofInt n).toInt32 = x) (k : Jf C rr X w (pc + 2) lv (aI x :: st)) : Jf C rr X w pc lv st :=
  fun res hX H locs cells slots ls h => lv_bipush K.ex K.cb hd hv (k res hX H locs cells slots ls (h.p (okI w x)))
theorem j_sipush {n : Int} {x : Int32} (K : Cx C cc own d) (hd : decode cc pc = .ok (.sipush n, 3)) (hv : (Int16.ofInt n).toInt32 = x) (k : Jf C rr X w (pc + 3) lv (aI x :: st)) : Jf C rr X w pc lv st :=
  fun res hX H locs cells slots ls h => lv_sipush K.ex K.cb hd hv (k res hX H locs cells slots ls (h.p (okI w x)))
theorem j_iconstZ {n : Int} {x : Int32} (K : Cx C cc own d) (hd : decode cc pc = .ok (.iconst n, 1)) (hv : Int32.ofInt n = x) (hb : B01 x) (k : Jf C rr X w (pc + 1) lv (aZ x :: st)) : Jf C rr X w pc lv st :=
  fun res hX H locs cells slots ls h => lv_iconst K.ex K.cb hd hv (k res hX H locs cells slots ls (h.p (okZ w hb)))
theorem j_lconst {n : Fin 2} {x : Int64} (K : Cx C cc own d) (hd : decode cc pc = .ok (.lconst n, 1)) (hv : Int64.ofNat (n : Nat) = x) (k : Jf C rr X w (pc + 1) lv (aL x :: st)) : Jf C rr X w pc lv st :=
  fun res hX H locs cells slots ls h => lv_lconst K.ex K.cb hd hv (k res hX H locs cells slots ls (h.p trivial))
theorem j_ldc {ix : Nat} {x : Int32} (K : Cx C cc own d) (hd : decode cc pc = .ok (.ldc ix, 2)) (hq : Cond.constant own ix x ∈ lw_all) (k : Jf C rr X w (pc + 2) lv (aI x :: st)) : Jf C rr X w pc lv st :=
  fun res hX H locs cells slots ls h => lv_ldc K.ex K.cb K.ow (K.ts _ hq) hd (k res hX H locs cells slots ls (h.p (okI w x)))
theorem j_ldc_w {ix : Nat} {x : Int32} (K : Cx C cc own d) (hd : decode cc pc = .ok (.ldc_w ix, 3)) (hq : Cond.constant own ix x ∈ lw_all) (k : Jf C rr X w (pc + 3) lv (aI x :: st)) : Jf C rr X w pc lv st :=
  fun res hX H locs cells slots ls h => lv_ldcw K.ex K.cb K.ow (K.ts _ hq) hd (k res hX H locs cells slots ls (h.p (okI w x)))
theorem j_null (t : Nat) (K : Cx C cc own d) (hd : decode cc pc = .ok (.aconst_null, 1)) (k : Jf C rr X w (pc + 1) lv (aR t none :: st)) : Jf C rr X w pc lv st :=
  fun res hX H locs cells slots ls h => lv_null K.ex K.cb hd (k res hX H locs cells slots ls (h.p (fun _ e => by cases e)))
theorem j_iload_n {i : Fin 4} {b : Bool} {x : Int32} (K : Cx C cc own d) (hd : decode cc pc = .ok (.iload_n i, 1)) (hl : lv[(i : Nat)]? = some (some (aB b x))) (k : Jf C rr X w (pc + 1) lv (aB b x :: st)) : Jf C rr X w pc lv st :=
  fun res hX H locs cells slots ls h => lv_iload_n K.ex K.cb hd rfl (h.lo.2.2 _ _ hl).1 (k res hX H locs cells slots ls (h.p (h.lo.2.2 _ _ hl).2))
theorem j_iload {i : Nat} {b : Bool} {x : Int32} (K : Cx C cc own d) (hd : decode cc pc = .ok (.iload i, 2)) (hl : lv[i]? = some (some (aB b x))) (k : Jf C rr X w (pc + 2) lv (aB b x :: st)) : Jf C rr X w pc lv st :=
  fun res hX H locs cells slots ls h => lv_iload K.ex K.cb hd (h.lo.2.2 _ _ hl).1 (k res hX H locs cells slots ls (h.p (h.lo.2.2 _ _ hl).2))
theorem j_lload_n {i : Fin 4} {x : Int64} (K : Cx C cc own d) (hd : decode cc pc = .ok (.lload_n i, 1)) (hl : lv[(i : Nat)]? = some (some (aL x))) (k : Jf C rr X w (pc + 1) lv (aL x :: st)) : Jf C rr X w pc lv st :=
  fun res hX H locs cells slots ls h => lv_lload_n K.ex K.cb hd rfl (h.lo.2.2 _ _ hl).1 (k res hX H locs cells slots ls (h.p (h.lo.2.2 _ _ hl).2))
theorem j_aload_n {i : Fin 4} {t : Nat} {v : Option Nat} (K : Cx C cc own d) (hd : decode cc pc = .ok (.aload_n i, 1)) (hl : lv[(i : Nat)]? = some (some (aR t v))) (k : Jf C rr X w (pc + 1) lv (aR t v :: st)) : Jf C rr X w pc lv st :=
  fun res hX H locs cells slots ls h => by
    have h1 := (h.lo.2.2 _ _ hl).1
    have h2 := k res hX H locs cells slots ls (h.p (h.lo.2.2 _ _ hl).2)
    cases v with
    | none => exact lv_aload_nN K.ex K.cb hd rfl h1 h2
    | some a => exact lv_aload_n K.ex K.cb hd rfl h1 h2
theorem j_aload {i t : Nat} {v : Option Nat} (K : Cx C cc own d) (hd : decode cc pc = .ok (.aload i, 2)) (hl : lv[i]? = some (some (aR t v))) (k : Jf C rr X w (pc + 2) lv (aR t v :: st)) : Jf C rr X w pc lv st :=
  fun res hX H locs cells slots ls h => by
    have h1 := (h.lo.2.2 _ _ hl).1
    have h2 := k res hX H locs cells slots ls (h.p (h.lo.2.2 _ _ hl).2)
    cases v with
    | none => exact lv_aloadN K.ex K.cb hd h1 h2
    | some a => exact lv_aload K.ex K.cb hd h1 h2
theorem IJ.sto {H : Heap} {locs : List Loc} {ls ls' : Array Slot} {i : Nat} {v : AV} (h : IJ C w H locs lv ls (v :: st)) (hn : noL lv i = true)
    (h' : lv_has ls' (cL C) ((i, cv (cG C) v) :: (lvL (cG C) lv).filter (fun q => !(q.1 == i) && !(q.1 + 1 == i && q.2.category == 2)))) : IJ C w H locs (lv.set i (some v)) ls' st :=
  ⟨h.inv, h.fx, h.nx, h.lc, h.lo.set h.hd hn h', h.d1.ok⟩
theorem j_istore_n {i : Fin 4} {b : Bool} {x : Int32} (K : Cx C cc own d) (hd : decode cc pc = .ok (.istore_n i, 1)) (hi : Nat.blt i (cL C) = true) (hn : noL lv i = true) (k : Jf C rr X w (pc + 1) (lv.set i (some (aB b x))) st) : Jf C rr X w pc lv (aB b x :: st) :=
  fun res hX H locs cells slots ls h => lv_istore_n K.ex K.cb hd rfl h.lo.has (Nat.le_of_ble_eq_true hi) rfl (fun ls' h' => k res hX H locs cells slots ls' (h.sto hn h'))
theorem j_istore {i : Nat} {b : Bool} {x : Int32} (K : Cx C cc own d) (hd : decode cc pc = .ok (.istore i, 2)) (hi : Nat.blt i (cL C) = true) (hn : noL lv i = true) (k : Jf C rr X w (pc + 2) (lv.set i (some (aB b x))) st) : Jf C rr X w pc lv (aB b x :: st) :=
  fun res hX H locs cells slots ls h => lv_istore K.ex K.cb hd h.lo.has (Nat.le_of_ble_eq_true hi) rfl (fun ls' h' => k res hX H locs cells slots ls' (h.sto hn h'))
theorem j_astore_n {i : Fin 4} {t : Nat} {v : Option Nat} (K : Cx C cc own d) (hd : decode cc pc = .ok (.astore_n i, 1)) (hi : Nat.blt i (cL C) = true) (hn : noL lv i = true) (k : Jf C rr X w (pc + 1) (lv.set i (some (aR t v))) st) : Jf C rr X w pc lv (aR t v :: st) :=
  fun res hX H locs cells slots ls h => by
    cases v with
    | none => exact lv_astore_nN K.ex K.cb hd rfl h.lo.has (Nat.le_of_ble_eq_true hi) rfl (fun ls' h' => k res hX H locs cells slots ls' (h.sto hn h'))
    | some a => exact lv_astore_n K.ex K.cb hd rfl h.lo.has (Nat.le_of_ble_eq_true hi) rfl (fun ls' h' => k res hX H locs cells slots ls' (h.sto hn h'))
theorem j_astore {i t : Nat} {v : Option Nat} (K : Cx C cc own d) (hd : decode cc pc = .ok (.astore i, 2)) (hi : Nat.blt i (cL C) = true) (hn : noL lv i = true) (k : Jf C rr X w (pc + 2) (lv.set i (some (aR t v))) st) : Jf C rr X w pc lv (aR t v :: st) :=
  fun res hX H locs cells slots ls h => by
    cases v with
    | none => exact lv_astoreN K.ex K.cb hd h.lo.has (Nat.le_of_ble_eq_true hi) rfl (fun ls' h' => k res hX H locs cells slots ls' (h.sto hn h'))
    | some a => exact lv_astore K.ex K.cb hd h.lo.has (Nat.le_of_ble_eq_true hi) rfl (fun ls' h' => k res hX H locs cells slots ls' (h.sto hn h'))
theorem j_iinc {i : Nat} {n : Int} {b : Bool} {x y : Int32} (K : Cx C cc own d) (hd : decode cc pc = .ok (.iinc i n, 3)) (hl : lv[i]? = some (some (aB b x))) (hv : Int32.ofInt n = y) (hi : Nat.blt i (cL C) = true) (hn : noL lv i = true) (k : Jf C rr X w (pc + 3) (lv.set i (some (aI (x + y)))) st) : Jf C rr X w pc lv st :=
  fun res hX H locs cells slots ls h => by
    obtain ⟨q, hq⟩ := List.getElem?_of_mem (lvL_mem.mpr ⟨_, hl, rfl⟩ : (i, Value.int x) ∈ lvL (cG C) lv)
    subst hv
    exact lv_iinc (k := q) K.ex K.cb hd h.lo.has hq rfl (Nat.le_of_ble_eq_true hi) rfl (fun ls' h' => k res hX H locs cells slots ls' ((h.p (okI w (x + Int32.ofInt n))).sto hn h'))
theorem j_iadd {b b' : Bool} {x y : Int32} (K : Cx C cc own d) (hd : decode cc pc = .ok (.iadd, 1)) (k : Jf C rr X w (pc + 1) lv (aI (x + y) :: st)) : Jf C rr X w pc lv (aB b y :: aB b' x :: st) :=
  fun res hX H locs cells slots ls h => lv_iadd K.ex K.cb hd (k res hX H locs cells slots ls (h.d2.p (okI w _)))
theorem j_isub {b b' : Bool} {x y : Int32} (K : Cx C cc own d) (hd : decode cc pc = .ok (.isub, 1)) (k : Jf C rr X w (pc + 1) lv (aI (x - y) :: st)) : Jf C rr X w pc lv (aB b y :: aB b' x :: st) :=
  fun res hX H locs cells slots ls h => lv_isub K.ex K.cb hd (k res hX H locs cells slots ls (h.d2.p (okI w _)))
theorem j_imul {b b' : Bool} {x y : Int32} (K : Cx C cc own d) (hd : decode cc pc = .ok (.imul, 1)) (k : Jf C rr X w (pc + 1) lv (aI (x * y) :: st)) : Jf C rr X w pc lv (aB b y :: aB b' x :: st) :=
  fun res hX H locs cells slots ls h => lv_imul K.ex K.cb hd (k res hX H locs cells slots ls (h.d2.p (okI w _)))
theorem j_iand {b b' : Bool} {x y : Int32} (K : Cx C cc own d) (hd : decode cc pc = .ok (.iand, 1)) (k : Jf C rr X w (pc + 1) lv (aI (x &&& y) :: st)) : Jf C rr X w pc lv (aB b y :: aB b' x :: st) :=
  fun res hX H locs cells slots ls h => lv_iand K.ex K.cb hd (k res hX H locs cells slots ls (h.d2.p (okI w _)))
theorem j_ixor {b b' : Bool} {x y : Int32} (K : Cx C cc own d) (hd : decode cc pc = .ok (.ixor, 1)) (k : Jf C rr X w (pc + 1) lv (aI (x ^^^ y) :: st)) : Jf C rr X w pc lv (aB b y :: aB b' x :: st) :=
  fun res hX H locs cells slots ls h => lv_ixor K.ex K.cb hd (k res hX H locs cells slots ls (h.d2.p (okI w _)))
theorem j_ishl {b b' : Bool} {x y : Int32} (K : Cx C cc own d) (hd : decode cc pc = .ok (.ishl, 1)) (k : Jf C rr X w (pc + 1) lv (aI (x <<< (y &&& 31)) :: st)) : Jf C rr X w pc lv (aB b y :: aB b' x :: st) :=
  fun res hX H locs cells slots ls h => lv_ishl K.ex K.cb hd (k res hX H locs cells slots ls (h.d2.p (okI w _)))
theorem j_ishr {b b' : Bool} {x y : Int32} (K : Cx C cc own d) (hd : decode cc pc = .ok (.ishr, 1)) (k : Jf C rr X w (pc + 1) lv (aI (x >>> (y &&& 31)) :: st)) : Jf C rr X w pc lv (aB b y :: aB b' x :: st) :=
  fun res hX H locs cells slots ls h => lv_ishr K.ex K.cb hd (k res hX H locs cells slots ls (h.d2.p (okI w _)))
def ush (x y : Int32) : Int32 := (x.toUInt32 >>> (y.toUInt32 &&& Int32.toUInt32 31)).toInt32
theorem j_iushr {b b' : Bool} {x y : Int32} (K : Cx C cc own d) (hd : decode cc pc = .ok (.iushr, 1)) (k : Jf C rr X w (pc + 1) lv (aI (ush x y) :: st)) : Jf C rr X w pc lv (aB b y :: aB b' x :: st) :=
  fun res hX H locs cells slots ls h => lv_iushr K.ex K.cb hd rfl (k res hX H locs cells slots ls (h.d2.p (okI w _)))
theorem j_idiv {b b' : Bool} {x y : Int32} (K : Cx C cc own d) (hd : decode cc pc = .ok (.idiv, 1)) (hne : ¬ y = 0) (k : Jf C rr X w (pc + 1) lv (aI (x / y) :: st)) : Jf C rr X w pc lv (aB b y :: aB b' x :: st) :=
  fun res hX H locs cells slots ls h => lv_idiv K.ex K.cb hd hne (k res hX H locs cells slots ls (h.d2.p (okI w _)))
theorem j_irem {b b' : Bool} {x y : Int32} (K : Cx C cc own d) (hd : decode cc pc = .ok (.irem, 1)) (hne : ¬ y = 0) (k : Jf C rr X w (pc + 1) lv (aI (x - x / y * y) :: st)) : Jf C rr X w pc lv (aB b y :: aB b' x :: st) :=
  fun res hX H locs cells slots ls h => lv_irem K.ex K.cb hd hne (k res hX H locs cells slots ls (h.d2.p (okI w _)))
theorem j_ineg {b : Bool} {x : Int32} (K : Cx C cc own d) (hd : decode cc pc = .ok (.ineg, 1)) (k : Jf C rr X w (pc + 1) lv (aI (-x) :: st)) : Jf C rr X w pc lv (aB b x :: st) :=
  fun res hX H locs cells slots ls h => lv_ineg K.ex K.cb hd (k res hX H locs cells slots ls (h.d1.p (okI w _)))
theorem j_i2l {b : Bool} {x : Int32} (K : Cx C cc own d) (hd : decode cc pc = .ok (.i2l, 1)) (k : Jf C rr X w (pc + 1) lv (aL x.toInt64 :: st)) : Jf C rr X w pc lv (aB b x :: st) :=
  fun res hX H locs cells slots ls h => lv_i2l K.ex K.cb hd rfl (k res hX H locs cells slots ls (h.d1.p trivial))
theorem j_i2b {b : Bool} {x : Int32} (K : Cx C cc own d) (hd : decode cc pc = .ok (.i2b, 1)) (k : Jf C rr X w (pc + 1) lv (aI x.toInt8.toInt32 :: st)) : Jf C rr X w pc lv (aB b x :: st) :=
  fun res hX H locs cells slots ls h => lv_i2b K.ex K.cb hd rfl (k res hX H locs cells slots ls (h.d1.p (okI w _)))
theorem j_ladd {x y : Int64} (K : Cx C cc own d) (hd : decode cc pc = .ok (.ladd, 1)) (k : Jf C rr X w (pc + 1) lv (aL (x + y) :: st)) : Jf C rr X w pc lv (aL y :: aL x :: st) :=
  fun res hX H locs cells slots ls h => lv_ladd K.ex K.cb hd (k res hX H locs cells slots ls (h.d2.p trivial))
theorem j_lcmp {x y : Int64} (K : Cx C cc own d) (hd : decode cc pc = .ok (.lcmp, 1)) (k : Jf C rr X w (pc + 1) lv (aI (lg_cmp x y) :: st)) : Jf C rr X w pc lv (aL y :: aL x :: st) :=
  fun res hX H locs cells slots ls h => W.lcmp K.ex K.cb hd (k res hX H locs cells slots ls (h.d2.p (okI w _)))
def catA (v : AV) : Nat := match v with
  | .inr (.inl _) => 2
  | _ => 1
theorem catA_cv (G : Gx) (v : AV) : (cv G v).category = catA v := by
  match v with
  | .inl q => rfl
  | .inr (.inl x) => rfl
  | .inr (.inr (t, none)) => rfl
  | .inr (.inr (t, some a)) => rfl
def stW : List AV → Nat
  | [] => 0
  | v :: l => catA v + stW l
theorem stW_sum (G : Gx) : ∀ (l : List AV), ((l.map (cv G)).map fun v => v.category).sum = stW l
  | [] => rfl
  | v :: l => by
    rw [List.map_cons, List.map_cons, List.sum_cons, stW_sum G l, catA_cv]
    rfl
theorem j_dup {v : AV} (K : Cx C cc own d) (hd : decode cc pc = .ok (.dup, 1)) (hc : catA v = 1) (k : Jf C rr X w (pc + 1) lv (v :: v :: st)) : Jf C rr X w pc lv (v :: st) :=
  fun res hX H locs cells slots ls h => lv_dup K.ex K.cb hd ((catA_cv _ _).trans hc) (k res hX H locs cells slots ls (h.p h.hd))
theorem j_pop {v : AV} (K : Cx C cc own d) (hd : decode cc pc = .ok (.pop, 1)) (hc : catA v = 1) (k : Jf C rr X w (pc + 1) lv st) : Jf C rr X w pc lv (v :: st) :=
  fun res hX H locs cells slots ls h => lv_pop K.ex K.cb hd ((catA_cv _ _).trans hc) (k res hX H locs cells slots ls h.d1)
theorem j_dup2 {v u : AV} (K : Cx C cc own d) (hd : decode cc pc = .ok (.dup2, 1)) (hc : catA v = 1) (hc2 : catA u = 1) (k : Jf C rr X w (pc + 1) lv (v :: u :: v :: u :: st)) : Jf C rr X w pc lv (v :: u :: st) :=
  fun res hX H locs cells slots ls h => lv_dup2_11 K.ex K.cb hd ((catA_cv _ _).trans hc) ((catA_cv _ _).trans hc2) (k res hX H locs cells slots ls ((h.p h.d1.hd).p h.hd))
theorem j_goto {off : Int} (tgt : Nat) (K : Cx C cc own d) (hd : decode cc pc = .ok (.goto off, 3)) (ht : (pc : Int) + off = (tgt : Int)) (k : Jf C rr X w tgt lv st) : Jf C rr X w pc lv st :=
  fun res hX H locs cells slots ls h => lv_goto K.ex K.cb hd ht (k res hX H locs cells slots ls h)
/-- no step: a case of a switch -/
theorem j_ite {x c : Int32} (kt : x = c → Jf C rr A w pc lv st) (kf : x ≠ c → Jf C rr B w pc lv st) : Jf C rr (if x = c then A else B) w pc lv st := by
  intro res hX
  by_cases h : x = c
  · rw [if_pos h] at hX; exact kt h res hX
  · rw [if_neg h] at hX; exact kf h res hX
theorem ne_toInt {x c : Int32} (h : x ≠ c) : x.toInt ≠ c.toInt := fun e => h (Int32.toInt_inj.mp e)
theorem j_look {b : Bool} {x : Int32} {dflt : Int} {ps : Array (Int × Int)} {len : Nat} {off : Int} (tgt : Nat) (K : Cx C cc own d) (hd : decode cc pc = .ok (.lookupswitch dflt ps, len)) (hp : (ps.toList.zip (ps.toList.drop 1)).all (fun (a, next) => a.1 < next.1) = true) (ho : Op.lookupswitch.offset ps.toList dflt x.toInt = off) (ht : (pc : Int) + off = (tgt : Int)) (k : Jf C rr X w tgt lv st) : Jf C rr X w pc lv (aB b x :: st) :=
  fun res hX H locs cells slots ls h => lv_lookup K.ex K.cb hd hp ho ht (k res hX H locs cells slots ls h.d1)
theorem j_tabO {b : Bool} {x : Int32} {dflt lo hi : Int} {offs : Array Int} {len : Nat} (tgt : Nat) (K : Cx C cc own d) (hd : decode cc pc = .ok (.tableswitch dflt lo hi offs, len)) (ho : x.toInt < lo ∨ hi < x.toInt) (ht : (pc : Int) + dflt = (tgt : Int)) (k : Jf C rr X w tgt lv st) : Jf C rr X w pc lv (aB b x :: st) :=
  fun res hX H locs cells slots ls h => lv_tableOut K.ex K.cb hd ho ht (k res hX H locs cells slots ls h.d1)
theorem j_tabI {b : Bool} {x : Int32} {dflt lo hi : Int} {offs : Array Int} {len : Nat} {off : Int} (tgt : Nat) (c : Int) (K : Cx C cc own d) (hd : decode cc pc = .ok (.tableswitch dflt lo hi offs, len)) (hx : x.toInt = c) (h1 : ¬ c < lo) (h2 : ¬ hi < c) (ho : offs[(c - lo).toNat]? = some off) (ht : (pc : Int) + off = (tgt : Int)) (k : Jf C rr X w tgt lv st) : Jf C rr X w pc lv (aB b x :: st) :=
  fun res hX H locs cells slots ls h => lv_tableIn K.ex K.cb hd (by rw [hx]; exact h1) (by rw [hx]; exact h2) (by rw [hx]; exact ho) ht (k res hX H locs cells slots ls h.d1)
theorem j_if_eq {b : Bool} {x : Int32} {off : Int} (tgt : Nat) (K : Cx C cc own d) (hd : decode cc pc = .ok (.ifCond .eq off, 3)) (ht : (pc : Int) + off = (tgt : Int)) (kt : Jf C rr A w tgt lv st) (kf : Jf C rr B w (pc + 3) lv st) : Jf C rr (if x = 0 then A else B) w pc lv (aB b x :: st) :=
  fun res hX H locs cells slots ls h => lv_if_eq K.ex K.cb hd ht (fun e => kt res (by rw [if_pos e] at hX; exact hX) H locs cells slots ls h.d1) (fun e => kf res (by rw [if_neg e] at hX; exact hX) H locs cells slots ls h.d1)
theorem j_if_ne {b : Bool} {x : Int32} {off : Int} (tgt : Nat) (K : Cx C cc own d) (hd : decode cc pc = .ok (.ifCond .ne off, 3)) (ht : (pc : Int) + off = (tgt : Int)) (kt : Jf C rr B w tgt lv st) (kf : Jf C rr A w (pc + 3) lv st) : Jf C rr (if x = 0 then A else B) w pc lv (aB b x :: st) :=
  fun res hX H locs cells slots ls h => lv_if_ne K.ex K.cb hd ht (fun e => kt res (by rw [if_neg e] at hX; exact hX) H locs cells slots ls h.d1) (fun e => kf res (by rw [if_pos e] at hX; exact hX) H locs cells slots ls h.d1)
theorem j_if_lt {b : Bool} {x : Int32} {off : Int} (tgt : Nat) (K : Cx C cc own d) (hd : decode cc pc = .ok (.ifCond .lt off, 3)) (ht : (pc : Int) + off = (tgt : Int)) (kt : Jf C rr A w tgt lv st) (kf : Jf C rr B w (pc + 3) lv st) : Jf C rr (if x < 0 then A else B) w pc lv (aB b x :: st) :=
  fun res hX H locs cells slots ls h => lv_if_lt K.ex K.cb hd ht (fun e => kt res (by rw [if_pos e] at hX; exact hX) H locs cells slots ls h.d1) (fun e => kf res (by rw [if_neg e] at hX; exact hX) H locs cells slots ls h.d1)
theorem j_if_ge {b : Bool} {x : Int32} {off : Int} (tgt : Nat) (K : Cx C cc own d) (hd : decode cc pc = .ok (.ifCond .ge off, 3)) (ht : (pc : Int) + off = (tgt : Int)) (kt : Jf C rr A w tgt lv st) (kf : Jf C rr B w (pc + 3) lv st) : Jf C rr (if 0 ≤ x then A else B) w pc lv (aB b x :: st) :=
  fun res hX H locs cells slots ls h => lv_if_ge K.ex K.cb hd ht (fun e => kt res (by rw [if_pos e] at hX; exact hX) H locs cells slots ls h.d1) (fun e => kf res (by rw [if_neg e] at hX; exact hX) H locs cells slots ls h.d1)
theorem j_if_gt {b : Bool} {x : Int32} {off : Int} (tgt : Nat) (K : Cx C cc own d) (hd : decode cc pc = .ok (.ifCond .gt off, 3)) (ht : (pc : Int) + off = (tgt : Int)) (kt : Jf C rr A w tgt lv st) (kf : Jf C rr B w (pc + 3) lv st) : Jf C rr (if 0 < x then A else B) w pc lv (aB b x :: st) :=
  fun res hX H locs cells slots ls h => lv_if_gt K.ex K.cb hd ht (fun e => kt res (by rw [if_pos e] at hX; exact hX) H locs cells slots ls h.d1) (fun e => kf res (by rw [if_neg e] at hX; exact hX) H locs cells slots ls h.d1)
theorem j_if_le {b : Bool} {x : Int32} {off : Int} (tgt : Nat) (K : Cx C cc own d) (hd : decode cc pc = .ok (.ifCond .le off, 3)) (ht : (pc : Int) + off = (tgt : Int)) (kt : Jf C rr A w tgt lv st) (kf : Jf C rr B w (pc + 3) lv st) : Jf C rr (if x ≤ 0 then A else B) w pc lv (aB b x :: st) :=
  fun res hX H locs cells slots ls h => lv_if_le K.ex K.cb hd ht (fun e => kt res (by rw [if_pos e] at hX; exact hX) H locs cells slots ls h.d1) (fun e => kf res (by rw [if_neg e] at hX; exact hX) H locs cells slots ls h.d1)
theorem j_icmp_eq {b b' : Bool} {x y : Int32} {off : Int} (tgt : Nat) (K : Cx C cc own d) (hd : decode cc pc = .ok (.if_icmp .eq off, 3)) (ht : (pc : Int) + off = (tgt : Int)) (kt : Jf C rr A w tgt lv st) (kf : Jf C rr B w (pc + 3) lv st) : Jf C rr (if x = y then A else B) w pc lv (aB b y :: aB b' x :: st) :=
  fun res hX H locs cells slots ls h => lv_icmp_eq K.ex K.cb hd ht (fun e => kt res (by rw [if_pos e] at hX; exact hX) H locs cells slots ls h.d2) (fun e => kf res (by rw [if_neg e] at hX; exact hX) H locs cells slots ls h.d2)
theorem j_icmp_ne {b b' : Bool} {x y : Int32} {off : Int} (tgt : Nat) (K : Cx C cc own d) (hd : decode cc pc = .ok (.if_icmp .ne off, 3)) (ht : (pc : Int) + off = (tgt : Int)) (kt : Jf C rr B w tgt lv st) (kf : Jf C rr A w (pc + 3) lv st) : Jf C rr (if x = y then A else B) w pc lv (aB b y :: aB b' x :: st) :=
  fun res hX H locs cells slots ls h => lv_icmp_ne K.ex K.cb hd ht (fun e => kt res (by rw [if_neg e] at hX; exact hX) H locs cells slots ls h.d2) (fun e => kf res (by rw [if_pos e] at hX; exact hX) H locs cells slots ls h.d2)
theorem j_icmp_lt {b b' : Bool} {x y : Int32} {off : Int} (tgt : Nat) (K : Cx C cc own d) (hd : decode cc pc = .ok (.if_icmp .lt off, 3)) (ht : (pc : Int) + off = (tgt : Int)) (kt : Jf C rr A w tgt lv st) (kf : Jf C rr B w (pc + 3) lv st) : Jf C rr (if x < y then A else B) w pc lv (aB b y :: aB b' x :: st) :=
  fun res hX H locs cells slots ls h => lv_icmp_lt K.ex K.cb hd ht (fun e => kt res (by rw [if_pos e] at hX; exact hX) H locs cells slots ls h.d2) (fun e => kf res (by rw [if_neg e] at hX; exact hX) H locs cells slots ls h.d2)
theorem j_icmp_ge {b b' : Bool} {x y : Int32} {off : Int} (tgt : Nat) (K : Cx C cc own d) (hd : decode cc pc = .ok (.if_icmp .ge off, 3)) (ht : (pc : Int) + off = (tgt : Int)) (kt : Jf C rr A w tgt lv st) (kf : Jf C rr B w (pc + 3) lv st) : Jf C rr (if y ≤ x then A else B) w pc lv (aB b y :: aB b' x :: st) :=
  fun res hX H locs cells slots ls h => lv_icmp_ge K.ex K.cb hd ht (fun e => kt res (by rw [if_pos e] at hX; exact hX) H locs cells slots ls h.d2) (fun e => kf res (by rw [if_neg e] at hX; exact hX) H locs cells slots ls h.d2)
theorem j_icmp_gt {b b' : Bool} {x y : Int32} {off : Int} (tgt : Nat) (K : Cx C cc own d) (hd : decode cc pc = .ok (.if_icmp .gt off, 3)) (ht : (pc : Int) + off = (tgt : Int)) (kt : Jf C rr A w tgt lv st) (kf : Jf C rr B w (pc + 3) lv st) : Jf C rr (if y < x then A else B) w pc lv (aB b y :: aB b' x :: st) :=
  fun res hX H locs cells slots ls h => lv_icmp_gt K.ex K.cb hd ht (fun e => kt res (by rw [if_pos e] at hX; exact hX) H locs cells slots ls h.d2) (fun e => kf res (by rw [if_neg e] at hX; exact hX) H locs cells slots ls h.d2)
theorem j_icmp_le {b b' : Bool} {x y : Int32} {off : Int} (tgt : Nat) (K : Cx C cc own d) (hd : decode cc pc = .ok (.if_icmp .le off, 3)) (ht : (pc : Int) + off = (tgt : Int)) (kt : Jf C rr A w tgt lv st) (kf : Jf C rr B w (pc + 3) lv st) : Jf C rr (if x ≤ y then A else B) w pc lv (aB b y :: aB b' x :: st) :=
  fun res hX H locs cells slots ls h => lv_icmp_le K.ex K.cb hd ht (fun e => kt res (by rw [if_pos e] at hX; exact hX) H locs cells slots ls h.d2) (fun e => kf res (by rw [if_neg e] at hX; exact hX) H locs cells slots ls h.d2)
theorem j_ifnull {t : Nat} {v : Option Nat} {Y : Nat → Option (Wd × α)} {off : Int} (tgt : Nat) (K : Cx C cc own d) (hd : decode cc pc = .ok (.ifnull off, 3)) (ht : (pc : Int) + off = (tgt : Int)) (kt : v = none → Jf C rr A w tgt lv st) (kf : ∀ a, v = some a → Jf C rr (Y a) w (pc + 3) lv st) : Jf C rr (v.elim A Y) w pc lv (aR t v :: st) :=
  fun res hX H locs cells slots ls h => by
    cases hv : v with
    | none => rw [hv] at hX h; exact lv_ifnullN K.ex K.cb hd ht (kt hv res hX H locs cells slots ls h.d1)
    | some a => rw [hv] at hX h; exact lv_ifnull K.ex K.cb hd (kf a hv res hX H locs cells slots ls h.d1)
theorem j_ifnonnull {t : Nat} {v : Option Nat} {Y : Nat → Option (Wd × α)} {off : Int} (tgt : Nat) (K : Cx C cc own d) (hd : decode cc pc = .ok (.ifnonnull off, 3)) (ht : (pc : Int) + off = (tgt : Int)) (kt : ∀ a, v = some a → Jf C rr (Y a) w tgt lv st) (kf : v = none → Jf C rr A w (pc + 3) lv st) : Jf C rr (v.elim A Y) w pc lv (aR t v :: st) :=
  fun res hX H locs cells slots ls h => by
    cases hv : v with
    | none => rw [hv] at hX h; exact lv_ifnonnullN K.ex K.cb hd (kf hv res hX H locs cells slots ls h.d1)
    | some a => rw [hv] at hX h; exact lv_ifnonnull K.ex K.cb hd ht (kt a hv res hX H locs cells slots ls h.d1)
theorem j_ifnullK {t a : Nat} {v : Option Nat} {off : Int} (K : Cx C cc own d) (hd : decode cc pc = .ok (.ifnull off, 3)) (ha : v = some a) (k : Jf C rr X w (pc + 3) lv st) : Jf C rr X w pc lv (aR t v :: st) :=
  fun res hX H locs cells slots ls h => by
    subst ha
    exact lv_ifnull K.ex K.cb hd (k res hX H locs cells slots ls h.d1)
theorem j_ifnonnullK {t a : Nat} {v : Option Nat} {off : Int} (tgt : Nat) (K : Cx C cc own d) (hd : decode cc pc = .ok (.ifnonnull off, 3)) (ht : (pc : Int) + off = (tgt : Int)) (ha : v = some a) (k : Jf C rr X w tgt lv st) : Jf C rr X w pc lv (aR t v :: st) :=
  fun res hX H locs cells slots ls h => by
    subst ha
    exact lv_ifnonnull K.ex K.cb hd ht (k res hX H locs cells slots ls h.d1)
/-- indices of cells that the law made, apart: their references too -/
theorem rf_inj {G : Gx} (hG : GW G) {u v : Option Nat} (hu : ∀ a, u = some a → 8 ≤ a) (hv : ∀ a, v = some a → 8 ≤ a) : u.map (xA G) = v.map (xA G) ↔ u = v := by
  constructor
  · intro e
    cases u with
    | none =>
      cases v with
      | none => rfl
      | some b => cases e
    | some a =>
      cases v with
      | none => cases e
      | some b => exact congrArg some (hG.inj (hv b rfl) (Option.some.inj e))
  · intro e
    rw [e]
theorem blt2 {a t b : Nat} (h : (Nat.blt a t && Nat.blt t b) = true) : a < t ∧ t < b := by
  rw [Bool.and_eq_true] at h
  exact ⟨Nat.le_of_ble_eq_true h.1, Nat.le_of_ble_eq_true h.2⟩
/-- no cell of the base is an object of the program's own classes -/
theorem IJ.n4 {H : Heap} {locs : List Loc} {ls : Array Slot} (h : IJ C w H locs lv ls st) {t : Nat} (ht : (Nat.blt 0 t && Nat.blt t 10) = true) {v : Option Nat} (hv : Ty w t v) : ∀ a, v = some a → 8 ≤ a := fun a e => by
  have h9 := blt2 ht
  obtain ⟨h1, h2⟩ := hv a e
  have h3 : gK w a = t := by
    unfold okT at h2
    rw [if_pos (by omega)] at h2
    simpa using h2
  rcases Nat.lt_or_ge a 8 with h4 | h4
  · have h5 := h.inv.2.2.2.2.2.2.2.2 a h4 h1
    omega
  · exact h4
theorem j_acmp_eq {t : Nat} {u v : Option Nat} {off : Int} (tgt : Nat) (K : Cx C cc own d) (hd : decode cc pc = .ok (.if_acmp .eq off, 3)) (ht : (pc : Int) + off = (tgt : Int)) (h4 : (Nat.blt 0 t && Nat.blt t 10) = true) (kt : Jf C rr A w tgt lv st) (kf : Jf C rr B w (pc + 3) lv st) : Jf C rr (if u = v then A else B) w pc lv (aR t v :: aR t u :: st) :=
  fun res hX H locs cells slots ls h => by
    have e := rf_inj K.gw (h.n4 h4 h.d1.hd) (h.n4 h4 h.hd)
    exact lv_acmp_eq K.ex K.cb hd ht (fun q => kt res (by rw [if_pos (e.mp q)] at hX; exact hX) H locs cells slots ls h.d2) (fun q => kf res (by rw [if_neg (fun z => q (e.mpr z))] at hX; exact hX) H locs cells slots ls h.d2)
theorem j_acmp_ne {t : Nat} {u v : Option Nat} {off : Int} (tgt : Nat) (K : Cx C cc own d) (hd : decode cc pc = .ok (.if_acmp .ne off, 3)) (ht : (pc : Int) + off = (tgt : Int)) (h4 : (Nat.blt 0 t && Nat.blt t 10) = true) (kt : Jf C rr B w tgt lv st) (kf : Jf C rr A w (pc + 3) lv st) : Jf C rr (if u = v then A else B) w pc lv (aR t v :: aR t u :: st) :=
  fun res hX H locs cells slots ls h => by
    have e := rf_inj K.gw (h.n4 h4 h.d1.hd) (h.n4 h4 h.hd)
    exact lv_acmp_ne K.ex K.cb hd ht (fun q => kt res (by rw [if_neg (fun z => q (e.mpr z))] at hX; exact hX) H locs cells slots ls h.d2) (fun q => kf res (by rw [if_pos (e.mp q)] at hX; exact hX) H locs cells slots ls h.d2)
end JRows
