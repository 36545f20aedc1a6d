set_option maxRecDepth 100000
def mmax (x y : Int32) : Int32 := if x < y then y else x
def mmin (x y : Int32) : Int32 := if y < x then y else x
/-- fewer locals are told: entries of the first are none, or those of the second -/
def lvLe : Lv → Lv → Prop
  | [], _ => True
  | none :: a, _ :: b => lvLe a b
  | some v :: a, x :: b => x = some v ∧ lvLe a b
  | _ :: _, [] => False
theorem lvLe_spec : ∀ (a b : Lv), lvLe a b → ∀ (i : Nat) (v : AV), a[i]? = some (some v) → b[i]? = some (some v)
  | [], _, _, i, v, h => by simp at h
  | none :: a, x :: b, h, 0, v, e => by simp at e
  | none :: a, x :: b, h, i + 1, v, e => by
    rw [List.getElem?_cons_succ] at e ⊢
    exact lvLe_spec a b h i v e
  | some u :: a, x :: b, h, 0, v, e => by
    rw [List.getElem?_cons_zero] at e ⊢
    cases e
    rw [h.1]
  | some u :: a, x :: b, h, i + 1, v, e => by
    rw [List.getElem?_cons_succ] at e ⊢
    exact lvLe_spec a b h.2 i v e
  | none :: a, [], h, _, _, _ => h.elim
  | some u :: a, [], h, _, _, _ => h.elim
section JMath
variable {α : Type} {C : Cw} {rr : α → Wd → Outcome → Prop} {X : Option (Wd × α)} {cc : ByteArray} {own : String} {d : Nat} {w : Wd} {pc : Nat} {lv lv' : Lv} {st : List AV}
theorem j_wk (k : Jf C rr X w pc lv' st) (h : lvLe lv' lv) : Jf C rr X w pc lv st :=
  fun res hX H locs cells slots ls i => k res hX H locs cells slots ls ⟨i.inv, i.fx, i.nx, i.lc, ⟨i.lo.1, i.lo.2.1, fun j v e => i.lo.2.2 j v (lvLe_spec _ _ h j v e)⟩, i.ok⟩
theorem j_mmax {b b' : Bool} {x y : Int32} {ix : Nat} (K : Cx C cc own (d + 1)) (hd : decode cc pc = .ok (.invokestatic ix, 3)) (hq : Cond.methodLink own ix Lib.Math.max.name ∈ lw_all) (hw : Nat.ble (stW st) 8 = true) (k : Jf C rr X w (pc + 3) lv (aI (mmax x y) :: st)) : Jf C rr X w pc lv (aB b y :: aB b' x :: st) :=
  fun res hX H locs cells slots ls h => by
    refine W.shrink (xB (cG C)) K.b0 (fun h7 h8 => ?_)
    obtain ⟨r1, r2⟩ := h.room K h7 h8 (a := 0) (b := 0) h.cl h.sl
    have h1 := K.fr
    have h2 := K.lo
    have h3 := Nat.le_of_ble_eq_true hw
    exact va_mmax K.ex K.cb (K.ml.trans h.lo.1.symm) K.ow (K.ts _ hq) (K.ts _ q341) (K.ts _ q101) (K.ts _ q342) (by omega) (by rw [stW_sum]; omega) r1 r2 hd (k res hX H locs _ _ ls (h.d2.p (okI w _)))
theorem j_mmin {b b' : Bool} {x y : Int32} {ix : Nat} (K : Cx C cc own (d + 1)) (hd : decode cc pc = .ok (.invokestatic ix, 3)) (hq : Cond.methodLink own ix Lib.Math.min.name ∈ lw_all) (hw : Nat.ble (stW st) 8 = true) (k : Jf C rr X w (pc + 3) lv (aI (mmin x y) :: st)) : Jf C rr X w pc lv (aB b y :: aB b' x :: st) :=
  fun res hX H locs cells slots ls h => by
    refine W.shrink (xB (cG C)) K.b0 (fun h7 h8 => ?_)
    obtain ⟨r1, r2⟩ := h.room K h7 h8 (a := 0) (b := 0) h.cl h.sl
    have h1 := K.fr
    have h2 := K.lo
    have h3 := Nat.le_of_ble_eq_true hw
    exact va_mmin K.ex K.cb (K.ml.trans h.lo.1.symm) K.ow (K.ts _ hq) (K.ts _ q888) (K.ts _ q101) (K.ts _ q889) (by omega) (by rw [stW_sum]; omega) r1 r2 hd (k res hX H locs _ _ ls (h.d2.p (okI w _)))
end JMath
