set_option maxRecDepth 100000
/-! ===== objects and arrays are made ===== -/
/-- what a new cell of kind kd holds at place k -/
def dfl (kd k : Nat) : Value := if rt kd k = 99 then (if kd = 13 then .long 0 else .int 0) else .null
theorem vS_dfl (G : Gx) (kd k : Nat) : vS G kd k 0 none 0 = dfl kd k := by
  unfold vS dfl rf
  rfl
theorem dfl_1 : ∀ k, k < 34 → defaultValue (tyX1 k) = dfl 1 k := by decide +kernel
theorem dfl_2 : ∀ k, k < 6 → defaultValue (tyX2 k) = dfl 2 k := by decide +kernel
theorem dfl_3 : ∀ k, k < 52 → defaultValue (tyX3 k) = dfl 3 k := by decide +kernel
theorem dfl_4 : ∀ k, k < 15 → defaultValue (tyX4 k) = dfl 4 k := by decide +kernel
theorem dfl_5 : ∀ k, k < 3 → defaultValue (tyX5 k) = dfl 5 k := by decide +kernel
theorem dfl_ok {kd k : Nat} {Cn : String} {T : u_T} {N : Nat} (hc : clz kd = some (Cn, T, N)) (h6 : kd ≠ 6) (hk : k < N) : defaultValue (tyz kd k) = dfl kd k := by
  unfold clz at hc
  split at hc <;> cases hc
  · exact dfl_1 k hk
  · exact dfl_2 k hk
  · exact dfl_3 k hk
  · exact dfl_4 k hk
  · exact dfl_5 k hk
  · exact absurd rfl h6
section JNew
variable {α β : Type} {C : Cw} {rr : α → Wd → Outcome → Prop} {X : Option (Wd × α)} {cc : ByteArray} {own : String} {d : Nat} {w : Wd} {pc : Nat} {lv : Lv} {st st0 : List AV}
theorem new_ok {H : Heap} {locs : List Loc} {ls : Array Slot} {c : Cell} {kd ln sl : Nat} (K : Cx C cc own d) (h : IJ C w H locs lv ls st) (hk : COk (cG C) kd ln (fun _ => 0) (fun _ => none) (fun _ => 0) (some c)) (hs : c.slots.size ≤ sl) (h50 : kd < 50) (hrm : room w sl = true) : IJ C (nw w kd ln sl) (H.push c) locs lv ls (aR kd (some (gN w)) :: st) ∧ cv (cG C) (aR kd (some (gN w))) = .ref H.size := by
  have hrm' := room_spec hrm
  obtain ⟨hinv, hix⟩ := h.inv.new K.gw hk hs hrm'.1 hrm'.2
  have hnx : Nx w (nw w kd ln sl) := nx_nw (Nx.rf w) kd ln sl
  have hty : Ty (nw w kd ln sl) kd (some (gN w)) := fun b e => by
    cases e
    refine ⟨Nat.lt_succ_self _, ?_⟩
    rw [gK_nw, if_pos rfl]
    unfold okT
    rw [if_pos h50]
    simp
  refine ⟨⟨hinv, fun e => fx_nw (h.fx e) kd ln sl, h.nx.tr hnx, h.lc, h.lo.nx hnx, okc hty (fun u hu => (h.ok u hu).nx hnx)⟩, ?_⟩
  show va_rf (some (xA (cG C) (gN w))) = _
  rw [hix]
  rfl
theorem room_ok {H : Heap} {locs : List Loc} {ls : Array Slot} {sl : Nat} (K : Cx C cc own d) (h : IJ C w H locs lv ls st) (hrm : room w sl = true) (h7 : SlotSum (mS (cM C)).heap.size H + SlotSum (xB (cG C)) (mS (cM C)).heap = SlotSum (xB (cG C)) H) (h8 : (mS (cM C)).heap.size ≤ H.size) : H.size - (mS (cM C)).heap.size + 1 ≤ (mR (cM C)).cells ∧ SlotSum (mS (cM C)).heap.size H + sl ≤ (mR (cM C)).slots := by
  have hrm' := room_spec hrm
  exact h.room K h7 h8 hrm'.1 (Nat.le_trans (Nat.add_le_add_right h.inv.2.2.2.2.2.1 sl) hrm'.2)
theorem j_new {kd ik n : Nat} {Cn : String} {T : u_T} {N : Nat} (K : Cx C cc own d) (hd : decode cc pc = .ok (.new ik, 3)) (hc : clz kd = some (Cn, T, N)) (ht : (Nat.blt 0 kd && Nat.blt kd 6) = true) (q1 : Cond.classLink own ik Cn ∈ lw_all) (q2 : Cond.instantiable Cn n ∈ lw_all) (q3 : Cond.initialized Cn ∈ lw_all) (hrm : room w n = true)
    (kk : Jf C rr X (nw w kd 0 n) (pc + 3) lv (aR kd (some (gN w)) :: st)) : Jf C rr X w pc lv st :=
  fun res hX H locs cells slots ls h => by
    have t9 := blt2 ht
    refine W.shrink (xB (cG C)) K.b0 (fun h7 h8 => ?_)
    obtain ⟨r1, r2⟩ := room_ok K h hrm h7 h8
    refine W.newc K.ex K.cb K.ow (K.ts _ q1) (K.ts _ q2) (K.ts _ q3) rfl hd r1 r2 (fun cC kC g1 g2 g3 g4 => ?_)
    obtain ⟨hin, hty, hnm⟩ := clz_ok hc
    have hkn := K.en.1.1 kd _ _ _ hc
    have hcid : cC = xK (cG C) kd := Option.some.inj (g1.symm.trans hkn.2.1)
    subst hcid
    obtain ⟨hIJ, hcv⟩ := new_ok (kd := kd) (ln := 0) (sl := n) (c := { cls := xK (cG C) kd, slots := kC.instanceTypes.map defaultValue, vm := .none }) K h (Or.inr ⟨_, rfl, rfl, rfl, (fun _ k hk => by
      have hkN := nF_lt hc hk
      obtain ⟨c9, b1, b2, b3, b4⟩ := u_born (o := 0) (H := #[blank (xK (cG C) kd) kC]) (tyz kd) K.ts hin hkn g2 rfl hty
      cases b1
      have b5 : _ = some (defaultValue (tyz kd k)) := b4 k hkN
      rw [dfl_ok hc (by omega) hkN] at b5
      show _ = some (vS (cG C) kd k 0 none 0)
      rw [vS_dfl]
      exact b5), fun z => absurd z (by omega)⟩) (by rw [Array.size_map, g4]; exact Nat.le_refl _) (by omega) hrm
    have h9 := kk res hX _ _ (H.size - (mS (cM C)).heap.size + 1) (SlotSum (mS (cM C)).heap.size H + n) ls hIJ
    rw [List.map_cons, hcv] at h9
    exact h9
theorem j_newa {atype : ArrayType} {kd N : Nat} {x : Int32} {b : Bool} {ty : FieldType} (K : Cx C cc own d) (hd : decode cc pc = .ok (.newarray atype, 2)) (hty : newarray.typeOf atype = ty) (hk : tyA kd = some ty) (hra : ∀ U cA, va_RA U cA ty → U.vm.findClass ("[" ++ ty.toString) = some cA) (h10 : (Nat.blt 9 kd && Nat.blt kd 18) = true) (q : Cond.arrayClass ty ∈ lw_all) (hN : x.toNatClampNeg = N) (hx : ¬ x < 0) (hby : Nat.ble (N * componentBytes ty) 536870912 = true) (hdf : ∀ k, defaultValue ty = dfl kd k) (hrm : room w N = true)
    (kk : Jf C rr X (nw w kd N N) (pc + 2) lv (aR kd (some (gN w)) :: st)) : Jf C rr X w pc lv (aB b x :: st) :=
  fun res hX H locs cells slots ls h => by
    subst hty
    subst hN
    have t9 := blt2 h10
    refine W.shrink (xB (cG C)) K.b0 (fun h7 h8 => ?_)
    obtain ⟨r1, r2⟩ := room_ok K h hrm h7 h8
    refine W.newa K.ex K.cb (K.ts _ q) rfl hd rfl hx (Nat.le_of_ble_eq_true hby) r1 r2 (fun cA kA comp g1 g2 g3 => ?_)
    have hcid : cA = xK (cG C) kd := Option.some.inj (g1.symm.trans (hra _ _ (K.en.1.2 kd _ hk).2))
    subst hcid
    obtain ⟨hIJ, hcv⟩ := new_ok (kd := kd) (ln := x.toNatClampNeg) (sl := x.toNatClampNeg) (c := { cls := xK (cG C) kd, slots := Array.replicate x.toNatClampNeg (defaultValue (newarray.typeOf atype)), vm := .none }) K h.d1 (Or.inr ⟨_, rfl, rfl, rfl, (fun z => absurd z (by omega)), fun _ _ => ⟨Array.size_replicate, fun k hk => by rw [vS_dfl, Array.getElem?_replicate, if_pos hk, hdf k]⟩⟩) (by rw [Array.size_replicate]; exact Nat.le_refl _) (by omega) hrm
    have h9 := kk res hX _ _ (H.size - (mS (cM C)).heap.size + 1) (SlotSum (mS (cM C)).heap.size H + x.toNatClampNeg) ls hIJ
    rw [List.map_cons, hcv] at h9
    exact h9
theorem j_anew {kd ik N : Nat} {x : Int32} {b : Bool} {Cn : String} (K : Cx C cc own d) (hd : decode cc pc = .ok (.anewarray ik, 3)) (hk : tyA kd = some (.object Cn)) (h10 : (Nat.blt 9 kd && Nat.blt kd 18) = true) (q : Cond.classLink own ik Cn ∈ lw_all) (q2 : Cond.arrayOver (.object Cn) ∈ lw_tbl) (hN : x.toNatClampNeg = N) (hx : ¬ x < 0) (hby : Nat.ble (N * 4) 536870912 = true) (hdf : ∀ k, rt kd k ≠ 99) (hrm : room w N = true)
    (kk : Jf C rr X (nw w kd N N) (pc + 3) lv (aR kd (some (gN w)) :: st)) : Jf C rr X w pc lv (aB b x :: st) :=
  fun res hX H locs cells slots ls h => by
    subst hN
    have t9 := blt2 h10
    refine W.shrink (xB (cG C)) K.b0 (fun h7 h8 => ?_)
    obtain ⟨r1, r2⟩ := room_ok K h hrm h7 h8
    refine W.anew K.ex K.cb K.ow (K.ts _ q) (va_AO.use (K.en.2.1.2.1 Cn q2)) rfl hd rfl hx (Nat.le_of_ble_eq_true hby) r1 r2 (fun cA kA comp g1 g2 g3 g4 => ?_)
    obtain ⟨kA', comp', k1, k2, k3, k4⟩ := (K.en.1.2 kd _ hk).2
    have hcid : cA = xK (cG C) kd := Option.some.inj (g1.symm.trans k4)
    subst hcid
    obtain ⟨hIJ, hcv⟩ := new_ok (kd := kd) (ln := x.toNatClampNeg) (sl := x.toNatClampNeg) (c := { cls := xK (cG C) kd, slots := Array.replicate x.toNatClampNeg .null, vm := .none }) K h.d1 (Or.inr ⟨_, rfl, rfl, rfl, (fun z => absurd z (by omega)), fun _ _ => ⟨Array.size_replicate, fun k hk => by
      rw [vS_dfl, Array.getElem?_replicate, if_pos hk]
      unfold dfl
      rw [if_neg (hdf k)]⟩⟩) (by rw [Array.size_replicate]; exact Nat.le_refl _) (by omega) hrm
    have h9 := kk res hX _ _ (H.size - (mS (cM C)).heap.size + 1) (SlotSum (mS (cM C)).heap.size H + x.toNatClampNeg) ls hIJ
    rw [List.map_cons, hcv] at h9
    exact h9
/-- making, with the world after it named -/
def nwB (w : Wd) (kd ln sl : Nat) : Option Wd := if room w sl = true then some (nw w kd ln sl) else none
theorem j_nwB {kd ln sl : Nat} {f : Wd → Option (Wd × α)} (k : room w sl = true → Jf C rr (f (nw w kd ln sl)) w pc lv st) : Jf C rr ((nwB w kd ln sl).bind f) w pc lv st := by
  intro res hX
  unfold nwB at hX
  by_cases h : room w sl = true
  · rw [if_pos h] at hX; exact k h res hX
  · rw [if_neg h] at hX; cases hX
theorem j_newB {f : Wd → Option (Wd × α)} {kd ik n : Nat} {Cn : String} {T : u_T} {N : Nat} (K : Cx C cc own d) (hd : decode cc pc = .ok (.new ik, 3)) (hc : clz kd = some (Cn, T, N)) (ht : (Nat.blt 0 kd && Nat.blt kd 6) = true) (q1 : Cond.classLink own ik Cn ∈ lw_all) (q2 : Cond.instantiable Cn n ∈ lw_all) (q3 : Cond.initialized Cn ∈ lw_all)
    (kk : ∀ w1, Jf C rr (f w1) w1 (pc + 3) lv (aR kd (some (gN w)) :: st)) : Jf C rr ((nwB w kd 0 n).bind f) w pc lv st :=
  j_nwB (fun hrm => j_new K hd hc ht q1 q2 q3 hrm (kk _))
theorem j_newaB {f : Wd → Option (Wd × α)} {atype : ArrayType} {kd N : Nat} {x : Int32} {b : Bool} {ty : FieldType} (K : Cx C cc own d) (hd : decode cc pc = .ok (.newarray atype, 2)) (hty : newarray.typeOf atype = ty) (hk : tyA kd = some ty) (hra : ∀ U cA, va_RA U cA ty → U.vm.findClass ("[" ++ ty.toString) = some cA) (h10 : (Nat.blt 9 kd && Nat.blt kd 18) = true) (q : Cond.arrayClass ty ∈ lw_all) (hN : x.toNatClampNeg = N) (hx : ¬ x < 0) (hby : Nat.ble (N * componentBytes ty) 536870912 = true) (hdf : ∀ k, defaultValue ty = dfl kd k)
    (kk : ∀ w1, Jf C rr (f w1) w1 (pc + 2) lv (aR kd (some (gN w)) :: st)) : Jf C rr ((nwB w kd N N).bind f) w pc lv (aB b x :: st) :=
  j_nwB (fun hrm => j_newa K hd hty hk hra h10 q hN hx hby hdf hrm (kk _))
theorem j_anewB {f : Wd → Option (Wd × α)} {kd ik N : Nat} {x : Int32} {b : Bool} {Cn : String} (K : Cx C cc own d) (hd : decode cc pc = .ok (.anewarray ik, 3)) (hk : tyA kd = some (.object Cn)) (h10 : (Nat.blt 9 kd && Nat.blt kd 18) = true) (q : Cond.classLink own ik Cn ∈ lw_all) (q2 : Cond.arrayOver (.object Cn) ∈ lw_tbl) (hN : x.toNatClampNeg = N) (hx : ¬ x < 0) (hby : Nat.ble (N * 4) 536870912 = true) (hdf : ∀ k, rt kd k ≠ 99)
    (kk : ∀ w1, Jf C rr (f w1) w1 (pc + 3) lv (aR kd (some (gN w)) :: st)) : Jf C rr ((nwB w kd N N).bind f) w pc lv (aB b x :: st) :=
  j_nwB (fun hrm => j_anew K hd hk h10 q q2 hN hx hby hdf hrm (kk _))
theorem j_objI {t a ix : Nat} {v : Option Nat} (K : Cx C cc own d) (hd : decode cc pc = .ok (.invokespecial ix, 3)) (q1 : Cond.methodLink own ix Lib.objectInit ∈ lw_all) (q2 : Cond.instanceMethod Lib.objectInit ∈ lw_all) (q3 : Cond.code Lib.objectInit ⟨#[0xb1]⟩ 1 none ∈ lw_all) (hd1 : 1 ≤ d) (hw : Nat.ble (stW st) 8 = true) (ha : v = some a) (kk : Jf C rr X w (pc + 3) lv st) : Jf C rr X w pc lv (aR t v :: st) :=
  fun res hX H locs cells slots ls h => by
    subst ha
    have hfr := K.fr
    have hlo := K.lo
    have hw' := Nat.le_of_ble_eq_true hw
    exact W.objInit K.ex K.cb K.ow (K.ts _ q1) (K.ts _ q2) (K.ts _ q3) rfl (h.lo.1.trans K.ml.symm) (rest := st.map (cv (cG C))) rfl hd (by omega) (by
      have e9 := stW_sum (cG C) st
      show 2 * 0 + _ + 12 ≤ _
      omega) (kk res hX H locs cells slots ls h.d1)
/-- a reference is stored into an array -/
theorem j_aas' {t t' a n : Nat} {b : Bool} {i : Int32} {u v : Option Nat} {E : String} (K : Cx C cc own d) (hd : decode cc pc = .ok (.aastore, 1)) (ht : tyA t = some (.object E)) (hr : ∀ k, rt t k = t') (h9 : t' ≠ 99) (h10 : (Nat.blt 9 t && Nat.blt t 18) = true) (ha : v = some a)
    (hn : ∀ H locs ls, IJ C w H locs lv ls (aR t' u :: aB b i :: aR t v :: st) → gL w a = n) (hA : ∀ H locs ls x, IJ C w H locs lv ls (aR t' u :: aB b i :: aR t v :: st) → u = some x → va_Any E (mS (cM C)) H (xA (cG C) x)) (hi : ib i n = true)
    (kk : Jf C rr X (sR w a i.toNatClampNeg u) (pc + 1) lv st) : Jf C rr X w pc lv (aR t' u :: aB b i :: aR t v :: st) :=
  fun res hX H locs cells slots ls h => by
    have hn' := hn H locs ls h
    have hA' := fun x => hA H locs ls x h
    subst ha
    have t9 := blt2 h10
    obtain ⟨h1, h2, c, q1, q2, q3, q4, q5⟩ := h.d2.arr (by omega) (by omega) h.d2.hd
    have hlt : i.toNatClampNeg < gL w a := by rw [hn']; exact ib_lt hi
    have hin := ib_in hi
    have fin : ∀ (y : Value) (H1 : Heap), y = rf (cG C) u → H1[xA (cG C) a]? = some (c.setSlot i.toNatClampNeg y) → H1.size = H.size → (∀ q, q ≠ xA (cG C) a → H1[q]? = H[q]?) → WM (cM C) H1 (locs ++ [⟨xA (cG C) a, i.toNatClampNeg⟩]) cells slots (QF C rr res) (F0 (mM (cM C)) (pc + 1) ls (st.map (cv (cG C)))) := by
      intro y H1 hy e1 e2 e3
      refine kk res hX H1 _ cells slots ls (IJ.putA (y := y) K h.d3 (by omega) (by omega) h1 h2 q1 q2 q3 q4 q5 hlt (gN_sR _ _ _ _) (gS_sR _ _ _ _) (gK_sR _ _ _ _) (gL_sR _ _ _ _) (fun _ _ _ => rfl) (fun _ _ h => sR_off h) (fun _ _ _ => rfl) (fun _ hF => fx_sR hF (fun q hq z => by
        have h3 : ∀ q ∈ fxL, q.1 = 8 ∨ q.1 = 30 := by decide +kernel
        have h4 := hF.1
        rcases h3 q hq with h5 | h5
        · have h6 : a = 8 := z.1.symm.trans h5
          rw [h6] at h2
          omega
        · have h6 : a = 30 := z.1.symm.trans h5
          rw [h6] at h2
          omega)) ?_ ?_ ?_ e1 e2 e3)
      · rw [hy]
        unfold vS
        rw [if_neg (by rw [hr]; exact h9), sR_at]
      · intro x hx
        rw [sR_at] at hx
        rw [hr]
        exact h.hd x hx
      · intro hb
        rw [gI_sR]
        have h5 := h.inv.2.2.2.1 a i.toNatClampNeg h1 (by rw [h2]; exact hb)
        exact h5
    cases u with
    | none => exact va_WaastN (C := E) K.ex K.cb q1 (isArr (K.en.1.2 t _ ht).1 q3 q2) (by rw [q2]; exact fun z => nomatch z) (by rw [q4, hn']; exact hin) rfl rfl hd (fun H1 e1 e2 e3 => fin .null H1 rfl e1 e2 e3)
    | some x =>
      obtain ⟨cellV, g1, g3, ⟨kC, hkC⟩, hasg⟩ := hA' x rfl
      obtain ⟨kA, comp, k1, k2, k3, -⟩ := (K.en.1.2 t _ ht).2
      obtain ⟨kE, hkE, -⟩ := Vm.findClass_spec k3
      exact W.aast K.ex K.cb q1 (fun q hq => by rw [q2] at hq; cases hq) (by rw [q2]; exact fun z => nomatch z) (by rw [q3]; exact k1) k2 rfl hkE ⟨fun z => hin (Or.inl z), by rw [q4]; exact hlt⟩ g1 (fun q hq => by rw [hq] at g3; cases g3) hkC (hasg _ k3) rfl rfl hd (fun H1 e1 e2 e3 => fin (.ref (xA (cG C) x)) H1 rfl e1 e2 e3)
/-- an array of objects of one class -/
theorem j_aas {t t' a n : Nat} {b : Bool} {i : Int32} {u v : Option Nat} {Cn : String} {T : u_T} {N : Nat} (K : Cx C cc own d) (hd : decode cc pc = .ok (.aastore, 1)) (hc : clz t' = some (Cn, T, N)) (ht : tyA t = some (.object Cn)) (hr : ∀ k, rt t k = t') (h9 : (Nat.blt 0 t' && Nat.blt t' 10) = true) (h10 : (Nat.blt 9 t && Nat.blt t 18) = true) (ha : v = some a)
    (hn : ∀ H locs ls, IJ C w H locs lv ls (aR t' u :: aB b i :: aR t v :: st) → gL w a = n) (hi : ib i n = true)
    (kk : Jf C rr X (sR w a i.toNatClampNeg u) (pc + 1) lv st) : Jf C rr X w pc lv (aR t' u :: aB b i :: aR t v :: st) :=
  j_aas' K hd ht hr (by have := blt2 h9; omega) h10 ha hn (fun H locs ls x h e => by
    subst e
    have t9 := blt2 h9
    obtain ⟨-, -, c, c1, c2, c3, -⟩ := h.cell (by omega) (by omega) h.hd
    have hcl := (K.en.1.1 t' _ _ _ hc).2
    obtain ⟨kC, hkC, -⟩ := hcl.2
    refine ⟨c, c1, by rw [c2]; rfl, ⟨kC, by rw [c3]; exact hkC⟩, fun comp hcomp => ?_⟩
    have e1 : comp = xK (cG C) t' := Option.some.inj (hcomp.symm.trans hcl.1)
    rw [e1, c3]
    exact va_assign hcl) hi kk
theorem run_drop {p : Program} {l : Launch} {e : Env} {R : Room} {s : State} {m : MethodId} {args : Array Value} {below : List Frame} {meth : Method} {c : Code} {H : Heap} {locs : List Loc} {cells slots mc ms : Nat} {g : JFrame} {rest : List Value} {Qa : State → Outcome → State → Prop} {free : Addr → Prop} (h : va_Run p l e R s m args below meth c H locs cells slots mc ms g rest Qa free) : CallRun p l e R s m args below meth c H locs cells slots mc ms g rest Qa free := by
  intro T hT X
  obtain ⟨v, st₀, t, T', L, h0, X', hL, e1, -, hq, go⟩ := h T hT X
  exact ⟨v, st₀, t, T', L, h0, X', hL, e1, hq, go⟩
variable {push : β → List AV} {Y : Option (Wd × β)} {Z : Wd × β → Option (Wd × α)} {y : MethodName} {cb : ByteArray} {nb ix n : Nat} {ret : Option FieldType}
theorem j_callI {t b : Nat} {v : Option Nat} (As : List AV) (K : Cx C cc own (d + 1)) (hM : Mt (cG C) (cF C) (mL (cM C)) y (ws_ y cb nb none) d (rrV (cG C) push) (aR t (some b) :: As) w Y) (hd : decode cc pc = .ok (.invokespecial ix, 3))
    (q1 : Cond.methodLink own ix y ∈ lw_all) (q2 : Cond.instanceMethod y ∈ lw_all) (q4 : Cond.initialized y.cls ∈ lw_all) (q5 : Cond.code y cb nb none ∈ lw_all) (hy : y.name = "<init>")
    (hp : y.cls ≠ "java/lang/invoke/MethodHandle" ∧ y.cls ≠ "java/lang/invoke/VarHandle" ∧ (parseMethodDescriptor y.desc).map (fun d => d.parameters.length) = some n) (hnb : Nat.ble nb 45 = true) (hn : As.length = n) (hst : st0 = As.reverse ++ aR t v :: st) (hb : v = some b) (hw : Nat.ble (stW st) 8 = true)
    (kk : ∀ r : Wd × β, Y = some r → Jf C rr (Z r) r.1 (pc + 3) lv (push r.2 ++ st)) : Jf C rr (Y.bind Z) w pc lv st0 :=
  fun res hX H locs cells slots ls h => by
    obtain ⟨r, hY, hZ⟩ := bindS hX
    subst hst
    subst hb
    have hok : ∀ u ∈ aR t (some b) :: As, OkV w u := fun u hu => by
      rcases List.mem_cons.mp hu with z | z
      · rw [z]; exact h.ok _ (List.mem_append_right _ List.mem_cons_self)
      · exact h.ok _ (List.mem_append_left _ (List.mem_reverse.mpr z))
    have hst' : ∀ u ∈ st, OkV w u := fun u hu => h.ok _ (List.mem_append_right _ (List.mem_cons_of_mem _ hu))
    refine W.shrink (xB (cG C)) K.b0 (fun h7 h8 => ?_)
    have hrm := h.room K h7 h8 (a := LIMC + 8 - gN w) (b := LIMS - SlotSum (xB (cG C)) H) (by have := h.cl; omega) (by have := h.sl; omega)
    have hfr := K.fr
    have hlo := K.lo
    have hnb' := Nat.le_of_ble_eq_true hnb
    refine call_go h hst' (W.runI (Ts := lw_all) (As := As.map (cv (cG C))) (b := xA (cG C) b) ⟨K.ex, K.cb, K.ml, K.ow, K.ts⟩ (hM.met hY (SlotSum (xB (cG C)) H)) (cwI n K.ts (lw_meth q5) rfl rfl rfl (K.ts _ q4) (K.ts _ q1) (K.ts _ q2) hy hp ⟨hfr, by show 8 + (nb + 11) + 64 * d ≤ _; omega⟩) ⟨PcM.blind, fun U hU hW => pre_ok K h hok rfl U hU hW⟩ rfl (by rw [List.length_map]; exact hn) h.lo.1 (map_rs _ _ _ _) (lv_room (by rw [stW_sum]; exact Nat.le_of_ble_eq_true hw)) hd hrm) ?_
    rw [← hZ]
    exact kk r hY
theorem j_callIN {t b : Nat} {v : Option Nat} {host : String} (As : List AV) (K : Cx C cc own (d + 1)) (hM : Mt (cG C) (cF C) (mL (cM C)) y (ws_ y cb nb none) d (rrV (cG C) push) (aR t (some b) :: As) w Y) (hd : decode cc pc = .ok (.invokespecial ix, 3))
    (q1 : Cond.methodLinkNest own ix y host ∈ lw_tbl) (q2 : Cond.instanceMethod y ∈ lw_all) (q4 : Cond.initialized y.cls ∈ lw_all) (q5 : Cond.code y cb nb none ∈ lw_all) (hy : y.name = "<init>")
    (hp : y.cls ≠ "java/lang/invoke/MethodHandle" ∧ y.cls ≠ "java/lang/invoke/VarHandle" ∧ (parseMethodDescriptor y.desc).map (fun d => d.parameters.length) = some n) (hnb : Nat.ble nb 45 = true) (hn : As.length = n) (hst : st0 = As.reverse ++ aR t v :: st) (hb : v = some b) (hw : Nat.ble (stW st) 8 = true)
    (kk : ∀ r : Wd × β, Y = some r → Jf C rr (Z r) r.1 (pc + 3) lv (push r.2 ++ st)) : Jf C rr (Y.bind Z) w pc lv st0 :=
  fun res hX H locs cells slots ls h => by
    obtain ⟨r, hY, hZ⟩ := bindS hX
    subst hst
    subst hb
    have hok : ∀ u ∈ aR t (some b) :: As, OkV w u := fun u hu => by
      rcases List.mem_cons.mp hu with z | z
      · rw [z]; exact h.ok _ (List.mem_append_right _ List.mem_cons_self)
      · exact h.ok _ (List.mem_append_left _ (List.mem_reverse.mpr z))
    have hst' : ∀ u ∈ st, OkV w u := fun u hu => h.ok _ (List.mem_append_right _ (List.mem_cons_of_mem _ hu))
    refine W.shrink (xB (cG C)) K.b0 (fun h7 h8 => ?_)
    have hrm := h.room K h7 h8 (a := LIMC + 8 - gN w) (b := LIMS - SlotSum (xB (cG C)) H) (by have := h.cl; omega) (by have := h.sl; omega)
    have hfr := K.fr
    have hlo := K.lo
    have hnb' := Nat.le_of_ble_eq_true hnb
    refine call_go h hst' (run_drop (va_runIN (Ts := lw_all) (host := host) (As := As.map (cv (cG C))) (b := xA (cG C) b) ⟨K.ex, K.cb, K.ml, K.ow, K.ts⟩ (hM.met hY (SlotSum (xB (cG C)) H)) ⟨va_cnB n K.ts (lw_meth q5) rfl rfl rfl (K.en.2.1.1 _ q1 rfl) (K.ts _ q4) hp ⟨hfr, by show 8 + (nb + 11) + 64 * d ≤ _; omega⟩, hy, K.ts _ q2⟩ ⟨PcM.blind, fun U hU hW => pre_ok K h hok rfl U hU hW⟩ rfl (by rw [List.length_map]; exact hn) h.lo.1 (map_rs _ _ _ _) (lv_room (by rw [stW_sum]; exact Nat.le_of_ble_eq_true hw)) hd hrm)) ?_
    rw [← hZ]
    exact kk r hY
theorem j_callSN {host : String} (As : List AV) (K : Cx C cc own (d + 1)) (hM : Mt (cG C) (cF C) (mL (cM C)) y (ws_ y cb nb ret) d (rrV (cG C) push) As w Y) (hd : decode cc pc = .ok (.invokestatic ix, 3))
    (q1 : Cond.methodLinkNest own ix y host ∈ lw_tbl) (q2 : Cond.static y ∈ lw_all) (q4 : Cond.initialized y.cls ∈ lw_all) (q5 : Cond.code y cb nb ret ∈ lw_all)
    (hp : y.cls ≠ "java/lang/invoke/MethodHandle" ∧ y.cls ≠ "java/lang/invoke/VarHandle" ∧ (parseMethodDescriptor y.desc).map (fun d => d.parameters.length) = some n) (hnb : Nat.ble nb 45 = true) (hn : As.length = n) (hst : st0 = As.reverse ++ st) (hw : Nat.ble (stW st) 8 = true)
    (kk : ∀ r : Wd × β, Y = some r → Jf C rr (Z r) r.1 (pc + 3) lv (push r.2 ++ st)) : Jf C rr (Y.bind Z) w pc lv st0 :=
  fun res hX H locs cells slots ls h => by
    obtain ⟨r, hY, hZ⟩ := bindS hX
    subst hst
    have hok : ∀ u ∈ As, OkV w u := fun u hu => h.ok _ (List.mem_append_left _ (List.mem_reverse.mpr hu))
    have hst' : ∀ u ∈ st, OkV w u := fun u hu => h.ok _ (List.mem_append_right _ hu)
    refine W.shrink (xB (cG C)) K.b0 (fun h7 h8 => ?_)
    have hrm := h.room K h7 h8 (a := LIMC + 8 - gN w) (b := LIMS - SlotSum (xB (cG C)) H) (by have := h.cl; omega) (by have := h.sl; omega)
    have hfr := K.fr
    have hlo := K.lo
    have hnb' := Nat.le_of_ble_eq_true hnb
    refine call_go h hst' (run_drop (va_runSN (Ts := lw_all) (host := host) (As := As.map (cv (cG C))) ⟨K.ex, K.cb, K.ml, K.ow, K.ts⟩ (hM.met hY (SlotSum (xB (cG C)) H)) ⟨va_cnB n K.ts (lw_meth q5) rfl rfl rfl (K.en.2.1.1 _ q1 rfl) (K.ts _ q4) hp ⟨hfr, by show 8 + (nb + 11) + 64 * d ≤ _; omega⟩, K.ts _ q2, trivial⟩ ⟨PcM.blind, fun U hU hW => pre_ok K h hok rfl U hU hW⟩ rfl (by rw [List.length_map]; exact hn) h.lo.1 (by show List.map _ _ = _; rw [List.map_append, List.map_reverse]) (lv_room (by rw [stW_sum]; exact Nat.le_of_ble_eq_true hw)) hd hrm)) ?_
    rw [← hZ]
    exact kk r hY
theorem j_callVN {t b : Nat} {v : Option Nat} {Cn host : String} {T : u_T} {N : Nat} (As : List AV) (K : Cx C cc own (d + 1)) (hM : Mt (cG C) (cF C) (mL (cM C)) y (ws_ y cb nb ret) d (rrV (cG C) push) (aR t (some b) :: As) w Y) (hd : decode cc pc = .ok (.invokevirtual ix, 3)) (hc : clz t = some (Cn, T, N)) (ht : (Nat.blt 0 t && Nat.blt t 10) = true)
    (q1 : Cond.methodLinkNest own ix y host ∈ lw_tbl) (q2 : Cond.instanceMethod y ∈ lw_all) (q3 : Cond.selects Cn y y ∈ lw_all) (q4 : Cond.initialized y.cls ∈ lw_all) (q5 : Cond.code y cb nb ret ∈ lw_all)
    (hp : y.cls ≠ "java/lang/invoke/MethodHandle" ∧ y.cls ≠ "java/lang/invoke/VarHandle" ∧ (parseMethodDescriptor y.desc).map (fun d => d.parameters.length) = some n) (hnb : Nat.ble nb 45 = true) (hn : As.length = n) (hst : st0 = As.reverse ++ aR t v :: st) (hb : v = some b) (hw : Nat.ble (stW st) 8 = true)
    (kk : ∀ r : Wd × β, Y = some r → Jf C rr (Z r) r.1 (pc + 3) lv (push r.2 ++ st)) : Jf C rr (Y.bind Z) w pc lv st0 :=
  fun res hX H locs cells slots ls h => by
    obtain ⟨r, hY, hZ⟩ := bindS hX
    subst hst
    subst hb
    have t9 := blt2 ht
    have hok : ∀ u ∈ aR t (some b) :: As, OkV w u := fun u hu => by
      rcases List.mem_cons.mp hu with z | z
      · rw [z]; exact h.ok _ (List.mem_append_right _ List.mem_cons_self)
      · exact h.ok _ (List.mem_append_left _ (List.mem_reverse.mpr z))
    have hst' : ∀ u ∈ st, OkV w u := fun u hu => h.ok _ (List.mem_append_right _ (List.mem_cons_of_mem _ hu))
    obtain ⟨-, -, c, c1, c2, c3, -⟩ := h.cell (by omega) (by omega) (hok _ List.mem_cons_self)
    refine W.shrink (xB (cG C)) K.b0 (fun h7 h8 => ?_)
    have hrm := h.room K h7 h8 (a := LIMC + 8 - gN w) (b := LIMS - SlotSum (xB (cG C)) H) (by have := h.cl; omega) (by have := h.sl; omega)
    have hfr := K.fr
    have hlo := K.lo
    have hnb' := Nat.le_of_ble_eq_true hnb
    refine call_go h hst' (run_drop (va_runVN (Ts := lw_all) (host := host) (C := Cn) (As := As.map (cv (cG C))) (b := xA (cG C) b) ⟨K.ex, K.cb, K.ml, K.ow, K.ts⟩ (hM.met hY (SlotSum (xB (cG C)) H)) ⟨va_cnB n K.ts (lw_meth q5) rfl rfl rfl (K.en.2.1.1 _ q1 rfl) (K.ts _ q4) hp ⟨hfr, by show 8 + (nb + 11) + 64 * d ≤ _; omega⟩, K.ts _ q2, K.ts _ q3⟩ ⟨PcM.blind, ⟨c, c1, by rw [c2]; rfl, by rw [c3]; exact (K.en.1.1 t _ _ _ hc).2.1⟩, fun U hU hW => pre_ok K h hok rfl U hU hW⟩ rfl (by rw [List.length_map]; exact hn) h.lo.1 (map_rs _ _ _ _) (lv_room (by rw [stW_sum]; exact Nat.le_of_ble_eq_true hw)) hd hrm)) ?_
    rw [← hZ]
    exact kk r hY
end JNew
