set_option maxRecDepth 100000
def bC {α β : Type} (Y : Option (Wd × (β ⊕ Nat))) (Z : Wd → β → Option (Wd × α)) (Hx : Wd → Nat → Option (Wd × α)) : Option (Wd × α) := match Y with
  | none => none
  | some (w, .inl b) => Z w b
  | some (w, .inr q) => Hx w q
section JC1
variable {α β : Type} {C : Cw} {rr : α → Wd → Outcome → Prop} {X : Option (Wd × α)} {cc : ByteArray} {own : String} {d : Nat} {w : Wd} {pc : Nat} {lv : Lv} {st st0 : List AV} {push : β → List AV} {y : MethodName} {cb : ByteArray} {nb ix n : Nat} {ret : Option FieldType}
theorem callC_go {Y : Option (Wd × (β ⊕ Nat))} {Z : Wd → β → Option (Wd × α)} {Hx : Wd → Nat → Option (Wd × α)} {rr : α → Wd → Outcome → Prop} {H : Heap} {locs : List Loc} {ls : Array Slot} {cells slots mc ms : Nat} {res : Wd × α} {r : Wd × (β ⊕ Nat)} {st' : List AV} {T : State} (K : Cx C cc own d) (h : IJ C w H locs lv ls st') (hst : ∀ v ∈ st, OkV w v) (hY : Y = some r) (hZ : bC Y Z Hx = some res)
    (hr : (∃ (v : Option Value) (vm₁ : Vm) (B : Pt), (mS (cM C)).WarmedH vm₁ ∧ Stand (mP (cM C)) (mL (cM C)) (mE (cM C)) (mR (cM C)) (mS (cM C)) (mM (cM C)) (mA (cM C)) (mB (cM C)) (mH (cM C)) (mC (cM C)) B.U B.locs B.cells B.slots ∧ PostMX (Qo (cG C) (cF C) (rrX (cG C) push) w r) mc ms (fun q => xB (cG C) ≤ q) ⟨T.setVm vm₁, locs, cells, slots⟩ (.returned v) B ∧
      ∀ target, Steps (mP (cM C)).tables (mE (cM C)) (mB (cM C)) (B.U.setTop { (F0 (mM (cM C)) pc ls (st0.map (cv (cG C)))) with pc := pc + 3, stack := v.toList ++ st.map (cv (cG C)) }) target → Steps (mP (cM C)).tables (mE (cM C)) (mB (cM C)) (T.setTop (F0 (mM (cM C)) pc ls (st0.map (cv (cG C))))) target) ∨
    (∃ (q : Addr) (vm₁ : Vm) (B : Pt), (mS (cM C)).WarmedH vm₁ ∧ Stand (mP (cM C)) (mL (cM C)) (mE (cM C)) (mR (cM C)) (mS (cM C)) (mM (cM C)) (mA (cM C)) (mB (cM C)) (mH (cM C)) (mC (cM C)) B.U B.locs B.cells B.slots ∧ PostMX (Qo (cG C) (cF C) (rrX (cG C) push) w r) mc ms (fun q => xB (cG C) ≤ q) ⟨T.setVm vm₁, locs, cells, slots⟩ (.threw q) B ∧
      Steps (mP (cM C)).tables (mE (cM C)) (mB (cM C)) (T.setTop (F0 (mM (cM C)) pc ls (st0.map (cv (cG C))))) ((B.U.setTop { (F0 (mM (cM C)) pc ls (st0.map (cv (cG C)))) with stack := st.map (cv (cG C)) }).pushFrame (.throwing q))))
    (kk : ∀ w1 r1, Y = some (w1, .inl r1) → Jf C rr (Z w1 r1) w1 (pc + 3) lv (push r1 ++ st))
    (kx : ∀ w1 q, Y = some (w1, .inr q) → q < gN w1 → Tf C rr (Hx w1 q) w1 pc lv st q) : ∃ t, Steps (mP (cM C)).tables (mE (cM C)) (mB (cM C)) (T.setTop (F0 (mM (cM C)) pc ls (st0.map (cv (cG C))))) t ∧ QF C rr res t := by
  obtain ⟨w1, r1⟩ := r
  have hl : ∀ L : List Loc, (∀ z ∈ L, xB (cG C) ≤ z.base) → ∀ q ∈ locs ++ L, xB (cG C) ≤ q.base := fun L hL q hq => by
    rcases List.mem_append.mp hq with z | z
    · exact h.lc q z
    · exact hL q z
  cases r1 with
  | inl r1 =>
    rcases hr with ⟨v, vm₁, ⟨U', l2, c2, s2⟩, -, XT, ⟨t, L, e1, ⟨⟨v', ov, hv1, hv2⟩, i1, i2, i3⟩, hloc, hL, -, -⟩, go⟩ | ⟨q, vm₁, ⟨U', l2, c2, s2⟩, -, XT, ⟨t, L, e1, ⟨⟨v', ov, -⟩, -⟩, -⟩, -⟩
    · dsimp only [Pt.U, Pt.locs, Pt.cells, Pt.slots] at XT e1 hloc go
      cases ov
      subst hloc
      rw [hY] at hZ
      obtain ⟨t2, a1, b1⟩ := kk w1 r1 hY res hZ U'.heap (locs ++ L) _ _ ls ⟨by rw [e1]; exact i1, i2, h.nx.tr i3, hl L hL, h.lo.nx i3, (fun u hu => by
        rcases List.mem_append.mp hu with z | z
        · exact hv2 u z
        · exact (hst u z).nx i3)⟩ U' rfl XT
      refine ⟨t2, go t2 ?_, b1⟩
      rw [List.map_append, ← hv1] at a1
      exact a1
    · cases ov
  | inr q1 =>
    rcases hr with ⟨v, vm₁, ⟨U', l2, c2, s2⟩, -, XT, ⟨t, L, e1, ⟨⟨ov, -⟩, -⟩, -⟩, -⟩ | ⟨q, vm₁, ⟨U', l2, c2, s2⟩, -, XT, ⟨t, L, e1, ⟨⟨ov, q1l, qk⟩, i1, i2, i3⟩, hloc, hL, -, -⟩, go⟩
    · cases ov
    · dsimp only [Pt.U, Pt.locs, Pt.cells, Pt.slots] at XT e1 hloc go
      cases ov
      subst hloc
      rw [hY] at hZ
      obtain ⟨t2, a1, b1⟩ := kx w1 q1 hY q1l res hZ U'.heap (locs ++ L) _ _ ls ⟨by rw [e1]; exact i1, i2, h.nx.tr i3, hl L hL, h.lo.nx i3, fun u hu => (hst u hu).nx i3⟩ U' rfl XT
      exact ⟨t2, go.trans a1, b1⟩
end JC1
section JC2
variable {α β : Type} {C : Cw} {rr : α → Wd → Outcome → Prop} {X : Option (Wd × α)} {cc : ByteArray} {own : String} {d : Nat} {w : Wd} {pc : Nat} {lv : Lv} {st st0 : List AV} {push : β → List AV} {y : MethodName} {cb : ByteArray} {nb ix n : Nat} {ret : Option FieldType}
theorem j_callVC {α : Type} {rr : α → Wd → Outcome → Prop} {Hx : Wd → Nat → Option (Wd × α)} {Y : Option (Wd × (β ⊕ Nat))} {Z : Wd → β → Option (Wd × α)} {t b : Nat} {v : Option Nat} {Cn : String} {T9 : u_T} {N : Nat} (As : List AV) (K : Cx C cc own (d + 1)) (hM : Mt (cG C) (cF C) (mL (cM C)) y (ws_ y cb nb ret) d (rrX (cG C) push) (aR t (some b) :: As) w Y) (hd : decode cc pc = .ok (.invokevirtual ix, 3)) (hc : clz t = some (Cn, T9, N)) (ht : (Nat.blt 0 t && Nat.blt t 10) = true)
    (q1 : Cond.methodLink own ix y ∈ lw_all) (q2 : Cond.instanceMethod y ∈ lw_all) (q3 : Cond.selects Cn y y ∈ lw_all) (q4 : Cond.initialized Cn ∈ lw_all) (q5 : Cond.code y cb nb ret ∈ lw_all)
    (hp : y.cls = Cn ∧ y.cls ≠ "java/lang/invoke/MethodHandle" ∧ y.cls ≠ "java/lang/invoke/VarHandle" ∧ (parseMethodDescriptor y.desc).map (fun d => d.parameters.length) = some n) (hnb : Nat.ble nb 45 = true) (hn : As.length = n) (hst : st0 = As.reverse ++ aR t v :: st) (hb : v = some b) (hw : Nat.ble (stW st) 8 = true)
    (kk : ∀ w1 r1, Y = some (w1, .inl r1) → Jf C rr (Z w1 r1) w1 (pc + 3) lv (push r1 ++ st))
    (kx : ∀ w1 q, Y = some (w1, .inr q) → q < gN w1 → Tf C rr (Hx w1 q) w1 pc lv st q) : Jf C rr (bC Y Z Hx) w pc lv st0 :=
  fun res hX H locs cells slots ls h => by
    obtain ⟨r, hY⟩ : ∃ r, Y = some r := by
      cases Y with
      | none => cases hX
      | some r => exact ⟨r, rfl⟩
    subst hst
    subst hb
    have t9 := blt2 ht
    have hok : ∀ u ∈ aR t (some b) :: As, OkV w u := fun u hu => by
      rcases List.mem_cons.mp hu with z | z
      · rw [z]; exact h.ok _ (List.mem_append_right _ List.mem_cons_self)
      · exact h.ok _ (List.mem_append_left _ (List.mem_reverse.mpr z))
    have hst' : ∀ u ∈ st, OkV w u := fun u hu => h.ok _ (List.mem_append_right _ (List.mem_cons_of_mem _ hu))
    obtain ⟨-, -, c, c1, c2, c3, -⟩ := h.cell (by omega) (by omega) (hok _ List.mem_cons_self)
    refine W.shrink (xB (cG C)) K.b0 (fun h7 h8 => ?_)
    have hrm := h.room K h7 h8 (a := LIMC + 8 - gN w) (b := LIMS - SlotSum (xB (cG C)) H) (by have := h.cl; omega) (by have := h.sl; omega)
    have hfr := K.fr
    have hlo := K.lo
    have hnb' := Nat.le_of_ble_eq_true hnb
    have cwV9 := cwV (R := mR (cM C)) (rm := rmm d w (SlotSum (xB (cG C)) H)) (mc := LIMC + 8 - gN w) (ms := LIMS - SlotSum (xB (cG C)) H) n K.ts (lw_V q1 q2 q3 q4 q5) rfl rfl rfl hp ⟨hfr, by show 8 + (nb + 11) + 64 * d ≤ _; omega⟩
    have cw := cwV9.1
    intro T hT X0
    have hK : vx_Back (mL (cM C)) (mR (cM C)) (mP (cM C)) (mE (cM C)) (mB (cM C)) (mS (cM C)) (mA (cM C)) y 3 8 (PreOf (mR (cM C)) (LIMC + 8 - gN w) (LIMS - SlotSum (xB (cG C)) H) (PcM (cG C) (cF C) (aR t (some b) :: As) w (SlotSum (xB (cG C)) H))) _ _ := mx_back (bytes := cb) (maxL := nb) (ret := ret) (hM.free hY (SlotSum (xB (cG C)) H)) PcM.blind rfl rfl hfr (by show 8 + (nb + 11) + 64 * d ≤ _; omega) cw.2.2.2.2.1 (Or.inl List.mem_cons_self) (fun a' U hW => word_at hW (Or.inl (by first | rfl | simp [Cond.onTables, Cond.keeps, Cond.steady])) cw.2.2.2.2.2.2.2.1)
    exact callC_go K h hst' hY hX (vx_callV X0 K.ex (C := Cn) (bytes := cb) (maxL := nb) (ret := ret) (b := xA (cG C) b) K.ow (K.ts _ q1) (K.ts _ q2) (K.ts _ q3) (K.ts _ q5) ⟨hp.2.1, hp.2.2.1⟩ hK (by rw [hT]; exact c1) (by rw [c2]; rfl) (by rw [c3]; exact (K.en.1.1 t _ _ _ hc).2.1) (g := F0 (mM (cM C)) pc ls ((As.reverse ++ aR t (some b) :: st).map (cv (cG C)))) rfl (h.lo.1.trans K.ml.symm) (argsL := As.map (cv (cG C))) (rest := st.map (cv (cG C))) (fun sig hs => by rw [List.length_map, hn]; exact cw.2.2.2.2.2.2.2.2.2.1 sig hs) (map_rs _ _ _ _) (lv_room (by rw [stW_sum]; exact Nat.le_of_ble_eq_true hw)) (by rw [K.cb]; exact hd)
      (fun vm₁ hW₁ => ⟨hrm.1, hrm.2, pre_ok K h hok rfl (T.setVm vm₁) hT hW₁⟩)) kk kx
theorem j_catch {α : Type} {rr : α → Wd → Outcome → Prop} {X : Option (Wd × α)} {kd q : Nat} {E : String} (tgt : Nat) (K : Cx C cc own d) (pre : List ExceptionTableEntry) (x : ExceptionTableEntry) (suf : List ExceptionTableEntry) (hsplit : (mC (cM C)).exceptionTable.toList = pre ++ x :: suf)
    (hpass : ∀ z ∈ pre, covers z pc = false ∨ (z.catchType ≠ 0 ∧ ∃ (nm : String) (kd' : Nat), excN kd' = some nm ∧ kd ≠ kd' ∧ Cond.classLink own z.catchType nm ∈ lw_all)) (hx : covers x pc = true) (h0 : x.catchType ≠ 0) (hE : excN kd = some E) (hlink : Cond.classLink own x.catchType E ∈ lw_all) (hcast : Cond.castable E E ∈ lw_tbl) (hpc : x.handlerPc = tgt)
    (hq : q < gN w) (hk : gK w q = kd) (kk : Jf C rr X w tgt lv [aR kd (some q)]) : Tf C rr X w pc lv st q := by
  intro res hX H locs cells slots ls h
  have h40 : 40 ≤ kd ∧ kd < 44 := by
    unfold excN at hE
    split at hE <;> first | omega | cases hE
  have hC := h.inv.2.1 q hq
  rw [hk] at hC
  rcases hC with hC | ⟨ce, c1, c2, c3, -⟩
  · omega
  have hN := K.en.2.1.2.2.2.2
  refine vx_catch (E := E) K.ow pre x suf hsplit (fun z hz => ?_) hx h0 (K.ts _ hlink) (va_Nw.use rfl (K.en.2.1.1 _ hcast rfl)) c1 c2 (by rw [c3]; exact hN.1 kd E hE) ?_
  · rcases hpass z hz with z1 | ⟨z1, nm, kd', z2, z3, z4⟩
    · exact Or.inl z1
    · exact Or.inr ⟨z1, nm, K.ts _ z4, hN.2.1 kd kd' E nm hE z2 z3⟩
  · rw [hpc]
    have hty : OkV w (aR kd (some q)) := fun b e => by
      cases e
      refine ⟨hq, ?_⟩
      rw [hk]
      unfold okT
      rw [if_pos (by omega)]
      simp
    exact kk res hX H locs cells slots ls (h.to (ok1 hty))
end JC2
theorem Mt.ofW {hh : List (Nat × Nat × Nat × Nat)} {β : Type} {G : Gx} {φ : Bool} {l : Launch} {y : MethodName} {cc : ByteArray} {nL : Nat} {ret : Option FieldType} {d : Nat} {rr : β → Wd → Outcome → Prop} {av : List AV} {w : Wd} {X : Option (Wd × β)} (hG : GW G) (hl : l.stackTraces = false) {own : String} (hy : plainName y.cls = true) (ho : y.cls = own) (hlen : Nat.ble (stW av) nL = true)
    (body : ∀ M : Mx, mL M = l → (mH M).sig.returnType = ret → (mH M).name = y.name → (mC M).exceptionTable.toList = tableOf hh → (mS M).methodNamed? y = some (mM M) → Cx (G, φ, M, nL, w) cc own d → Jf (G, φ, M, nL, w) rr X w 0 (lv0 nL av) []) : Mt G φ l y (wsW_ y cc nL ret hh) d rr av w X := by
  subst ho
  intro res hX S0
  refine MetFree.of_bodyS (code := cc) (maxLocals := nL) (ret := ret) hy ?_ ?_
  · intro args s m h hn
    obtain ⟨m9, meth, c, h0, h1, h2, h3, h4, -, h5, h6, -⟩ := Cond.codeWith_spec (atoms_spec (ws := wsW_ y cc nL ret hh) h _ List.mem_cons_self)
    cases hn.symm.trans h0
    exact ⟨meth, c, h1, h2, h3, h4, h5, h6⟩
  · intro p e s m args below meth c s₁ B hml hP _
    obtain ⟨rfl, hEn, hInv, hFx, hOk, hS0⟩ := hP
    have hh0 : s₁.heap = s.heap := by rw [B.state]; rfl
    have hts0 := atoms_spec (ws := wsW_ y cc nL ret hh) B.pre
    have hts : ∀ w ∈ lw_all, w.before (av.map (cv G)).toArray s = true := fun w h => hts0 w (List.mem_cons_of_mem _ h)
    have ht : c.exceptionTable.toList = tableOf hh := vx_table (x := y) B (hts0 _ List.mem_cons_self)
    have K : Cx (G, φ, (p, l, e, (headSpec (wsW_ y cc nL ret hh) (rmm d w S0)).room, s, m, (av.map (cv G)).toArray, below, meth, c), nL, w) cc y.cls d :=
      ⟨B.exec, B.bytes, hml, findClass_of_methodNamed B.named, hts, B.notSynchronized, hEn, hG, Nat.le_refl _, Nat.le_refl _, rfl, by rw [hS0]; rfl, ⟨hInv.1.2, hInv.1.1⟩, hl⟩
    have hJ := body _ rfl B.returns (name_of_methodNamed B.named B.method).1 ht B.named K res hX s.heap [] 0 0 _ ⟨hInv, hFx, Nx.rf w, (fun _ h => by cases h), lv0_ok hlen hOk, fun _ h => by cases h⟩
    obtain ⟨t, a1, o, b1, b2, b3⟩ := hJ s₁ hh0 (Stand.of_body B)
    refine ⟨t, o, ?_, b1, b2, b3⟩
    rw [lg_entry_eq]
    exact a1
section JC3
variable {α β : Type} {C : Cw} {rr : α → Wd → Outcome → Prop} {cc : ByteArray} {own : String} {d : Nat} {w : Wd} {pc : Nat} {lv : Lv} {st st0 : List AV} {push : β → List AV} {Y : Option (Wd × β)} {Z : Wd × β → Option (Wd × α)} {y : MethodName} {cb : ByteArray} {nb ix n : Nat} {ret : Option FieldType}
theorem j_callSW {hh : List (Nat × Nat × Nat × Nat)} (As : List AV) (K : Cx C cc own (d + 1)) (hM : Mt (cG C) (cF C) (mL (cM C)) y (wsW_ y cb nb ret hh) d (rrV (cG C) push) As w Y) (hd : decode cc pc = .ok (.invokestatic ix, 3))
    (q1 : Cond.methodLink own ix y ∈ lw_all) (q2 : Cond.static y ∈ lw_all) (q4 : Cond.initialized y.cls ∈ lw_all) (q5 : Cond.codeWith y cb nb ret hh ∈ lw_all)
    (hp : y.cls ≠ "java/lang/invoke/MethodHandle" ∧ y.cls ≠ "java/lang/invoke/VarHandle" ∧ (parseMethodDescriptor y.desc).map (fun d => d.parameters.length) = some n) (hnb : Nat.ble nb 45 = true) (hn : As.length = n) (hst : st0 = As.reverse ++ st) (hw : Nat.ble (stW st) 8 = true)
    (kk : ∀ r : Wd × β, Y = some r → Jf C rr (Z r) r.1 (pc + 3) lv (push r.2 ++ st)) : Jf C rr (Y.bind Z) w pc lv st0 :=
  fun res hX H locs cells slots ls h => by
    obtain ⟨r, hY, hZ⟩ := bindS hX
    subst hst
    have hok : ∀ u ∈ As, OkV w u := fun u hu => h.ok _ (List.mem_append_left _ (List.mem_reverse.mpr hu))
    have hst' : ∀ u ∈ st, OkV w u := fun u hu => h.ok _ (List.mem_append_right _ hu)
    refine W.shrink (xB (cG C)) K.b0 (fun h7 h8 => ?_)
    have hrm := h.room K h7 h8 (a := LIMC + 8 - gN w) (b := LIMS - SlotSum (xB (cG C)) H) (by have := h.cl; omega) (by have := h.sl; omega)
    have hfr := K.fr
    have hlo := K.lo
    have hnb' := Nat.le_of_ble_eq_true hnb
    have hrun := vx_runSW (e := mE (cM C)) (below := mB (cM C)) (meth := mH (cM C)) (locs := locs) (g := F0 (mM (cM C)) pc ls ((As.reverse ++ st).map (cv (cG C)))) (rest := st.map (cv (cG C))) (Ts := lw_all) (As := As.map (cv (cG C))) ⟨K.ex, K.cb, K.ml, K.ow, K.ts⟩ (hM.met hY (SlotSum (xB (cG C)) H)) (vx_cwSW n K.ts (lw_SW q1 q2 q4 q5) rfl rfl rfl hp ⟨hfr, by show 8 + (nb + 11) + 64 * d ≤ _; omega⟩) ⟨PcM.blind, fun U hU hW => pre_ok K h hok rfl U hU hW⟩ rfl (by rw [List.length_map]; exact hn) h.lo.1 (by show List.map _ _ = _; rw [List.map_append, List.map_reverse]) (lv_room (by rw [stW_sum]; exact Nat.le_of_ble_eq_true hw)) hd hrm
    refine call_go h hst' (fun T hT X => by
      obtain ⟨v, st₀, t, T', L, h0, XT, hL, e1, e2, hq, go⟩ := hrun T hT X
      exact ⟨v, st₀, t, T', L, h0, XT, hL, e1, hq, go⟩) ?_
    rw [← hZ]
    exact kk r hY
theorem t_none {q : Nat} : Tf C rr none w pc lv st q := fun _ h => by cases h
theorem t_ite {q : Nat} {p : Prop} [Decidable p] {A B : Option (Wd × α)} (k1 : p → Tf C rr A w pc lv st q) (k2 : ¬ p → Tf C rr B w pc lv st q) : Tf C rr (if p then A else B) w pc lv st q := by
  intro res hX
  by_cases h : p
  · rw [if_pos h] at hX; exact k1 h res hX
  · rw [if_neg h] at hX; exact k2 h res hX
end JC3
