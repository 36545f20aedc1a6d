set_option maxRecDepth 100000
/-! ===== answers, contracts, calls ===== -/
def rrV {β : Type} (G : Gx) (push : β → List AV) : β → Wd → Outcome → Prop := fun r w o => ∃ v : Option Value, o = .returned v ∧ v.toList = (push r).map (cv G) ∧ ∀ u ∈ push r, OkV w u
def pI (r : Int32) : List AV := [aI r]
def pZ (r : Int32) : List AV := [aZ r]
def pU (_ : Unit) : List AV := []
def pR (t : Nat) (r : Option Nat) : List AV := [aR t r]
/-- an answer or an exception (its index) -/
def rrX {β : Type} (G : Gx) (push : β → List AV) : β ⊕ Nat → Wd → Outcome → Prop := fun r w o => match r with
  | .inl b => rrV G push b w o
  | .inr q => o = .threw (xA G q) ∧ q < gN w ∧ ((40 ≤ gK w q ∧ gK w q < 44) ∨ gK w q = 6)
section JRet
variable {α : Type} {C : Cw} {rr : α → Wd → Outcome → Prop} {cc : ByteArray} {own : String} {d : Nat} {w : Wd} {pc : Nat} {lv : Lv} {st : List AV}
theorem ret_core {r : α} {H : Heap} {locs : List Loc} {ls : Array Slot} {st' : List AV} {cells slots : Nat} {v : Option Value} {g : JFrame} (K : Cx C cc own d) (h : IJ C w H locs lv ls st') (hrr : rr r w (.returned v))
    (hw : ∀ (cells slots : Nat) (Qc : Array Value → State → Outcome → State → Prop) (free : Addr → Prop), (∀ t : State, t.heap = H → (mS (cM C)).WarmedH t.vm → Qc (mA (cM C)) (mS (cM C)) (.returned v) t) → (∀ q ∈ locs, free q.base) → WM (cM C) H locs cells slots (MQ (mB (cM C)) Qc (mA (cM C)) (mS (cM C)) cells slots free) g) :
    WM (cM C) H locs cells slots (QF C rr (w, r)) g := by
  refine W.shrink (xB (cG C)) K.b0 (fun h7 h8 => ?_)
  obtain ⟨r1, r2⟩ := h.room K h7 h8 (a := 0) (b := 0) h.cl h.sl
  refine W.widen (k := (mR (cM C)).cells) (n := (mR (cM C)).slots) r1 r2 ?_
  refine W.mono (fun t ht => ?_) (hw _ _ (fun _ _ o t => rr r w o ∧ Inv (cG C) w t.heap ∧ (cF C = true → Fx w) ∧ Nx (cW C) w) (fun q => xB (cG C) ≤ q) (fun t e _ => ⟨hrr, by rw [e]; exact h.inv, h.fx, h.nx⟩) h.lc)
  obtain ⟨o, a1, a2, ⟨b1, b2, b3, b4⟩, L, ⟨_, c2, c3⟩, c4⟩ := ht
  exact ⟨o, a1, a2, b1, b2, b3, b4, c2, L, c3, c4⟩
theorem j_iret' {r : α} {b : Bool} {x : Int32} (K : Cx C cc own d) (hr : (mH (cM C)).sig.returnType = some .int) (hrr : rr r w (.returned (some (.int x)))) (hd : decode cc pc = .ok (.ireturn, 1)) : Jf C rr (some (w, r)) w pc lv [aB b x] :=
  fun res hX H locs cells slots ls h => by
    cases hX
    exact ret_core K h hrr (fun _ _ _ _ hq hf => W.iret K.ex K.cb hr hq hf hd K.lk)
theorem j_zret' {r : α} {x : Int32} (K : Cx C cc own d) (hr : (mH (cM C)).sig.returnType = some .boolean) (hrr : B01 x → rr r w (.returned (some (.int x)))) (hd : decode cc pc = .ok (.ireturn, 1)) : Jf C rr (some (w, r)) w pc lv [aZ x] :=
  fun res hX H locs cells slots ls h => by
    cases hX
    have hb : B01 x := h.hd rfl
    exact ret_core K h (hrr hb) (fun _ _ _ _ hq hf => W.zret K.ex K.cb hr (nar01 hb).1 hq hf hd K.lk)
theorem j_vret' {r : α} (K : Cx C cc own d) (hr : (mH (cM C)).sig.returnType = none) (hrr : rr r w (.returned none)) (hd : decode cc pc = .ok (.return_, 1)) : Jf C rr (some (w, r)) w pc lv [] :=
  fun res hX H locs cells slots ls h => by
    cases hX
    exact ret_core K h hrr (fun _ _ _ _ hq hf => W.vret K.ex K.cb hr hq hf hd K.lk)
theorem j_aret' {r : α} {t : Nat} {v : Option Nat} {ty : FieldType} (K : Cx C cc own d) (hr : (mH (cM C)).sig.returnType = some ty) (hty : (∃ n, ty = .object n) ∨ ∃ n, ty = .array n) (hrr : Ty w t v → rr r w (.returned (some (rf (cG C) v)))) (hd : decode cc pc = .ok (.areturn, 1)) : Jf C rr (some (w, r)) w pc lv [aR t v] :=
  fun res hX H locs cells slots ls h => by
    cases hX
    exact ret_core K h (hrr h.hd) (fun _ _ _ _ hq hf => W.aret K.ex K.cb hr hty (by cases v with | none => exact Or.inl rfl | some a => exact Or.inr ⟨_, rfl⟩) hq hf hd K.lk)
theorem ok1 {w : Wd} {v : AV} (h : OkV w v) : ∀ u ∈ [v], OkV w u := okc h (fun _ h => by cases h)
theorem j_iret {b : Bool} {x : Int32} (K : Cx C cc own d) (hr : (mH (cM C)).sig.returnType = some .int) (hd : decode cc pc = .ok (.ireturn, 1)) : Jf C (rrV (cG C) pI) (some (w, x)) w pc lv [aB b x] := j_iret' K hr ⟨_, rfl, rfl, ok1 (okI w x)⟩ hd
theorem j_zret {x : Int32} (K : Cx C cc own d) (hr : (mH (cM C)).sig.returnType = some .boolean) (hd : decode cc pc = .ok (.ireturn, 1)) : Jf C (rrV (cG C) pZ) (some (w, x)) w pc lv [aZ x] := j_zret' K hr (fun hb => ⟨_, rfl, rfl, ok1 (okZ w hb)⟩) hd
theorem j_vret (K : Cx C cc own d) (hr : (mH (cM C)).sig.returnType = none) (hd : decode cc pc = .ok (.return_, 1)) : Jf C (rrV (cG C) pU) (some (w, ())) w pc lv [] := j_vret' K hr ⟨_, rfl, rfl, fun _ h => by cases h⟩ hd
theorem j_aret {t : Nat} {v : Option Nat} {ty : FieldType} (K : Cx C cc own d) (hr : (mH (cM C)).sig.returnType = some ty) (hty : (∃ n, ty = .object n) ∨ ∃ n, ty = .array n) (hd : decode cc pc = .ok (.areturn, 1)) : Jf C (rrV (cG C) (pR t)) (some (w, v)) w pc lv [aR t v] := j_aret' K hr hty (fun h => ⟨_, rfl, rfl, ok1 h⟩) hd
theorem j_iretX {b : Bool} {x : Int32} (K : Cx C cc own d) (hr : (mH (cM C)).sig.returnType = some .int) (hd : decode cc pc = .ok (.ireturn, 1)) : Jf C (rrX (cG C) pI) (some (w, .inl x)) w pc lv [aB b x] := j_iret' K hr ⟨_, rfl, rfl, ok1 (okI w x)⟩ hd
theorem j_zretX {x : Int32} (K : Cx C cc own d) (hr : (mH (cM C)).sig.returnType = some .boolean) (hd : decode cc pc = .ok (.ireturn, 1)) : Jf C (rrX (cG C) pZ) (some (w, .inl x)) w pc lv [aZ x] := j_zret' K hr (fun hb => ⟨_, rfl, rfl, ok1 (okZ w hb)⟩) hd
theorem j_vretX (K : Cx C cc own d) (hr : (mH (cM C)).sig.returnType = none) (hd : decode cc pc = .ok (.return_, 1)) : Jf C (rrX (cG C) pU) (some (w, .inl ())) w pc lv [] := j_vret' K hr ⟨_, rfl, rfl, fun _ h => by cases h⟩ hd
theorem j_aretX {t : Nat} {v : Option Nat} {ty : FieldType} (K : Cx C cc own d) (hr : (mH (cM C)).sig.returnType = some ty) (hty : (∃ n, ty = .object n) ∨ ∃ n, ty = .array n) (hd : decode cc pc = .ok (.areturn, 1)) : Jf C (rrX (cG C) (pR t)) (some (w, .inl v)) w pc lv [aR t v] := j_aret' K hr hty (fun h => ⟨_, rfl, rfl, ok1 h⟩) hd
end JRet
/-- the room of a call d deep, all that the world says is left -/
def rmm (d : Nat) (w : Wd) (S0 : Nat) : Room := { frames := d, cells := LIMC + 8 - gN w, slots := LIMS - S0, locals := 64 * d }
def PcM (G : Gx) (φ : Bool) (av : List AV) (w : Wd) (S0 : Nat) : Array Value → State → Prop := fun a U => a = (av.map (cv G)).toArray ∧ En G U ∧ Inv G w U.heap ∧ (φ = true → Fx w) ∧ (∀ v ∈ av, OkV w v) ∧ SlotSum (xB G) U.heap = S0
theorem PcM.blind {G : Gx} {φ : Bool} {av : List AV} {w : Wd} {S0 : Nat} : FrameBlind (PcM G φ av w S0) := fun _ _ _ _ h => ⟨h.1, h.2.1.blind, h.2.2⟩
/-- A CONTRACT: called with av in the world w the method does what the function's value X says -/
def Mt {β : Type} (G : Gx) (φ : Bool) (l : Launch) (y : MethodName) (ws : List Cond) (d : Nat) (rr : β → Wd → Outcome → Prop) (av : List AV) (w : Wd) (X : Option (Wd × β)) : Prop :=
  ∀ res, X = some res → ∀ S0, MetFree l y (headSpec ws (rmm d w S0)) (PcM G φ av w S0) (fun _ _ _ _ _ => True) (fun _ st o t => QR G φ rr w st res (LIMC + 8 - gN w) (LIMS - S0) o t)
def lvA : List AV → Lv
  | [] => []
  | .inl q :: l => some (.inl q) :: lvA l
  | .inr (.inl x) :: l => some (.inr (.inl x)) :: none :: lvA l
  | .inr (.inr q) :: l => some (.inr (.inr q)) :: lvA l
def lv0 (nL : Nat) (av : List AV) : Lv := lvA av ++ List.replicate (nL - stW av) none
theorem lvA_spec (G : Gx) : ∀ (l : List AV) (n i : Nat) (v : AV), (lvA l)[i]? = some (some v) → (n + i, cv G v) ∈ lv_args n (l.map (cv G)) ∧ v ∈ l
  | [], n, i, v, h => by simp [lvA] at h
  | .inl q :: l, n, 0, v, h => by
    simp only [lvA, List.getElem?_cons_zero, Option.some.injEq] at h
    subst h
    exact ⟨List.mem_cons_self, List.mem_cons_self⟩
  | .inl q :: l, n, i + 1, v, h => by
    simp only [lvA, List.getElem?_cons_succ] at h
    obtain ⟨h1, h2⟩ := lvA_spec G l (n + 1) i v h
    refine ⟨List.mem_cons_of_mem _ ?_, List.mem_cons_of_mem _ h2⟩
    have e : n + 1 + i = n + (i + 1) := by omega
    rw [← e]
    exact h1
  | .inr (.inl x) :: l, n, 0, v, h => by
    simp only [lvA, List.getElem?_cons_zero, Option.some.injEq] at h
    subst h
    exact ⟨List.mem_cons_self, List.mem_cons_self⟩
  | .inr (.inl x) :: l, n, 1, v, h => by
    simp [lvA] at h
  | .inr (.inl x) :: l, n, i + 2, v, h => by
    simp only [lvA, List.getElem?_cons_succ] at h
    obtain ⟨h1, h2⟩ := lvA_spec G l (n + 2) i v h
    refine ⟨List.mem_cons_of_mem _ ?_, List.mem_cons_of_mem _ h2⟩
    have e : n + 2 + i = n + (i + 2) := by omega
    rw [← e]
    exact h1
  | .inr (.inr (t, u)) :: l, n, 0, v, h => by
    simp only [lvA, List.getElem?_cons_zero, Option.some.injEq] at h
    subst h
    exact ⟨List.mem_cons_self, List.mem_cons_self⟩
  | .inr (.inr (t, u)) :: l, n, i + 1, v, h => by
    simp only [lvA, List.getElem?_cons_succ] at h
    obtain ⟨h1, h2⟩ := lvA_spec G l (n + 1) i v h
    refine ⟨List.mem_cons_of_mem _ ?_, List.mem_cons_of_mem _ h2⟩
    have e : n + 1 + i = n + (i + 1) := by omega
    rw [← e]
    have e2 : (if (cv G (.inr (.inr (t, u)))).category = 2 then n + 2 else n + 1) = n + 1 := by
      rw [catA_cv]
      rfl
    show (n + 1 + i, cv G v) ∈ lv_args (if (cv G (.inr (.inr (t, u)))).category = 2 then n + 2 else n + 1) _
    rw [e2]
    exact h1
theorem lgsl_len (G : Gx) : ∀ l : List AV, (lg_sl (l.map (cv G))).length = stW l
  | [] => rfl
  | v :: l => by
    have ih := lgsl_len G l
    have h := catA_cv G v
    show (lg_sl (cv G v :: l.map (cv G))).length = catA v + stW l
    unfold lg_sl at ih ⊢
    rw [List.flatMap_cons, List.length_append, ih, h]
    match v with
    | .inl q => rfl
    | .inr (.inl x) => rfl
    | .inr (.inr q) => rfl
theorem lv0_ok {G : Gx} {w : Wd} {nL : Nat} {av : List AV} (hlen : Nat.ble (stW av) nL = true) (hok : ∀ v ∈ av, OkV w v) : LvOk G w nL (lv0 nL av) ((lg_sl (av.map (cv G)) ++ List.replicate (nL - (lg_sl (av.map (cv G))).length) Slot.unset).toArray) := by
  have h := lv_entry (av.map (cv G)) (n := nL) (by rw [lgsl_len]; exact Nat.le_of_ble_eq_true hlen)
  refine ⟨h.1, h.2.1, fun i v hi => ?_⟩
  have h2 : (lvA av)[i]? = some (some v) := by
    unfold lv0 at hi
    rw [List.getElem?_append] at hi
    split at hi
    · exact hi
    · rw [List.getElem?_replicate] at hi
      split at hi <;> simp at hi
  obtain ⟨h3, h4⟩ := lvA_spec G av 0 i v h2
  rw [Nat.zero_add] at h3
  exact ⟨h.2.2 _ h3, hok v h4⟩
theorem Mt.of {β : Type} {G : Gx} {φ : Bool} {l : Launch} {y : MethodName} {cc : ByteArray} {nL : Nat} {ret : Option FieldType} {d : Nat} {rr : β → Wd → Outcome → Prop} {av : List AV} {w : Wd} {X : Option (Wd × β)} (hG : GW G) (hl : l.stackTraces = false) {own : String} (hy : plainName y.cls = true) (ho : y.cls = own) (hlen : Nat.ble (stW av) nL = true)
    (body : ∀ M : Mx, mL M = l → (mH M).sig.returnType = ret → (mH M).name = y.name → (∀ x ∈ (mC M).exceptionTable.toList, False) → (mS M).methodNamed? y = some (mM M) → Cx (G, φ, M, nL, w) cc own d → Jf (G, φ, M, nL, w) rr X w 0 (lv0 nL av) []) : Mt G φ l y (ws_ y cc nL ret) d rr av w X := by
  subst ho
  intro res hX S0
  refine MetFree.of_bodyS (code := cc) (maxLocals := nL) (ret := ret) hy ?_ ?_
  · intro args s m h hn
    obtain ⟨meth, c, h1, h2, h3, h4, h5, h6, -, -⟩ := Cond.code_spec hn (atoms_spec (ws := ws_ y cc nL ret) h _ List.mem_cons_self)
    exact ⟨meth, c, h1, h2, h3, h4, h5, h6⟩
  · intro p e s m args below meth c s₁ B hml hP _
    obtain ⟨rfl, hEn, hInv, hFx, hOk, hS0⟩ := hP
    have hh0 : s₁.heap = s.heap := by rw [B.state]; rfl
    have hts0 := atoms_spec (ws := ws_ y cc nL ret) B.pre
    have hts : ∀ w ∈ lw_all, w.before (av.map (cv G)).toArray s = true := fun w h => hts0 w (List.mem_cons_of_mem _ h)
    have ht : ∀ x ∈ c.exceptionTable.toList, False := by
      obtain ⟨meth9, c9, h1, h2, -, -, -, -, h7, -⟩ := Cond.code_spec B.named (hts0 _ List.mem_cons_self)
      cases Option.some.inj (h1.symm.trans B.method)
      cases Option.some.inj (h2.symm.trans (Stand.of_body B).code)
      intro x hx
      have h8 : c.exceptionTable = #[] := by simpa using h7
      rw [h8] at hx
      cases hx
    have K : Cx (G, φ, (p, l, e, (headSpec (ws_ y cc nL ret) (rmm d w S0)).room, s, m, (av.map (cv G)).toArray, below, meth, c), nL, w) cc y.cls d :=
      ⟨B.exec, B.bytes, hml, findClass_of_methodNamed B.named, hts, B.notSynchronized, hEn, hG, Nat.le_refl _, Nat.le_refl _, rfl, by rw [hS0]; rfl, ⟨hInv.1.2, hInv.1.1⟩, hl⟩
    have hJ := body _ rfl B.returns (name_of_methodNamed B.named B.method).1 ht B.named K res hX s.heap [] 0 0 _ ⟨hInv, hFx, Nx.rf w, (fun _ h => by cases h), lv0_ok hlen hOk, fun _ h => by cases h⟩
    obtain ⟨t, a1, o, b1, b2, b3⟩ := hJ s₁ hh0 (Stand.of_body B)
    refine ⟨t, o, ?_, b1, b2, b3⟩
    rw [lg_entry_eq]
    exact a1
theorem Mt.met {β : Type} {G : Gx} {φ : Bool} {l : Launch} {y : MethodName} {ws : List Cond} {d : Nat} {push : β → List AV} {av : List AV} {w : Wd} {X : Option (Wd × β)} (hM : Mt G φ l y ws d (rrV G push) av w X) {res : Wd × β} (hX : X = some res) (S0 : Nat) :
    Met l y ws (rmm d w S0) (PcM G φ av w S0) (fun _ _ o t => rrV G push res.2 res.1 o ∧ Inv G res.1 t.heap ∧ (φ = true → Fx res.1) ∧ Nx w res.1) (LIMC + 8 - gN w) (LIMS - S0) (fun q => xB G ≤ q) := by
  intro p e ha hc hk s m args below hf happ hP hK
  obtain ⟨n, o, h1, h2, h3, b1, b2, b3, b4, b5, L, b6, b7⟩ := hM res hX S0 p e ha hc hk s m args below hf happ hP hK
  refine ⟨n, o, h1, h2, h3, ⟨b1, b2, b3, b4⟩, L, ⟨?_, b5, b6⟩, b7⟩
  obtain ⟨v, hv, -⟩ := b1
  exact ⟨v, hv⟩
def FU : Nat := 4000
section JCall
variable {α β : Type} {C : Cw} {rr : α → Wd → Outcome → Prop} {cc : ByteArray} {own : String} {d : Nat} {w : Wd} {pc : Nat} {lv : Lv} {st st0 : List AV} {push : β → List AV} {Y : Option (Wd × β)} {Z : Wd × β → Option (Wd × α)} {y : MethodName} {cb : ByteArray} {nb ix n : Nat} {ret : Option FieldType}
theorem map_rs (G : Gx) (As st : List AV) (v : AV) : (As.reverse ++ v :: st).map (cv G) = (As.map (cv G)).reverse ++ cv G v :: st.map (cv G) := by
  rw [List.map_append, List.map_reverse, List.map_cons]
theorem call_go {H : Heap} {locs : List Loc} {ls : Array Slot} {cells slots mc ms : Nat} {res : Wd × α} {r : Wd × β} {st' : List AV} (h : IJ C w H locs lv ls st') (hst : ∀ v ∈ st, OkV w v) (hr : CallRun (mP (cM C)) (mL (cM C)) (mE (cM C)) (mR (cM C)) (mS (cM C)) (mM (cM C)) (mA (cM C)) (mB (cM C)) (mH (cM C)) (mC (cM C)) H locs cells slots mc ms (F0 (mM (cM C)) pc ls (st0.map (cv (cG C)))) (st.map (cv (cG C))) (fun _ o t => rrV (cG C) push r.2 r.1 o ∧ Inv (cG C) r.1 t.heap ∧ (cF C = true → Fx r.1) ∧ Nx w r.1) (fun q => xB (cG C) ≤ q))
    (kk : Jf C rr (some res) r.1 (pc + 3) lv (push r.2 ++ st)) : WM (cM C) H locs cells slots (QF C rr res) (F0 (mM (cM C)) pc ls (st0.map (cv (cG C)))) := by
  intro T hT X
  obtain ⟨v, st₀, t, T', L, h0, XT, hL, e1, ⟨⟨v', ov, hv1, hv2⟩, i1, i2, i3⟩, go⟩ := hr T hT X
  cases ov
  obtain ⟨t2, a1, b1⟩ := kk res rfl T'.heap (locs ++ L) _ _ ls ⟨by rw [e1]; exact i1, i2, h.nx.tr i3, (fun q hq => by
    rcases List.mem_append.mp hq with z | z
    · exact h.lc q z
    · exact hL q z), h.lo.nx i3, (fun u hu => by
    rcases List.mem_append.mp hu with z | z
    · exact hv2 u z
    · exact (hst u z).nx i3)⟩ T' rfl XT
  refine ⟨t2, go t2 ?_, b1⟩
  rw [List.map_append, ← hv1] at a1
  exact a1
theorem pre_ok {H : Heap} {locs : List Loc} {ls : Array Slot} {st' : List AV} {av : List AV} {a : Array Value} (K : Cx C cc own d) (h : IJ C w H locs lv ls st') (hav : ∀ v ∈ av, OkV w v) (ha : a = (av.map (cv (cG C))).toArray) (U : State) (hU : U.heap = H) (hW : (mS (cM C)).WarmedH U.vm) : PcM (cG C) (cF C) av w (SlotSum (xB (cG C)) H) a U :=
  ⟨ha, K.en.moved hW (by rw [hU]; exact h.inv.2.2.2.2.1), by rw [hU]; exact h.inv, h.fx, hav, by rw [hU]⟩
theorem bindS {X : Option (Wd × β)} {Z : Wd × β → Option (Wd × α)} {res : Wd × α} (h : X.bind Z = some res) : ∃ r, X = some r ∧ Z r = some res := by
  cases X with
  | none => cases h
  | some r => exact ⟨r, rfl, h⟩
theorem j_callV {t b : Nat} {v : Option Nat} {Cn : String} {T : u_T} {N : Nat} (As : List AV) (K : Cx C cc own (d + 1)) (hM : Mt (cG C) (cF C) (mL (cM C)) y (ws_ y cb nb ret) d (rrV (cG C) push) (aR t (some b) :: As) w Y) (hd : decode cc pc = .ok (.invokevirtual ix, 3)) (hc : clz t = some (Cn, T, N)) (ht : (Nat.blt 0 t && Nat.blt t 10) = true)
    (q1 : Cond.methodLink own ix y ∈ lw_all) (q2 : Cond.instanceMethod y ∈ lw_all) (q3 : Cond.selects Cn y y ∈ lw_all) (q4 : Cond.initialized Cn ∈ lw_all) (q5 : Cond.code y cb nb ret ∈ lw_all)
    (hp : y.cls = Cn ∧ y.cls ≠ "java/lang/invoke/MethodHandle" ∧ y.cls ≠ "java/lang/invoke/VarHandle" ∧ (parseMethodDescriptor y.desc).map (fun d => d.parameters.length) = some n) (hnb : Nat.ble nb 45 = true) (hn : As.length = n) (hst : st0 = As.reverse ++ aR t v :: st) (hb : v = some b) (hw : Nat.ble (stW st) 8 = true)
    (kk : ∀ r : Wd × β, Y = some r → Jf C rr (Z r) r.1 (pc + 3) lv (push r.2 ++ st)) : Jf C rr (Y.bind Z) w pc lv st0 :=
  fun res hX H locs cells slots ls h => by
    obtain ⟨r, hY, hZ⟩ := bindS hX
    subst hst
    subst hb
    have hok : ∀ u ∈ aR t (some b) :: As, OkV w u := fun u hu => by
      rcases List.mem_cons.mp hu with z | z
      · rw [z]; exact h.ok _ (List.mem_append_right _ List.mem_cons_self)
      · exact h.ok _ (List.mem_append_left _ (List.mem_reverse.mpr z))
    have hst' : ∀ u ∈ st, OkV w u := fun u hu => h.ok _ (List.mem_append_right _ (List.mem_cons_of_mem _ hu))
    have t9 := blt2 ht
    obtain ⟨-, -, c, c1, c2, c3, -⟩ := h.cell (by omega) (by omega) (hok _ List.mem_cons_self)
    refine W.shrink (xB (cG C)) K.b0 (fun h7 h8 => ?_)
    have hrm := h.room K h7 h8 (a := LIMC + 8 - gN w) (b := LIMS - SlotSum (xB (cG C)) H) (by have := h.cl; omega) (by have := h.sl; omega)
    have hfr := K.fr
    have hlo := K.lo
    have hnb' := Nat.le_of_ble_eq_true hnb
    refine call_go h hst' (W.runV (Ts := lw_all) (C := Cn) (As := As.map (cv (cG C))) (b := xA (cG C) b) ⟨K.ex, K.cb, K.ml, K.ow, K.ts⟩ (hM.met hY (SlotSum (xB (cG C)) H)) (cwV n K.ts (lw_V q1 q2 q3 q4 q5) rfl rfl rfl hp ⟨hfr, by show 8 + (nb + 11) + 64 * d ≤ _; omega⟩) ⟨PcM.blind, ⟨c, c1, by rw [c2]; rfl, by rw [c3]; exact (K.en.1.1 t _ _ _ hc).2.1⟩, fun U hU hW => pre_ok K h hok rfl U hU hW⟩ rfl (by rw [List.length_map]; exact hn) h.lo.1 (map_rs _ _ _ _) (lv_room (by rw [stW_sum]; exact Nat.le_of_ble_eq_true hw)) hd hrm) ?_
    rw [← hZ]
    exact kk r hY
theorem j_callS (As : List AV) (K : Cx C cc own (d + 1)) (hM : Mt (cG C) (cF C) (mL (cM C)) y (ws_ y cb nb ret) d (rrV (cG C) push) As w Y) (hd : decode cc pc = .ok (.invokestatic ix, 3))
    (q1 : Cond.methodLink own ix y ∈ lw_all) (q2 : Cond.static y ∈ lw_all) (q4 : Cond.initialized y.cls ∈ lw_all) (q5 : Cond.code y cb nb ret ∈ lw_all)
    (hp : y.cls ≠ "java/lang/invoke/MethodHandle" ∧ y.cls ≠ "java/lang/invoke/VarHandle" ∧ (parseMethodDescriptor y.desc).map (fun d => d.parameters.length) = some n) (hnb : Nat.ble nb 45 = true) (hn : As.length = n) (hst : st0 = As.reverse ++ st) (hw : Nat.ble (stW st) 8 = true)
    (kk : ∀ r : Wd × β, Y = some r → Jf C rr (Z r) r.1 (pc + 3) lv (push r.2 ++ st)) : Jf C rr (Y.bind Z) w pc lv st0 :=
  fun res hX H locs cells slots ls h => by
    obtain ⟨r, hY, hZ⟩ := bindS hX
    subst hst
    have hok : ∀ u ∈ As, OkV w u := fun u hu => h.ok _ (List.mem_append_left _ (List.mem_reverse.mpr hu))
    have hst' : ∀ u ∈ st, OkV w u := fun u hu => h.ok _ (List.mem_append_right _ hu)
    refine W.shrink (xB (cG C)) K.b0 (fun h7 h8 => ?_)
    have hrm := h.room K h7 h8 (a := LIMC + 8 - gN w) (b := LIMS - SlotSum (xB (cG C)) H) (by have := h.cl; omega) (by have := h.sl; omega)
    have hfr := K.fr
    have hlo := K.lo
    have hnb' := Nat.le_of_ble_eq_true hnb
    refine call_go h hst' (W.runS (Ts := lw_all) (As := As.map (cv (cG C))) ⟨K.ex, K.cb, K.ml, K.ow, K.ts⟩ (hM.met hY (SlotSum (xB (cG C)) H)) (va_cwS n K.ts (lw_S q1 q2 q4 q5) rfl rfl rfl hp ⟨hfr, by show 8 + (nb + 11) + 64 * d ≤ _; omega⟩) ⟨PcM.blind, fun U hU hW => pre_ok K h hok rfl U hU hW⟩ rfl (by rw [List.length_map]; exact hn) h.lo.1 (by show List.map _ _ = _; rw [List.map_append, List.map_reverse]) (lv_room (by rw [stW_sum]; exact Nat.le_of_ble_eq_true hw)) hd hrm) ?_
    rw [← hZ]
    exact kk r hY
end JCall
