set_option maxRecDepth 100000
/-! ===== the classes, what a state must know of them ===== -/
def clz (kd : Nat) : Option vw_C := match kd with
  | 1 => some (RX1, TX1, 34) | 2 => some (RX2, TX2, 6) | 3 => some (RX3, TX3, 52) | 4 => some (RX4, TX4, 15) | 5 => some (RX5, TX5, 3) | 6 => some (RX6, TX6, 7) | _ => none
def tyz (kd : Nat) : Nat → FieldType := match kd with
  | 1 => tyX1 | 2 => tyX2 | 3 => tyX3 | 4 => tyX4 | 5 => tyX5 | _ => tyX6
/-- the element types of the arrays -/
def tyA (kd : Nat) : Option FieldType := match kd with
  | 10 => some .int | 11 => some .boolean | 12 => some .byte | 13 => some .long | 14 => some (.object RX4) | 15 => some (.object "IntervalTree$Filter") | 16 => some (.object "IntervalTree$Property") | 17 => some (.object RX2) | 18 => some .int | 19 => some .int | _ => none
theorem clz_ok {kd : Nat} {C : String} {T : u_T} {N : Nat} (h : clz kd = some (C, T, N)) : (∀ w ∈ u_ws C T N, w ∈ lw_all) ∧ (∀ k, k < N → parseFieldDescriptor (T k).2.2.1 = some (tyz kd k)) ∧ (∀ a, a < N → ∀ b, b < N → a ≠ b → (T a).2.1 ≠ (T b).2.1) := by
  unfold clz at h
  split at h <;> cases h
  · exact ⟨in_X1, tyX1_ok, nmX1⟩
  · exact ⟨in_X2, tyX2_ok, nmX2⟩
  · exact ⟨in_X3, tyX3_ok, nmX3⟩
  · exact ⟨in_X4, tyX4_ok, nmX4⟩
  · exact ⟨in_X5, tyX5_ok, nmX5⟩
  · exact ⟨in_X6, tyX6_ok, nmX6⟩
def EnC (G : Gx) (U : State) : Prop := (∀ kd C T N, clz kd = some (C, T, N) → u_Kn U C T N (xK G kd) (xF G kd)) ∧ (∀ kd ty, tyA kd = some ty → ArrOfT U (xK G kd) ty ∧ va_RA U (xK G kd) ty)
theorem EnC.moved {G : Gx} {u U : State} (hvm : u.vm.Alike U.vm) (h : EnC G u) : EnC G U := ⟨fun kd C T N e => u_Kn_moved hvm (h.1 kd C T N e), fun kd ty e => ⟨arrOfT_moved hvm (h.2 kd ty e).1, (h.2 kd ty e).2.moved hvm⟩⟩
/-- words of the tables that don't ride by themselves -/
def nst (w : Cond) : Bool := match w with
  | .castable _ _ => true
  | .declares _ => true
  | .fieldLinkNest _ _ _ _ _ _ => true
  | .methodLinkNest _ _ _ _ => true
  | _ => false
def EnW (U : State) : Prop := ∀ w ∈ lw_tbl, nst w = true → va_Nw w U
theorem EnW.moved {u U : State} (hW : u.WarmedH U.vm) (h : EnW u) : EnW U := fun w hw hn => by
  match w, hn with
  | .castable C T, _ => exact va_Nw.warmC hW (h _ hw rfl)
  | .declares x, _ => exact va_Nw.warmD hW (h _ hw rfl)
  | .fieldLinkNest a i b n d h0, _ => exact va_Nw.warmF hW (h _ hw rfl)
  | .methodLinkNest a i x h0, _ => exact va_Nw.warmM hW (h _ hw rfl)
def EnO (U : State) : Prop := ∀ C, Cond.arrayOver (.object C) ∈ lw_tbl → va_AO C U
def EnS (U : State) : Prop := ∀ own k tx, Cond.stringRef own k tx ∈ lw_tbl → ∃ sa, vk_R own k tx sa U
abbrev xN (G : Gx) : Nat → Prop := fun q => xB G ≤ q
def EnU (G : Gx) (U : State) : Prop := vx_Zq Bundle.tN "UNASSIGNED_STACK" Bundle.steD (xN G) U (xH G) ∧ vx_Zq Bundle.tN "SUPPRESSED_SENTINEL" Bundle.listD (xN G) U (xH G) ∧ va_Z "IntervalTree" "TABLE" "[I" (.ref (xA G 0)) (xN G) U (xH G)
def excN (kd : Nat) : Option String := match kd with
  | 40 => some "java/lang/IllegalArgumentException" | 41 => some "java/lang/IllegalStateException" | 42 => some "java/util/NoSuchElementException" | 43 => some "java/lang/IndexOutOfBoundsException" | _ => none
def EnN (G : Gx) (U : State) : Prop := (∀ kd E, excN kd = some E → U.vm.findClass E = some (xK G kd)) ∧ (∀ kd kd' E E', excN kd = some E → excN kd' = some E' → kd ≠ kd' → va_Nc E E' U) ∧ EnL G U
/-- what else is known of the start, by the tables and the base heap alone -/
def EnZ (G : Gx) (U : State) : Prop := EnW U ∧ EnO U ∧ EnS U ∧ EnU G U ∧ EnN G U
theorem EnZ.moved {G : Gx} {u U : State} (hW : u.WarmedH U.vm) (h : EnZ G u) : EnZ G U :=
  ⟨h.1.moved hW, fun C hC => va_AO.moved hW.alike (h.2.1 C hC), fun own k tx hC => by
    obtain ⟨sa, q⟩ := h.2.2.1 own k tx hC
    exact ⟨sa, vk_R.warm hW q⟩, ⟨vx_Zq.moved hW.alike h.2.2.2.1.1, vx_Zq.moved hW.alike h.2.2.2.1.2.1, va_Z.moved hW.alike h.2.2.2.1.2.2⟩,
    ⟨fun kd E e => by rw [hW.alike.findClass]; exact h.2.2.2.2.1 kd E e, fun kd kd' E E' e e' hne => va_Nc.moved hW.alike (h.2.2.2.2.2.1 kd kd' E E' e e' hne), h.2.2.2.2.2.2.moved hW⟩⟩
def En (G : Gx) (U : State) : Prop := EnC G U ∧ EnZ G U ∧ ∀ q, q < xB G → U.heap[q]? = (xH G)[q]?
theorem En.moved {G : Gx} {u U : State} (hW : u.WarmedH U.vm) (hH : ∀ q, q < xB G → U.heap[q]? = (xH G)[q]?) (h : En G u) : En G U := ⟨h.1.moved hW.alike, h.2.1.moved hW, hH⟩
theorem En.blind {G : Gx} {U : State} {g : JFrame} {mk : MethodId} {a : Array Value} (h : En G U) : En G (U.calling g mk a) := En.moved (u := U) (State.WarmedH.refl U) h.2.2 h
/-! ===== the judgement ===== -/
abbrev Mx : Type := Program × Launch × Env × Room × State × MethodId × Array Value × List Frame × Method × Code
abbrev mP (M : Mx) : Program := M.1
abbrev mL (M : Mx) : Launch := M.2.1
abbrev mE (M : Mx) : Env := M.2.2.1
abbrev mR (M : Mx) : Room := M.2.2.2.1
abbrev mS (M : Mx) : State := M.2.2.2.2.1
abbrev mM (M : Mx) : MethodId := M.2.2.2.2.2.1
abbrev mA (M : Mx) : Array Value := M.2.2.2.2.2.2.1
abbrev mB (M : Mx) : List Frame := M.2.2.2.2.2.2.2.1
abbrev mH (M : Mx) : Method := M.2.2.2.2.2.2.2.2.1
abbrev mC (M : Mx) : Code := M.2.2.2.2.2.2.2.2.2
abbrev WM (M : Mx) (H : Heap) (locs : List Loc) (cells slots : Nat) (Q : State → Prop) (g : JFrame) : Prop := W (mP M) (mL M) (mE M) (mR M) (mS M) (mM M) (mA M) (mB M) (mH M) (mC M) H locs cells slots Q g
/-- a walk: the setting, whether the two great objects stand, the machine, the locals' number, the world at the entry -/
abbrev Cw : Type := Gx × Bool × Mx × Nat × Wd
abbrev cG (C : Cw) : Gx := C.1
abbrev cF (C : Cw) : Bool := C.2.1
abbrev cM (C : Cw) : Mx := C.2.2.1
abbrev cL (C : Cw) : Nat := C.2.2.2.1
abbrev cW (C : Cw) : Wd := C.2.2.2.2
/-- a method's end -/
def QR {α : Type} (G : Gx) (φ : Bool) (rr : α → Wd → Outcome → Prop) (w0 : Wd) (s : State) (res : Wd × α) (mc ms : Nat) (o : Outcome) (t : State) : Prop :=
  rr res.2 res.1 o ∧ Inv G res.1 t.heap ∧ (φ = true → Fx res.1) ∧ Nx w0 res.1 ∧ s.WarmedH t.vm ∧ ∃ L : List Loc, s.sameButNew ({ t with vm := s.vm } : State) L mc ms ∧ ∀ z ∈ L, xB G ≤ z.base
def QF {α : Type} (C : Cw) (rr : α → Wd → Outcome → Prop) (res : Wd × α) : State → Prop := fun t =>
  ∃ o, t.status = .running ∧ Ended t (mB (cM C)) o ∧ QR (cG C) (cF C) rr (cW C) (mS (cM C)) res (mR (cM C)).cells (mR (cM C)).slots o t
def IJ (C : Cw) (w : Wd) (H : Heap) (locs : List Loc) (lv : Lv) (ls : Array Slot) (st : List AV) : Prop :=
  Inv (cG C) w H ∧ (cF C = true → Fx w) ∧ Nx (cW C) w ∧ (∀ q ∈ locs, xB (cG C) ≤ q.base) ∧ LvOk (cG C) w (cL C) lv ls ∧ ∀ v ∈ st, OkV w v
def Jf {α : Type} (C : Cw) (rr : α → Wd → Outcome → Prop) (X : Option (Wd × α)) (w : Wd) (pc : Nat) (lv : Lv) (st : List AV) : Prop :=
  ∀ res, X = some res → ∀ (H : Heap) (locs : List Loc) (cells slots : Nat) (ls : Array Slot), IJ C w H locs lv ls st → WM (cM C) H locs cells slots (QF C rr res) (F0 (mM (cM C)) pc ls (st.map (cv (cG C))))
/-- what holds all through a walk of the method with code cc, of the class own, d frames deep at most -/
def Cx (C : Cw) (cc : ByteArray) (own : String) (d : Nat) : Prop :=
  (mP (cM C)).tables.exec = Jvm.exec ∧ (mC (cM C)).code = cc ∧ (mC (cM C)).maxLocals = cL C ∧ (mS (cM C)).vm.findClass own = some (mM (cM C)).cls ∧ (∀ w ∈ lw_all, w.before (mA (cM C)) (mS (cM C)) = true) ∧ (mH (cM C)).locks = false ∧ En (cG C) (mS (cM C)) ∧ GW (cG C) ∧
  d ≤ (mR (cM C)).frames ∧ 64 * d ≤ (mR (cM C)).locals ∧ (mR (cM C)).cells = LIMC + 8 - gN (cW C) ∧ (mR (cM C)).slots = LIMS - SlotSum (xB (cG C)) (mS (cM C)).heap ∧ ((mS (cM C)).heap.size = xB (cG C) + (gN (cW C) - 8) ∧ 8 ≤ gN (cW C)) ∧ (mL (cM C)).stackTraces = false
section JBase
variable {C : Cw} {cc : ByteArray} {own : String} {d : Nat} {w : Wd} {H : Heap} {locs : List Loc} {lv : Lv} {ls : Array Slot} {st : List AV} {cells slots : Nat}
theorem Cx.ex (K : Cx C cc own d) : (mP (cM C)).tables.exec = Jvm.exec := K.1
theorem Cx.cb (K : Cx C cc own d) : (mC (cM C)).code = cc := K.2.1
theorem Cx.ml (K : Cx C cc own d) : (mC (cM C)).maxLocals = cL C := K.2.2.1
theorem Cx.ow (K : Cx C cc own d) : (mS (cM C)).vm.findClass own = some (mM (cM C)).cls := K.2.2.2.1
theorem Cx.ts (K : Cx C cc own d) : ∀ w ∈ lw_all, w.before (mA (cM C)) (mS (cM C)) = true := K.2.2.2.2.1
theorem Cx.lk (K : Cx C cc own d) : (mH (cM C)).locks = false := K.2.2.2.2.2.1
theorem Cx.en (K : Cx C cc own d) : En (cG C) (mS (cM C)) := K.2.2.2.2.2.2.1
theorem Cx.gw (K : Cx C cc own d) : GW (cG C) := K.2.2.2.2.2.2.2.1
theorem Cx.fr (K : Cx C cc own d) : d ≤ (mR (cM C)).frames := K.2.2.2.2.2.2.2.2.1
theorem Cx.lo (K : Cx C cc own d) : 64 * d ≤ (mR (cM C)).locals := K.2.2.2.2.2.2.2.2.2.1
theorem Cx.rc (K : Cx C cc own d) : (mR (cM C)).cells = LIMC + 8 - gN (cW C) := K.2.2.2.2.2.2.2.2.2.2.1
theorem Cx.rs (K : Cx C cc own d) : (mR (cM C)).slots = LIMS - SlotSum (xB (cG C)) (mS (cM C)).heap := K.2.2.2.2.2.2.2.2.2.2.2.1
theorem Cx.sz (K : Cx C cc own d) : (mS (cM C)).heap.size = xB (cG C) + (gN (cW C) - 8) := K.2.2.2.2.2.2.2.2.2.2.2.2.1.1
theorem Cx.n7 (K : Cx C cc own d) : 8 ≤ gN (cW C) := K.2.2.2.2.2.2.2.2.2.2.2.2.1.2
theorem Cx.tr (K : Cx C cc own d) : (mL (cM C)).stackTraces = false := K.2.2.2.2.2.2.2.2.2.2.2.2.2
theorem IJ.inv (h : IJ C w H locs lv ls st) : Inv (cG C) w H := h.1
theorem IJ.fx (h : IJ C w H locs lv ls st) : cF C = true → Fx w := h.2.1
theorem IJ.nx (h : IJ C w H locs lv ls st) : Nx (cW C) w := h.2.2.1
theorem IJ.lc (h : IJ C w H locs lv ls st) : ∀ q ∈ locs, xB (cG C) ≤ q.base := h.2.2.2.1
theorem IJ.lo (h : IJ C w H locs lv ls st) : LvOk (cG C) w (cL C) lv ls := h.2.2.2.2.1
theorem IJ.ok (h : IJ C w H locs lv ls st) : ∀ v ∈ st, OkV w v := h.2.2.2.2.2
theorem okI (w : Wd) (x : Int32) : OkV w (aI x) := fun e => by cases e
theorem okZ (w : Wd) {x : Int32} (h : B01 x) : OkV w (aZ x) := fun _ => h
theorem okc {v : AV} (hv : OkV w v) (h : ∀ u ∈ st, OkV w u) : ∀ u ∈ v :: st, OkV w u := fun u hu => (List.mem_cons.mp hu).elim (fun e => e ▸ hv) (h u)
/-- another stack -/
theorem IJ.to (h : IJ C w H locs lv ls st) {st' : List AV} (k : ∀ v ∈ st', OkV w v) : IJ C w H locs lv ls st' := ⟨h.1, h.2.1, h.2.2.1, h.2.2.2.1, h.2.2.2.2.1, k⟩
theorem IJ.p (h : IJ C w H locs lv ls st) {v : AV} (hv : OkV w v) : IJ C w H locs lv ls (v :: st) := h.to (okc hv h.ok)
theorem IJ.d1 {a : AV} (h : IJ C w H locs lv ls (a :: st)) : IJ C w H locs lv ls st := h.to (fun v hv => h.ok v (List.mem_cons_of_mem _ hv))
theorem IJ.d2 {a b : AV} (h : IJ C w H locs lv ls (a :: b :: st)) : IJ C w H locs lv ls st := h.d1.d1
theorem IJ.d3 {a b c : AV} (h : IJ C w H locs lv ls (a :: b :: c :: st)) : IJ C w H locs lv ls st := h.d1.d1.d1
theorem IJ.hd {a : AV} (h : IJ C w H locs lv ls (a :: st)) : OkV w a := h.ok a List.mem_cons_self
/-- what has been made so far, counted exactly -/
theorem slotSum_old {b n : Nat} {H0 H : Heap} (hn : H0.size = n) (hb : b ≤ n) (hle : n ≤ H.size) (h : ∀ (a : Nat) (c : Cell), H0[a]? = some c → ∃ c' : Cell, H[a]? = some c' ∧ c'.slots.size = c.slots.size) : SlotSum n H + SlotSum b H0 = SlotSum b H := by
  have e1 := slotSum_split (H := H) hb
  have e2 : (H.toList.take n).map (fun c : Cell => c.slots.size) = H0.toList.map (fun c : Cell => c.slots.size) := by
    apply List.ext_getElem?
    intro i
    rw [List.getElem?_map, List.getElem?_map, List.getElem?_take, Array.getElem?_toList, Array.getElem?_toList]
    by_cases hi : i < n
    · rw [if_pos hi]
      cases hc : H0[i]? with
      | none =>
        have h1 : H0.size ≤ i := by simpa using hc
        omega
      | some c =>
        obtain ⟨c1, q1, q2⟩ := h i c hc
        rw [q1]
        exact congrArg some q2
    · rw [if_neg hi]
      have h2 : H0[i]? = none := by simp; omega
      rw [h2]
  have e3 : SlotSum b H0 = ((H.toList.take n).drop b |>.map (fun c : Cell => c.slots.size)).sum := by
    unfold SlotSum
    rw [List.map_drop, List.map_drop, e2]
  rw [e3, e1, Nat.add_comm]
theorem W.shrink {M : Mx} {Q : State → Prop} {g : JFrame} (b : Nat) (hb : b ≤ (mS M).heap.size) (k : SlotSum (mS M).heap.size H + SlotSum b (mS M).heap = SlotSum b H → (mS M).heap.size ≤ H.size → WM M H locs (H.size - (mS M).heap.size) (SlotSum (mS M).heap.size H) Q g) : WM M H locs cells slots Q g := by
  intro T hT X
  subst hT
  obtain ⟨h1, h2, h3, h4, h5, h6⟩ := X.same
  have h2' : (mS M).heap.size ≤ T.heap.size := h2
  have h7 : SlotSum (mS M).heap.size T.heap + SlotSum b (mS M).heap = SlotSum b T.heap := slotSum_old rfl hb h2' (fun a c hc => by
    obtain ⟨c', q1, -, q2, -⟩ := h6 a c hc
    exact ⟨c', q1, q2⟩)
  refine k h7 h2' T rfl { X with same := ?_ }
  exact ⟨h1, h2, by show T.heap.size ≤ _; omega, h4, Nat.le_refl _, h6⟩
theorem W.mono {M : Mx} {Q Q' : State → Prop} {g : JFrame} (h : ∀ t, Q t → Q' t) (k : WM M H locs cells slots Q g) : WM M H locs cells slots Q' g := fun T hT X => by
  obtain ⟨t, a, b⟩ := k T hT X
  exact ⟨t, a, h t b⟩
/-- the counts at a point of a walk: what is left covers what the world says is left -/
theorem IJ.room (K : Cx C cc own d) (h : IJ C w H locs lv ls st) (h7 : SlotSum (mS (cM C)).heap.size H + SlotSum (xB (cG C)) (mS (cM C)).heap = SlotSum (xB (cG C)) H) (h8 : (mS (cM C)).heap.size ≤ H.size) {a b : Nat} (h1 : gN w + a ≤ LIMC + 8) (h2 : SlotSum (xB (cG C)) H + b ≤ LIMS) :
    H.size - (mS (cM C)).heap.size + a ≤ (mR (cM C)).cells ∧ SlotSum (mS (cM C)).heap.size H + b ≤ (mR (cM C)).slots := by
  have e1 := K.sz
  have e2 := h.inv.1.2
  have e3 := K.n7
  have e4 := h.nx.1
  have e5 := h.inv.1.1
  rw [K.rc, K.rs]
  constructor <;> omega
theorem Cx.b0 (K : Cx C cc own d) : xB (cG C) ≤ (mS (cM C)).heap.size := by rw [K.sz]; exact Nat.le_add_right _ _
theorem IJ.sl (h : IJ C w H locs lv ls st) : SlotSum (xB (cG C)) H ≤ LIMS := Nat.le_trans h.inv.2.2.2.2.2.1 h.inv.2.2.2.2.2.2.1
theorem IJ.cl (h : IJ C w H locs lv ls st) : gN w ≤ LIMC + 8 := h.inv.2.2.2.2.2.2.2.1
end JBase
