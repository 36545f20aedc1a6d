set_option maxRecDepth 100000
/-! ===== the heap holds the world ===== -/
/-- b0 (the heap's size at the law's entry), the heap at the law's entry, index to address, kind to class, kind and field to slot -/
abbrev Gx : Type := Nat × Heap × (Nat → Nat) × (Nat → ClassId) × (Nat → Nat → Nat)
abbrev xB (G : Gx) : Nat := G.1
abbrev xH (G : Gx) : Heap := G.2.1
abbrev xA (G : Gx) : Nat → Nat := G.2.2.1
abbrev xK (G : Gx) : Nat → ClassId := G.2.2.2.1
abbrev xF (G : Gx) : Nat → Nat → Nat := G.2.2.2.2
def LIMC : Nat := 603072
def LIMS : Nat := 7170154
/-- the indices' addresses -/
def GW (G : Gx) : Prop := (∀ i, 8 ≤ i → xA G i = xB G + (i - 8)) ∧ (∀ i, i < 8 → xA G i < xB G) ∧ (xH G).size = xB G
theorem GW.inj {G : Gx} (h : GW G) {i j : Nat} (hi : 8 ≤ i) (e : xA G j = xA G i) : j = i := by
  have h1 := h.1 i hi
  by_cases hj : 8 ≤ j
  · have h2 := h.1 j hj
    omega
  · have h2 := h.2.1 j (by omega)
    omega
def rf (G : Gx) (v : Option Nat) : Value := va_rf (v.map (xA G))
/-- what place k of a cell of kind kd holds -/
def vS (G : Gx) (kd k : Nat) (x : Int32) (r : Option Nat) (j : Int64) : Value := if rt kd k = 99 then (if kd = 13 then .long j else .int x) else rf G r
def COk (G : Gx) (kd ln : Nat) (fI : Nat → Int32) (fR : Nat → Option Nat) (fJ : Nat → Int64) (oc : Option Cell) : Prop :=
  kd = 0 ∨ ∃ c : Cell, oc = some c ∧ c.vm = .none ∧ c.cls = xK G kd ∧
    (kd < 10 → ∀ k, nF kd k = true → c.slots[xF G kd k]? = some (vS G kd k (fI k) (fR k) (fJ k))) ∧
    (10 ≤ kd → kd < 40 → c.slots.size = ln ∧ ∀ k, k < ln → c.slots[k]? = some (vS G kd k (fI k) (fR k) (fJ k)))
def SlotSum (b : Nat) (H : Heap) : Nat := ((H.toList.drop b).map (·.slots.size)).sum
def Inv (G : Gx) (w : Wd) (H : Heap) : Prop :=
  (8 ≤ gN w ∧ H.size = xB G + (gN w - 8)) ∧
  (∀ a, a < gN w → COk G (gK w a) (gL w a) (gI w a) (gR w a) (gJ w a) H[xA G a]?) ∧
  (∀ a k b, a < gN w → gR w a k = some b → b < gN w ∧ okT (rt (gK w a) k) (gK w b) = true) ∧
  (∀ a k, a < gN w → bt (gK w a) k = true → B01 (gI w a k)) ∧
  (∀ q, q < xB G → H[q]? = (xH G)[q]?) ∧
  SlotSum (xB G) H ≤ gS w ∧ gS w ≤ LIMS ∧ gN w ≤ LIMC + 8 ∧ (∀ a, a < 8 → a < gN w → gK w a = 0 ∨ gK w a = 18 ∨ gK w a = 19 ∨ (20 ≤ gK w a ∧ gK w a < 40))
theorem slotSum_push {b : Nat} {H : Heap} {c : Cell} (hb : b ≤ H.size) : SlotSum b (H.push c) = SlotSum b H + c.slots.size := by
  unfold SlotSum
  rw [Array.toList_push, List.drop_append_of_le_length (by simpa using hb), List.map_append, List.sum_append]
  simp
theorem slotSum_split {b n : Nat} {H : Heap} (h : b ≤ n) : SlotSum b H = ((H.toList.take n).drop b |>.map (·.slots.size)).sum + SlotSum n H := by
  unfold SlotSum
  have e : H.toList.drop b = (H.toList.take n).drop b ++ H.toList.drop n := by
    rw [List.drop_take]
    have h1 := List.take_append_drop (n - b) (H.toList.drop b)
    rw [List.drop_drop, show b + (n - b) = n from by omega] at h1
    exact h1.symm
  rw [e, List.map_append, List.sum_append]
/-- cells of the same sizes: the same sum -/
theorem slotSum_same {b : Nat} {H H1 : Heap} (hz : H1.size = H.size) (h : ∀ (q : Nat) (c : Cell), H[q]? = some c → ∃ c1 : Cell, H1[q]? = some c1 ∧ c1.slots.size = c.slots.size) : SlotSum b H1 = SlotSum b H := by
  unfold SlotSum
  have e : H1.toList.map (fun c : Cell => c.slots.size) = H.toList.map (fun c : Cell => c.slots.size) := by
    apply List.ext_getElem?
    intro i
    rw [List.getElem?_map, List.getElem?_map, Array.getElem?_toList, Array.getElem?_toList]
    cases hc : H[i]? with
    | none =>
      have h1 : H.size ≤ i := by simpa using hc
      have h2 : H1[i]? = none := by simp; omega
      rw [h2]
    | some c =>
      obtain ⟨c1, e1, e2⟩ := h i c hc
      rw [e1]
      exact congrArg some e2
  rw [List.map_drop, List.map_drop, e]
theorem setSlot_size (c : Cell) (i : Nat) (v : Value) : (c.setSlot i v).slots.size = c.slots.size := by simp [Cell.setSlot]
theorem slotSum_set {b a i : Nat} {v : Value} {H H1 : Heap} {c : Cell} (hc : H[a]? = some c) (h1 : H1[a]? = some (c.setSlot i v)) (hz : H1.size = H.size) (ho : ∀ q, q ≠ a → H1[q]? = H[q]?) : SlotSum b H1 = SlotSum b H := by
  refine slotSum_same hz (fun q c2 e => ?_)
  by_cases h : q = a
  · subst h
    cases hc.symm.trans e
    exact ⟨_, h1, setSlot_size _ _ _⟩
  · exact ⟨c2, by rw [ho q h]; exact e, rfl⟩
/-- one place of one cell is written: the world behind it -/
theorem Inv.put {G : Gx} {w w' : Wd} {H H1 : Heap} {a i : Nat} {v : Value} {c : Cell} (hG : GW G) (h : Inv G w H) (ha : 8 ≤ a) (hl : a < gN w)
    (hN : gN w' = gN w) (hS : gS w' = gS w) (hK : ∀ b, gK w' b = gK w b) (hL : ∀ b, gL w' b = gL w b)
    (hI : ∀ b, b ≠ a → gI w' b = gI w b) (hR : ∀ b, b ≠ a → gR w' b = gR w b) (hJ : ∀ b, b ≠ a → gJ w' b = gJ w b)
    (hc : H[xA G a]? = some c) (h1 : H1[xA G a]? = some (c.setSlot i v)) (hz : H1.size = H.size) (ho : ∀ q, q ≠ xA G a → H1[q]? = H[q]?)
    (hnew : COk G (gK w a) (gL w a) (gI w' a) (gR w' a) (gJ w' a) (some (c.setSlot i v)))
    (hT : ∀ k b, gR w' a k = some b → b < gN w ∧ okT (rt (gK w a) k) (gK w b) = true)
    (hB : ∀ k, bt (gK w a) k = true → B01 (gI w' a k)) : Inv G w' H1 := by
  obtain ⟨i1, i2, i3, i4, i5, i6, i7, i8, i9⟩ := h
  refine ⟨⟨by rw [hN]; exact i1.1, by rw [hz, hN]; exact i1.2⟩, ?_, ?_, ?_, ?_, ?_, by rw [hS]; exact i7, by rw [hN]; exact i8, ?_⟩
  · intro b hb
    rw [hN] at hb
    rw [hK, hL]
    by_cases e : b = a
    · subst e
      rw [h1]
      exact hnew
    · rw [hI b e, hR b e, hJ b e, ho _ (fun z => e (hG.inj ha z))]
      exact i2 b hb
  · intro b k x hb hx
    rw [hN] at hb
    rw [hN, hK, hK]
    by_cases e : b = a
    · subst e
      exact hT k x hx
    · rw [hR b e] at hx
      exact i3 b k x hb hx
  · intro b k hb hx
    rw [hN] at hb
    rw [hK] at hx
    by_cases e : b = a
    · subst e
      exact hB k hx
    · rw [hI b e]
      exact i4 b k hb hx
  · intro q hq
    have h9 := hG.1 a ha
    rw [ho q (by omega)]
    exact i5 q hq
  · rw [slotSum_set hc h1 hz ho, hS]
    exact i6
  · intro b hb hb2
    rw [hK]
    rw [hN] at hb2
    exact i9 b hb hb2
/-- a new cell -/
theorem Inv.new {G : Gx} {w : Wd} {H : Heap} {kd ln sl : Nat} {c : Cell} (hG : GW G) (h : Inv G w H) (hk : COk G kd ln (fun _ => 0) (fun _ => none) (fun _ => 0) (some c)) (hs : c.slots.size ≤ sl) (h1 : gN w + 1 ≤ LIMC + 8) (h2 : gS w + sl ≤ LIMS) : Inv G (nw w kd ln sl) (H.push c) ∧ xA G (gN w) = H.size := by
  obtain ⟨i1, i2, i3, i4, i5, i6, i7, i8, i9⟩ := h
  have hn := hG.1 (gN w) i1.1
  have hsz : xA G (gN w) = H.size := by rw [i1.2]; exact hn
  refine ⟨⟨⟨Nat.le_succ_of_le i1.1, ?_⟩, ?_, ?_, ?_, ?_, ?_, h2, h1, ?_⟩, hsz⟩
  · rw [Array.size_push, i1.2, gN_nw]
    have := i1.1
    omega
  · intro a ha
    rw [gK_nw, gL_nw]
    by_cases e : a = gN w
    · subst e
      rw [if_pos rfl, if_pos rfl, hsz, Array.getElem?_push_size]
      have e1 : gI (nw w kd ln sl) (gN w) = fun _ => 0 := by funext j; rw [gI_nw, if_pos rfl]
      have e2 : gR (nw w kd ln sl) (gN w) = fun _ => none := by funext j; rw [gR_nw, if_pos rfl]
      have e3 : gJ (nw w kd ln sl) (gN w) = fun _ => 0 := by funext j; rw [gJ_nw, if_pos rfl]
      rw [e1, e2, e3]
      exact hk
    · have hlt : a < gN w := by
        have h9 : a < gN w + 1 := ha
        omega
      rw [if_neg e, if_neg e]
      have e1 : gI (nw w kd ln sl) a = gI w a := by funext j; rw [gI_nw, if_neg e]
      have e2 : gR (nw w kd ln sl) a = gR w a := by funext j; rw [gR_nw, if_neg e]
      have e3 : gJ (nw w kd ln sl) a = gJ w a := by funext j; rw [gJ_nw, if_neg e]
      rw [e1, e2, e3]
      have h7 : xA G a ≠ H.size := fun z => e (hG.inj i1.1 (z.trans hsz.symm))
      rw [Array.getElem?_push]
      rw [if_neg h7]
      exact i2 a hlt
  · intro a k b ha hb
    rw [gR_nw] at hb
    by_cases e : a = gN w
    · rw [if_pos e] at hb
      cases hb
    · rw [if_neg e] at hb
      have hlt : a < gN w := by
        have h9 : a < gN w + 1 := ha
        omega
      obtain ⟨q1, q2⟩ := i3 a k b hlt hb
      refine ⟨Nat.lt_succ_of_lt q1, ?_⟩
      rw [gK_nw, gK_nw, if_neg e, if_neg (Nat.ne_of_lt q1)]
      exact q2
  · intro a k ha hb
    rw [gI_nw]
    by_cases e : a = gN w
    · rw [if_pos e]
      exact Or.inl rfl
    · rw [if_neg e]
      rw [gK_nw, if_neg e] at hb
      have hlt : a < gN w := by
        have h9 : a < gN w + 1 := ha
        omega
      exact i4 a k hlt hb
  · intro q hq
    have hle : xB G ≤ H.size := by rw [i1.2]; exact Nat.le_add_right _ _
    rw [Array.getElem?_push, if_neg (by omega)]
    exact i5 q hq
  · rw [slotSum_push (by rw [i1.2]; exact Nat.le_add_right _ _), gS_nw]
    exact Nat.add_le_add i6 hs
  · intro a ha hb
    rw [gK_nw, if_neg (by have := i1.1; omega)]
    exact i9 a ha (by have := i1.1; omega)
/-- abstract values: an int (true: a boolean), a long, a reference of a type -/
abbrev AV : Type := (Bool × Int32) ⊕ (Int64 ⊕ (Nat × Option Nat))
abbrev aB (b : Bool) (x : Int32) : AV := .inl (b, x)
abbrev aI (x : Int32) : AV := .inl (false, x)
abbrev aZ (x : Int32) : AV := .inl (true, x)
abbrev aL (x : Int64) : AV := .inr (.inl x)
abbrev aR (t : Nat) (v : Option Nat) : AV := .inr (.inr (t, v))
def cv (G : Gx) (v : AV) : Value := match v with
  | .inl q => .int q.2
  | .inr (.inl x) => .long x
  | .inr (.inr q) => rf G q.2
def OkV (w : Wd) (v : AV) : Prop := match v with
  | .inl q => q.1 = true → B01 q.2
  | .inr (.inl _) => True
  | .inr (.inr q) => Ty w q.1 q.2
theorem OkV.nx {w w' : Wd} {v : AV} (h : OkV w v) (k : Nx w w') : OkV w' v := by
  match v, h with
  | .inl q, h => exact h
  | .inr (.inl _), _ => trivial
  | .inr (.inr q), h => exact Ty.nx h k
/-- locals, by place -/
abbrev Lv : Type := List (Option AV)
def LvOk (G : Gx) (w : Wd) (nL : Nat) (lv : Lv) (ls : Array Slot) : Prop := ls.size = nL ∧ lv_wf ls ∧ ∀ (i : Nat) (v : AV), lv[i]? = some (some v) → ls[i]? = some (Slot.val (cv G v)) ∧ OkV w v
theorem LvOk.nx {G : Gx} {w w' : Wd} {nL : Nat} {lv : Lv} {ls : Array Slot} (h : LvOk G w nL lv ls) (k : Nx w w') : LvOk G w' nL lv ls := ⟨h.1, h.2.1, fun i v e => ⟨(h.2.2 i v e).1, (h.2.2 i v e).2.nx k⟩⟩
def lvL (G : Gx) (lv : Lv) : List (Nat × Value) := lv.zipIdx.filterMap (fun q => q.1.map (fun v => (q.2, cv G v)))
theorem lvL_mem {G : Gx} {lv : Lv} {q : Nat × Value} : q ∈ lvL G lv ↔ ∃ v, lv[q.1]? = some (some v) ∧ q.2 = cv G v := by
  unfold lvL
  rw [List.mem_filterMap]
  constructor
  · rintro ⟨⟨o, i⟩, h1, h2⟩
    rw [List.mk_mem_zipIdx_iff_getElem?] at h1
    cases o with
    | none => cases h2
    | some v =>
      cases h2
      exact ⟨v, h1, rfl⟩
  · rintro ⟨v, h1, h2⟩
    refine ⟨(some v, q.1), ?_, ?_⟩
    · rw [List.mk_mem_zipIdx_iff_getElem?]; exact h1
    · show some (q.1, cv G v) = some q
      rw [← h2]
theorem LvOk.has {G : Gx} {w : Wd} {nL : Nat} {lv : Lv} {ls : Array Slot} (h : LvOk G w nL lv ls) : lv_has ls nL (lvL G lv) := ⟨h.1, h.2.1, fun q hq => by
  obtain ⟨v, h1, h2⟩ := lvL_mem.mp hq
  rw [h2]
  exact (h.2.2 _ v h1).1⟩
/-- no long lies just ahead of place i -/
def noL (lv : Lv) (i : Nat) : Bool := match i with
  | 0 => true
  | i + 1 => match lv[i]? with
    | some (some (.inr (.inl _))) => false
    | _ => true
theorem noL_spec {lv : Lv} {i j : Nat} (h : noL lv i = true) (e : j + 1 = i) {x : Int64} (hx : lv[j]? = some (some (aL x))) : False := by
  subst e
  simp only [noL, hx] at h
  cases h
theorem cv_cat {G : Gx} {v : AV} (h : (cv G v).category = 2) : ∃ x, v = aL x := by
  match v, h with
  | .inl q, h => cases h
  | .inr (.inl x), _ => exact ⟨x, rfl⟩
  | .inr (.inr (t, none)), h => cases h
  | .inr (.inr (t, some a)), h => cases h
/-- behind a store of one word -/
theorem LvOk.set {G : Gx} {w : Wd} {nL : Nat} {lv : Lv} {ls ls' : Array Slot} {i : Nat} {v : AV} (h : LvOk G w nL lv ls) (hv : OkV w v) (hn : noL lv i = true)
    (h' : lv_has ls' nL ((i, cv G v) :: (lvL G lv).filter (fun q => !(q.1 == i) && !(q.1 + 1 == i && q.2.category == 2)))) : LvOk G w nL (lv.set i (some v)) ls' := by
  refine ⟨h'.1, h'.2.1, fun j u hj => ?_⟩
  by_cases e : i = j
  · subst e
    rw [List.getElem?_set] at hj
    rw [if_pos rfl] at hj
    by_cases hl : i < lv.length
    · rw [if_pos hl] at hj
      cases hj
      exact ⟨h'.2.2 _ List.mem_cons_self, hv⟩
    · rw [if_neg hl] at hj
      cases hj
  · rw [List.getElem?_set_ne e] at hj
    refine ⟨h'.2.2 (j, cv G u) (List.mem_cons_of_mem _ (List.mem_filter.mpr ⟨lvL_mem.mpr ⟨u, hj, rfl⟩, ?_⟩)), (h.2.2 j u hj).2⟩
    have e1 : (j == i) = false := by simpa using fun z => e z.symm
    have e2 : (j + 1 == i && (cv G u).category == 2) = false := by
      cases h3 : (j + 1 == i) with
      | false => rfl
      | true =>
        cases h4 : ((cv G u).category == 2) with
        | false => rfl
        | true =>
          obtain ⟨x, hx⟩ := cv_cat (by simpa using h4)
          subst hx
          exact (noL_spec hn (by simpa using h3) hj).elim
    show (!(j == i) && !(j + 1 == i && (cv G u).category == 2)) = true
    rw [e1, e2]
    rfl
