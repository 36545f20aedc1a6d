set_option maxRecDepth 100000
/-! ===== the world: one abstract heap, by index ===== -/
abbrev Wd : Type := Nat × Nat × (Nat → Nat × Nat) × (Nat → Nat → Int32) × (Nat → Nat → Option Nat) × (Nat → Nat → Int64)
def gN (w : Wd) : Nat := w.1
def gS (w : Wd) : Nat := w.2.1
def gK (w : Wd) (a : Nat) : Nat := (w.2.2.1 a).1
def gL (w : Wd) (a : Nat) : Nat := (w.2.2.1 a).2
def gI (w : Wd) (a k : Nat) : Int32 := w.2.2.2.1 a k
def gR (w : Wd) (a k : Nat) : Option Nat := w.2.2.2.2.1 a k
def gJ (w : Wd) (a k : Nat) : Int64 := w.2.2.2.2.2 a k
def sI (w : Wd) (a k : Nat) (x : Int32) : Wd := (w.1, w.2.1, w.2.2.1, fun b j => if b = a ∧ j = k then x else w.2.2.2.1 b j, w.2.2.2.2.1, w.2.2.2.2.2)
def sR (w : Wd) (a k : Nat) (x : Option Nat) : Wd := (w.1, w.2.1, w.2.2.1, w.2.2.2.1, fun b j => if b = a ∧ j = k then x else w.2.2.2.2.1 b j, w.2.2.2.2.2)
def sJ (w : Wd) (a k : Nat) (x : Int64) : Wd := (w.1, w.2.1, w.2.2.1, w.2.2.2.1, w.2.2.2.2.1, fun b j => if b = a ∧ j = k then x else w.2.2.2.2.2 b j)
/-- a new cell of kind kd, length ln, sl slots, all its places 0 or null -/
def nw (w : Wd) (kd ln sl : Nat) : Wd := (w.1 + 1, w.2.1 + sl, fun b => if b = w.1 then (kd, ln) else w.2.2.1 b, fun b j => if b = w.1 then 0 else w.2.2.2.1 b j, fun b j => if b = w.1 then none else w.2.2.2.2.1 b j, fun b j => if b = w.1 then 0 else w.2.2.2.2.2 b j)
theorem gN_sI (w : Wd) (a k : Nat) (x : Int32) : gN (sI w a k x) = gN w := rfl
theorem gS_sI (w : Wd) (a k : Nat) (x : Int32) : gS (sI w a k x) = gS w := rfl
theorem gK_sI (w : Wd) (a k : Nat) (x : Int32) (b : Nat) : gK (sI w a k x) b = gK w b := rfl
theorem gL_sI (w : Wd) (a k : Nat) (x : Int32) (b : Nat) : gL (sI w a k x) b = gL w b := rfl
theorem gI_sI (w : Wd) (a k : Nat) (x : Int32) (b j : Nat) : gI (sI w a k x) b j = if b = a ∧ j = k then x else gI w b j := rfl
theorem gR_sI (w : Wd) (a k : Nat) (x : Int32) (b j : Nat) : gR (sI w a k x) b j = gR w b j := rfl
theorem gJ_sI (w : Wd) (a k : Nat) (x : Int32) (b j : Nat) : gJ (sI w a k x) b j = gJ w b j := rfl
theorem gN_sR (w : Wd) (a k : Nat) (x : Option Nat) : gN (sR w a k x) = gN w := rfl
theorem gS_sR (w : Wd) (a k : Nat) (x : Option Nat) : gS (sR w a k x) = gS w := rfl
theorem gK_sR (w : Wd) (a k : Nat) (x : Option Nat) (b : Nat) : gK (sR w a k x) b = gK w b := rfl
theorem gL_sR (w : Wd) (a k : Nat) (x : Option Nat) (b : Nat) : gL (sR w a k x) b = gL w b := rfl
theorem gI_sR (w : Wd) (a k : Nat) (x : Option Nat) (b j : Nat) : gI (sR w a k x) b j = gI w b j := rfl
theorem gR_sR (w : Wd) (a k : Nat) (x : Option Nat) (b j : Nat) : gR (sR w a k x) b j = if b = a ∧ j = k then x else gR w b j := rfl
theorem gJ_sR (w : Wd) (a k : Nat) (x : Option Nat) (b j : Nat) : gJ (sR w a k x) b j = gJ w b j := rfl
theorem gN_sJ (w : Wd) (a k : Nat) (x : Int64) : gN (sJ w a k x) = gN w := rfl
theorem gS_sJ (w : Wd) (a k : Nat) (x : Int64) : gS (sJ w a k x) = gS w := rfl
theorem gK_sJ (w : Wd) (a k : Nat) (x : Int64) (b : Nat) : gK (sJ w a k x) b = gK w b := rfl
theorem gL_sJ (w : Wd) (a k : Nat) (x : Int64) (b : Nat) : gL (sJ w a k x) b = gL w b := rfl
theorem gI_sJ (w : Wd) (a k : Nat) (x : Int64) (b j : Nat) : gI (sJ w a k x) b j = gI w b j := rfl
theorem gR_sJ (w : Wd) (a k : Nat) (x : Int64) (b j : Nat) : gR (sJ w a k x) b j = gR w b j := rfl
theorem gJ_sJ (w : Wd) (a k : Nat) (x : Int64) (b j : Nat) : gJ (sJ w a k x) b j = if b = a ∧ j = k then x else gJ w b j := rfl
theorem gN_nw (w : Wd) (kd ln sl : Nat) : gN (nw w kd ln sl) = gN w + 1 := rfl
theorem gS_nw (w : Wd) (kd ln sl : Nat) : gS (nw w kd ln sl) = gS w + sl := rfl
theorem gK_nw (w : Wd) (kd ln sl b : Nat) : gK (nw w kd ln sl) b = if b = gN w then kd else gK w b := by
  show (if b = w.1 then (kd, ln) else w.2.2.1 b).1 = if b = w.1 then kd else (w.2.2.1 b).1
  split <;> rfl
theorem gL_nw (w : Wd) (kd ln sl b : Nat) : gL (nw w kd ln sl) b = if b = gN w then ln else gL w b := by
  show (if b = w.1 then (kd, ln) else w.2.2.1 b).2 = if b = w.1 then ln else (w.2.2.1 b).2
  split <;> rfl
theorem gI_nw (w : Wd) (kd ln sl b j : Nat) : gI (nw w kd ln sl) b j = if b = gN w then 0 else gI w b j := rfl
theorem gR_nw (w : Wd) (kd ln sl b j : Nat) : gR (nw w kd ln sl) b j = if b = gN w then none else gR w b j := rfl
theorem gJ_nw (w : Wd) (kd ln sl b j : Nat) : gJ (nw w kd ln sl) b j = if b = gN w then 0 else gJ w b j := rfl
/-! kinds: 1 IntervalTree, 2 Cursor, 3 Model, 4 Node, 5 Parser, 6 SyntaxError; 10 int[], 11 boolean[], 12 byte[], 13 long[], 14 Node[], 15 Filter[], 16 Property[], 17 Cursor[], 18 TABLE; 20..39 the lambdas' classes by their sites; 40 IllegalArgument, 41 IllegalState, 42 NoSuchElement, 43 IndexOutOfBounds. Types: a kind, or 50 Filter, 51 Property, 52 Visitor -/
def okT (t k : Nat) : Bool := if t < 50 then k == t else if t = 50 then (k == 24 || k == 25 || k == 26 || (Nat.ble 32 k && Nat.ble k 39)) else if t = 51 then (Nat.ble 20 k && Nat.ble k 23) else if t = 52 then (Nat.ble 27 k && Nat.ble k 31) else false
/-- the type of the reference at place k of a cell of kind kd (99: no reference) -/
def rt (kd k : Nat) : Nat := match kd with
  | 1 => match k with
    | 0 => 14 | 1 => 15 | 2 => 16 | 3 => 17 | 4 => 4 | 12 => 14 | 16 => 4 | 18 => 10 | 19 => 10 | 20 => 12 | 22 => 10 | 23 => 10 | 24 => 10 | 25 => 10 | 26 => 10 | 27 => 11 | 28 => 11 | _ => 99
  | 2 => match k with
    | 2 => 50 | _ => 99
  | 3 => match k with
    | 1 => 10 | 2 => 10 | 3 => 10 | 4 => 10 | 5 => 10 | 6 => 10 | 7 => 10 | 8 => 11 | 16 => 10 | 18 => 10 | 19 => 10 | 22 => 10 | 23 => 10 | 25 => 10 | 26 => 10 | 27 => 10 | 28 => 10 | 29 => 10 | 30 => 10 | 31 => 10 | 32 => 10 | 33 => 11 | 34 => 10 | 39 => 11 | 40 => 10 | 41 => 10 | 43 => 10 | 44 => 10 | 45 => 10 | 46 => 10 | 47 => 10 | 48 => 10 | 49 => 10 | 50 => 10 | 51 => 11 | _ => 99
  | 4 => match k with
    | 7 => 4 | 8 => 4 | 9 => 4 | _ => 99
  | 5 => match k with
    | 2 => 1 | _ => 99
  | 14 => 4 | 15 => 50 | 16 => 51 | 17 => 2
  | 22 => match k with
    | 0 => 1 | _ => 99
  | 26 => match k with
    | 0 => 1 | _ => 99
  | 27 => match k with
    | 0 => 1 | _ => 99
  | 28 => match k with
    | 0 => 1 | _ => 99
  | 30 => match k with
    | 0 => 1 | _ => 99
  | 31 => match k with
    | 0 => 1 | _ => 99
  | 32 => match k with
    | 0 => 51 | _ => 99
  | 33 => match k with
    | 0 => 1 | _ => 99
  | 34 => match k with
    | 0 => 15 | _ => 99
  | 35 => match k with
    | 0 => 15 | _ => 99
  | 36 => match k with
    | 0 => 50 | _ => 99
  | 37 => match k with
    | 0 => 51 | _ => 99
  | 38 => match k with
    | 0 => 51 | _ => 99
  | 39 => match k with
    | 0 => 51 | _ => 99
  | _ => 99
/-- the place holds a boolean -/
def bt (kd k : Nat) : Bool := match kd with
  | 2 => match k with
    | 0 => true | 1 => true | _ => false
  | 3 => match k with
    | 38 => true | 42 => true | _ => false
  | 4 => match k with
    | 5 => true | 6 => true | _ => false
  | 11 => true
  | _ => false
/-- how many fields of an object's kind are told; for 6 the last alone -/
def nF (kd k : Nat) : Bool := match kd with
  | 1 => Nat.blt k 34 | 2 => Nat.blt k 6 | 3 => Nat.blt k 52 | 4 => Nat.blt k 15 | 5 => Nat.blt k 3 | 6 => k == 6 | _ => false
/-- the arrays of the two great objects: object, field, index, kind, length -/
def fxL : List (Nat × Nat × Nat × Nat × Nat) := [(8, 0, 9, 14, 500), (8, 1, 10, 15, 8), (8, 2, 11, 16, 4), (8, 3, 12, 17, 4), (8, 12, 19, 14, 100), (8, 18, 20, 10, 101), (8, 19, 21, 10, 100), (8, 20, 22, 12, 60), (8, 22, 23, 10, 500), (8, 23, 24, 10, 500), (8, 24, 25, 10, 500), (8, 25, 26, 10, 500), (8, 26, 27, 10, 500), (8, 27, 28, 11, 500), (8, 28, 29, 11, 500),
  (30, 1, 31, 10, 500), (30, 2, 32, 10, 500), (30, 3, 33, 10, 500), (30, 4, 34, 10, 500), (30, 5, 35, 10, 500), (30, 6, 36, 10, 500), (30, 7, 37, 10, 500), (30, 8, 38, 11, 500), (30, 16, 39, 10, 500), (30, 18, 40, 10, 500), (30, 19, 41, 10, 500), (30, 22, 42, 10, 2002), (30, 23, 43, 10, 501), (30, 25, 44, 10, 8), (30, 26, 45, 10, 8), (30, 27, 46, 10, 8), (30, 28, 47, 10, 8), (30, 29, 48, 10, 8), (30, 30, 49, 10, 480), (30, 31, 50, 10, 480), (30, 32, 51, 10, 480), (30, 33, 52, 11, 480), (30, 34, 53, 10, 60), (30, 39, 54, 11, 4), (30, 40, 55, 10, 4), (30, 41, 56, 10, 4), (30, 43, 57, 10, 500), (30, 44, 58, 10, 500), (30, 45, 59, 10, 500), (30, 46, 60, 10, 500), (30, 47, 61, 10, 500), (30, 48, 62, 10, 500), (30, 49, 63, 10, 500), (30, 50, 64, 10, 7), (30, 51, 65, 11, 500)]
def B01 (x : Int32) : Prop := x = 0 ∨ x = 1
def Ty (w : Wd) (t : Nat) (v : Option Nat) : Prop := ∀ b, v = some b → b < gN w ∧ okT t (gK w b) = true
def Fx (w : Wd) : Prop := (gK w 8 = 1 ∧ gK w 30 = 3 ∧ gK w 66 = 13 ∧ gL w 66 = 1 ∧ 66 < gN w ∧ gK w 0 = 18 ∧ gL w 0 = 256) ∧ ∀ q ∈ fxL, gR w q.1 q.2.1 = some q.2.2.1 ∧ gK w q.2.2.1 = q.2.2.2.1 ∧ gL w q.2.2.1 = q.2.2.2.2 ∧ q.2.2.1 < gN w
/-- kinds and lengths stay -/
def Nx (w w' : Wd) : Prop := gN w ≤ gN w' ∧ ∀ a, a < gN w → gK w' a = gK w a ∧ gL w' a = gL w a
theorem Nx.rf (w : Wd) : Nx w w := ⟨Nat.le_refl _, fun _ _ => ⟨rfl, rfl⟩⟩
theorem Nx.tr {a b c : Wd} (h : Nx a b) (k : Nx b c) : Nx a c := ⟨Nat.le_trans h.1 k.1, fun q hq => by
  have h1 := h.2 q hq
  have h2 := k.2 q (Nat.lt_of_lt_of_le hq h.1)
  exact ⟨h2.1.trans h1.1, h2.2.trans h1.2⟩⟩
theorem Ty.nx {w w' : Wd} {t : Nat} {v : Option Nat} (h : Ty w t v) (k : Nx w w') : Ty w' t v := fun b e => by
  obtain ⟨h1, h2⟩ := h b e
  exact ⟨Nat.lt_of_lt_of_le h1 k.1, by rw [(k.2 b h1).1]; exact h2⟩
theorem nx_nw {w0 w : Wd} (h : Nx w0 w) (kd ln sl : Nat) : Nx w0 (nw w kd ln sl) := h.tr ⟨Nat.le_succ _, fun a ha => by
  rw [gK_nw, gL_nw, if_neg (Nat.ne_of_lt ha), if_neg (Nat.ne_of_lt ha)]
  exact ⟨rfl, rfl⟩⟩
theorem fx_nw {w : Wd} (h : Fx w) (kd ln sl : Nat) : Fx (nw w kd ln sl) := by
  obtain ⟨⟨h1, h2, h3, h4, h5, h51, h52⟩, h6⟩ := h
  have n : ∀ a, a < gN w → gK (nw w kd ln sl) a = gK w a := fun a ha => by
    rw [gK_nw, if_neg (Nat.ne_of_lt ha)]
  have m : ∀ a, a < gN w → gL (nw w kd ln sl) a = gL w a := fun a ha => by
    rw [gL_nw, if_neg (Nat.ne_of_lt ha)]
  refine ⟨⟨(n 8 (by omega)).trans h1, (n 30 (by omega)).trans h2, (n 66 h5).trans h3, (m 66 h5).trans h4, Nat.lt_succ_of_lt h5, (n 0 (by omega)).trans h51, (m 0 (by omega)).trans h52⟩, fun q hq => ?_⟩
  obtain ⟨a1, a2, a3, a4⟩ := h6 q hq
  have hl : q.1 < gN w := by
    have h9 : ∀ q ∈ fxL, q.1 ≤ 66 := by decide +kernel
    exact Nat.lt_of_le_of_lt (h9 q hq) h5
  exact ⟨by rw [gR_nw, if_neg (Nat.ne_of_lt hl)]; exact a1, (n _ a4).trans a2, (m _ a4).trans a3, Nat.lt_succ_of_lt a4⟩
theorem fx_sR {w : Wd} (h : Fx w) {a k : Nat} {x : Option Nat} (hn : ∀ q ∈ fxL, ¬ (q.1 = a ∧ q.2.1 = k)) : Fx (sR w a k x) := by
  refine ⟨h.1, fun q hq => ?_⟩
  obtain ⟨a1, a2⟩ := h.2 q hq
  exact ⟨by rw [gR_sR, if_neg (hn q hq)]; exact a1, a2⟩
