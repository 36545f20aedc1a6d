set_option maxRecDepth 100000
/-! ===== the lambdas' sites ===== -/
def siteC (kd : Nat) : Cond := match kd with
  | 20 => siteWord_1_1 | 21 => siteWord_1_2 | 22 => siteWord_1_3 | 23 => siteWord_1_4 | 24 => siteWord_1_5 | 25 => siteWord_1_6 | 26 => siteWord_1_7 | 27 => siteWord_1_8 | 28 => siteWord_1_9 | 29 => siteWord_1_10
  | 30 => siteWord_1_11 | 31 => siteWord_1_12 | 32 => siteWord_1_13 | 33 => siteWord_1_14 | 34 => siteWord_1_15 | 35 => siteWord_1_16 | 36 => siteWord_1_17 | 37 => siteWord_1_18 | 38 => siteWord_1_19 | _ => siteWord_1_20
def siteD (c : Cond) : MethodName × Nat × Nat × Lambda.Shape := match c with
  | .lambdaSite x pc ix σ => (x, pc, ix, σ)
  | _ => (⟨"", "", ""⟩, 0, 0, default)
abbrev sX (kd : Nat) : MethodName := (siteD (siteC kd)).1
abbrev sPc (kd : Nat) : Nat := (siteD (siteC kd)).2.1
abbrev sIx (kd : Nat) : Nat := (siteD (siteC kd)).2.2.1
abbrev sG (kd : Nat) : Lambda.Shape := (siteD (siteC kd)).2.2.2
def hD (kd : Nat) : ClassFile := ((sG kd).file (sX kd).cls).getD { minorVersion := 0, majorVersion := 0, constantPool := #[], accessFlags := 0, thisClass := 0, superClass := 0, interfaces := #[], fields := #[], methods := #[], attributes := #[] }
def hF (kd : Nat) : Method := ((layoutMethods (hD kd)).bind (·[1]?)).getD default
def hY (kd : Nat) : Array Field × Array FieldType × Array FieldType := (layoutFields (hD kd) 0).getD (#[], #[], #[])
def lams : List Nat := [20, 21, 22, 23, 24, 25, 26, 27, 28, 29, 30, 31, 32, 33, 34, 35, 36, 37, 38, 39]
def hSh (kd : Nat) : Nat := match kd with
  | 20 => 0 | 21 => 0 | 23 => 0 | 24 => 0 | 25 => 0 | 29 => 0 | 22 => 1 | 26 => 1 | 27 => 1 | 28 => 1 | 30 => 1 | 34 => 2 | 35 => 2 | 36 => 2 | 31 => 3 | 33 => 3 | 37 => 4 | 38 => 4 | 39 => 4 | _ => 5
def fld (kd : Nat) : List Nat := match hSh kd with
  | 0 => [] | 1 => [15] | 2 => [15] | 3 => [17, 19] | 4 => [17, 19] | _ => [18, 20, 22]
def mIx (kd : Nat) : Nat := match hSh kd with
  | 0 => 17 | 1 => 22 | 2 => 23 | 3 => 27 | 4 => 27 | _ => 30
def cIx (kd : Nat) : Nat := match hSh kd with
  | 0 => 14 | 1 => 19 | 2 => 19 | 3 => 23 | 4 => 23 | _ => 26
def vir (kd : Nat) : Bool := match hSh kd with
  | 1 => true | 3 => true | _ => false
/-- the bytes of the one method of a lambda's class -/
def hc (kd : Nat) : ByteArray := ⟨((fld kd).flatMap (fun f => [42, 180, 0, f.toUInt8]) ++ [43, if vir kd then 182 else 184, 0, (mIx kd).toUInt8, if Nat.ble 27 kd && Nat.ble kd 31 then 177 else 172]).toArray⟩
abbrev hY9 (kd : Nat) : MethodName := ⟨(sG kd).implClass, (sG kd).implName, (sG kd).implDesc.toString⟩
def LamOk (kd : Nat) : Prop :=
  ((sG kd).file (sX kd).cls).isSome = true ∧ ((layoutMethods (hD kd)).bind (·[1]?)).isSome = true ∧ (layoutFields (hD kd) 0).isSome = true ∧
  ((hF kd).code.map fun c => (c.code.data, c.maxLocals)) = some ((hc kd).data, 2) ∧ ((hF kd).accessFlags, (hF kd).sig.returnType, (hF kd).sig.parameters.length) = (1, (sG kd).sam.returnType, 1) ∧
  (hD kd).constantPool[mIx kd]? = some (.methodref (cIx kd) (mIx kd - 1)) ∧ (hD kd).constantPool.className? (cIx kd) = some (sG kd).implClass ∧ (hD kd).constantPool.nameAndType? (mIx kd - 1) = some ((sG kd).implName, (sG kd).implDesc.toString) ∧
  (hD kd).constantPool[cIx kd]? = some (.class_ (cIx kd - 1)) ∧ (hD kd).constantPool.string? (cIx kd - 1) = some (sG kd).implClass ∧ cIx kd ≠ (hD kd).thisClass ∧
  (∀ i ∈ List.range (fld kd).length, (hD kd).constantPool[(fld kd).getD i 0]? = some (.fieldref 2 ((fld kd).getD i 0 - 1)) ∧ ((hD kd).constantPool.nameAndType? ((fld kd).getD i 0 - 1)).map (fun q => (hY kd).1.findIdx? (·.name == q.1)) = some (some i) ∧ ((hY kd).1[i]?).map (fun f => (f.isStatic, f.slot)) = some (false, i)) ∧
  (hY kd).2.1.toList = (sG kd).captured ∧ (sG kd).captured.length = (fld kd).length ∧ (sG kd).implItf = false ∧
  (∀ i ∈ List.range (fld kd).length, decode (hc kd) (4 * i) = .ok (.aload_n 0, 1) ∧ decode (hc kd) (4 * i + 1) = .ok (.getfield ((fld kd).getD i 0), 3)) ∧
  decode (hc kd) (4 * (fld kd).length) = .ok (.aload_n 1, 1) ∧ decode (hc kd) (4 * (fld kd).length + 1) = .ok (if vir kd then .invokevirtual (mIx kd) else .invokestatic (mIx kd), 3) ∧
  decode (hc kd) (4 * (fld kd).length + 4) = .ok (if Nat.ble 27 kd && Nat.ble kd 31 then .return_ else .ireturn, 1)
theorem lamOk_20 : LamOk 20 := by unfold LamOk; decide +kernel
theorem lamOk_21 : LamOk 21 := by unfold LamOk; decide +kernel
theorem lamOk_22 : LamOk 22 := by unfold LamOk; decide +kernel
theorem lamOk_23 : LamOk 23 := by unfold LamOk; decide +kernel
theorem lamOk_24 : LamOk 24 := by unfold LamOk; decide +kernel
theorem lamOk_25 : LamOk 25 := by unfold LamOk; decide +kernel
theorem lamOk_26 : LamOk 26 := by unfold LamOk; decide +kernel
theorem lamOk_27 : LamOk 27 := by unfold LamOk; decide +kernel
theorem lamOk_28 : LamOk 28 := by unfold LamOk; decide +kernel
theorem lamOk_29 : LamOk 29 := by unfold LamOk; decide +kernel
theorem lamOk_30 : LamOk 30 := by unfold LamOk; decide +kernel
theorem lamOk_31 : LamOk 31 := by unfold LamOk; decide +kernel
theorem lamOk_32 : LamOk 32 := by unfold LamOk; decide +kernel
theorem lamOk_33 : LamOk 33 := by unfold LamOk; decide +kernel
theorem lamOk_34 : LamOk 34 := by unfold LamOk; decide +kernel
theorem lamOk_35 : LamOk 35 := by unfold LamOk; decide +kernel
theorem lamOk_36 : LamOk 36 := by unfold LamOk; decide +kernel
theorem lamOk_37 : LamOk 37 := by unfold LamOk; decide +kernel
theorem lamOk_38 : LamOk 38 := by unfold LamOk; decide +kernel
theorem lamOk_39 : LamOk 39 := by unfold LamOk; decide +kernel
theorem lamOk {kd : Nat} (h1 : 20 ≤ kd) (h2 : kd < 40) : LamOk kd := by
  have h : kd = 20 ∨ kd = 21 ∨ kd = 22 ∨ kd = 23 ∨ kd = 24 ∨ kd = 25 ∨ kd = 26 ∨ kd = 27 ∨ kd = 28 ∨ kd = 29 ∨ kd = 30 ∨ kd = 31 ∨ kd = 32 ∨ kd = 33 ∨ kd = 34 ∨ kd = 35 ∨ kd = 36 ∨ kd = 37 ∨ kd = 38 ∨ kd = 39 := by omega
  rcases h with rfl | rfl | rfl | rfl | rfl | rfl | rfl | rfl | rfl | rfl | rfl | rfl | rfl | rfl | rfl | rfl | rfl | rfl | rfl | rfl
  · exact lamOk_20
  · exact lamOk_21
  · exact lamOk_22
  · exact lamOk_23
  · exact lamOk_24
  · exact lamOk_25
  · exact lamOk_26
  · exact lamOk_27
  · exact lamOk_28
  · exact lamOk_29
  · exact lamOk_30
  · exact lamOk_31
  · exact lamOk_32
  · exact lamOk_33
  · exact lamOk_34
  · exact lamOk_35
  · exact lamOk_36
  · exact lamOk_37
  · exact lamOk_38
  · exact lamOk_39
