set_option maxRecDepth 100000
theorem pm_X0_insert : yX0_insert.cls = RX0 ∧ yX0_insert.cls ≠ "java/lang/invoke/MethodHandle" ∧ yX0_insert.cls ≠ "java/lang/invoke/VarHandle" ∧ (parseMethodDescriptor yX0_insert.desc).map (fun d => d.parameters.length) = some 5 := by decide +kernel
def f_X0_insert (d : Nat) (p2 : Int32) (p3 : Int32) (p4 : Int32) (w : Wd) : Option (Wd × Int32) :=
  match d with
  | 0 => none
  | d + 1 =>
    bC (f_X1_insert d p2 p3 p4 w) (fun wr1 r1 =>
      if ib 0 1 = true then
        some (sJ wr1 66 (Int32.toNatClampNeg 0) (Int32.toInt64 r1), 0)
      else none) fun wq3 q3 =>
    if gK wq3 q3 = 40 then
      some (wq3, 1)
    else
      if gK wq3 q3 = 41 then
        some (wq3, 2)
      else
        none
theorem sim_X0_insert {G : Gx} (hG : GW G) {l : Launch} (hl : l.stackTraces = false) (d : Nat) (p2 : Int32) (p3 : Int32) (p4 : Int32) (w : Wd) (fp2 : Bool) (fp3 : Bool) (fp4 : Bool) : Mt G true l yX0_insert (wsW_ yX0_insert cX0_insert 6 (some .int) [(0, 12, 15, 13), (0, 12, 19, 15)]) d (rrV G pI) [aR 1 (some 8), aB fp2 p2, aB fp3 p3, aB fp4 p4, aR 13 (some 66)] w (f_X0_insert d p2 p3 p4 w) := by
  refine Mt.ofW (own := "IntervalTreeLaw") hG hl (by decide +kernel) rfl rfl ?_
  intro M hM hr hnm hxt hnd K
  subst hM
  cases d with
  | zero => exact j_none
  | succ d =>
    refine j_aload K dX0_insert_0 rfl ?_
    refine j_iconstZ K dX0_insert_2 rfl (Or.inl rfl) ?_
    refine j_aload_n K dX0_insert_3 rfl ?_
    refine j_iload_n K dX0_insert_4 rfl ?_
    refine j_iload_n K dX0_insert_5 rfl ?_
    refine j_iload_n K dX0_insert_6 rfl ?_
    refine j_callVC _ K (sim_X1_insert hG hl d p2 p3 p4 w fp2 fp3 fp4) dX0_insert_7 rfl rfl q440 q441 q442 q93 q443 pm_X1_insert rfl rfl rfl rfl rfl (fun wr1 r1 _ => ?_) (fun wq3 q3 _ hq3 => ?_)
    · refine j_i2l K dX0_insert_10 ?_
      refine j_ib (fun hi2 => ?_)
      refine j_las K dX0_insert_11 rfl (outLen2 rfl) hi2 ?_
      refine j_goto 23 K dX0_insert_12 (by decide) ?_
      refine j_iconstZ K dX0_insert_23 rfl (Or.inl rfl) ?_
      exact j_iret K hr dX0_insert_24
    · refine t_ite (fun hk5 => ?_) (fun _ => ?_)
      · refine j_catch (kd := 40) 15 K [] ⟨0, 12, 15, 13⟩ [⟨0, 12, 19, 15⟩] hxt (fun _ h => by cases h) rfl (by decide) rfl q438 q452 rfl hq3 hk5 ?_
        refine j_astore K dX0_insert_15 rfl rfl ?_
        refine j_iconstZ K dX0_insert_17 rfl (Or.inr rfl) ?_
        exact j_iret K hr dX0_insert_18
      refine t_ite (fun hk4 => ?_) (fun _ => ?_)
      · refine j_catch (kd := 41) 19 K [⟨0, 12, 15, 13⟩] ⟨0, 12, 19, 15⟩ [] hxt (fun z hz => by cases List.mem_singleton.mp hz; exact Or.inr ⟨by decide, _, 40, rfl, by decide, q438⟩) rfl (by decide) rfl q439 q522 rfl hq3 hk4 ?_
        refine j_astore K dX0_insert_19 rfl rfl ?_
        refine j_iconst (x := 2) K dX0_insert_21 rfl ?_
        exact j_iret K hr dX0_insert_22
      exact t_none

theorem pm_X0_remove : yX0_remove.cls = RX0 ∧ yX0_remove.cls ≠ "java/lang/invoke/MethodHandle" ∧ yX0_remove.cls ≠ "java/lang/invoke/VarHandle" ∧ (parseMethodDescriptor yX0_remove.desc).map (fun d => d.parameters.length) = some 3 := by decide +kernel
def f_X0_remove (d : Nat) (p2 : Int32) (w : Wd) : Option (Wd × Int32) :=
  match d with
  | 0 => none
  | d + 1 =>
    bC (f_X1_remove d p2 w) (fun wr1 r1 =>
      if ib 0 1 = true then
        some (sJ wr1 66 (Int32.toNatClampNeg 0) (Int32.toInt64 r1), 0)
      else none) fun wq3 q3 =>
    if gK wq3 q3 = 42 then
      some (wq3, 1)
    else
      none
theorem sim_X0_remove {G : Gx} (hG : GW G) {l : Launch} (hl : l.stackTraces = false) (d : Nat) (p2 : Int32) (w : Wd) (fp2 : Bool) : Mt G true l yX0_remove (wsW_ yX0_remove cX0_remove 4 (some .int) [(0, 9, 12, 21)]) d (rrV G pI) [aR 1 (some 8), aB fp2 p2, aR 13 (some 66)] w (f_X0_remove d p2 w) := by
  refine Mt.ofW (own := "IntervalTreeLaw") hG hl (by decide +kernel) rfl rfl ?_
  intro M hM hr hnm hxt hnd K
  subst hM
  cases d with
  | zero => exact j_none
  | succ d =>
    refine j_aload_n K dX0_remove_0 rfl ?_
    refine j_iconstZ K dX0_remove_1 rfl (Or.inl rfl) ?_
    refine j_aload_n K dX0_remove_2 rfl ?_
    refine j_iload_n K dX0_remove_3 rfl ?_
    refine j_callVC _ K (sim_X1_remove hG hl d p2 w fp2) dX0_remove_4 rfl rfl q631 q632 q633 q93 q634 pm_X1_remove rfl rfl rfl rfl rfl (fun wr1 r1 _ => ?_) (fun wq3 q3 _ hq3 => ?_)
    · refine j_i2l K dX0_remove_7 ?_
      refine j_ib (fun hi2 => ?_)
      refine j_las K dX0_remove_8 rfl (outLen2 rfl) hi2 ?_
      refine j_goto 15 K dX0_remove_9 (by decide) ?_
      refine j_iconstZ K dX0_remove_15 rfl (Or.inl rfl) ?_
      exact j_iret K hr dX0_remove_16
    · refine t_ite (fun hk4 => ?_) (fun _ => ?_)
      · refine j_catch (kd := 42) 12 K [] ⟨0, 9, 12, 21⟩ [] hxt (fun _ h => by cases h) rfl (by decide) rfl q630 q645 rfl hq3 hk4 ?_
        refine j_astore_n K dX0_remove_12 rfl rfl ?_
        refine j_iconstZ K dX0_remove_13 rfl (Or.inr rfl) ?_
        exact j_iret K hr dX0_remove_14
      exact t_none

theorem pm_X0_restore : yX0_restore.cls = RX0 ∧ yX0_restore.cls ≠ "java/lang/invoke/MethodHandle" ∧ yX0_restore.cls ≠ "java/lang/invoke/VarHandle" ∧ (parseMethodDescriptor yX0_restore.desc).map (fun d => d.parameters.length) = some 3 := by decide +kernel
def f_X0_restore (d : Nat) (p2 : Int32) (w : Wd) : Option (Wd × Int32) :=
  match d with
  | 0 => none
  | d + 1 =>
    bC (f_X1_restore d p2 w) (fun wr1 r1 =>
      if ib 0 1 = true then
        some (sJ wr1 66 (Int32.toNatClampNeg 0) (Int32.toInt64 r1), 0)
      else none) fun wq3 q3 =>
    if gK wq3 q3 = 42 then
      some (wq3, 1)
    else
      if gK wq3 q3 = 41 then
        some (wq3, 2)
      else
        none
theorem sim_X0_restore {G : Gx} (hG : GW G) {l : Launch} (hl : l.stackTraces = false) (d : Nat) (p2 : Int32) (w : Wd) (fp2 : Bool) : Mt G true l yX0_restore (wsW_ yX0_restore cX0_restore 4 (some .int) [(0, 9, 12, 21), (0, 9, 15, 15)]) d (rrV G pI) [aR 1 (some 8), aB fp2 p2, aR 13 (some 66)] w (f_X0_restore d p2 w) := by
  refine Mt.ofW (own := "IntervalTreeLaw") hG hl (by decide +kernel) rfl rfl ?_
  intro M hM hr hnm hxt hnd K
  subst hM
  cases d with
  | zero => exact j_none
  | succ d =>
    refine j_aload_n K dX0_restore_0 rfl ?_
    refine j_iconstZ K dX0_restore_1 rfl (Or.inl rfl) ?_
    refine j_aload_n K dX0_restore_2 rfl ?_
    refine j_iload_n K dX0_restore_3 rfl ?_
    refine j_callVC _ K (sim_X1_restore hG hl d p2 w fp2) dX0_restore_4 rfl rfl q675 q676 q677 q93 q678 pm_X1_restore rfl rfl rfl rfl rfl (fun wr1 r1 _ => ?_) (fun wq3 q3 _ hq3 => ?_)
    · refine j_i2l K dX0_restore_7 ?_
      refine j_ib (fun hi2 => ?_)
      refine j_las K dX0_restore_8 rfl (outLen2 rfl) hi2 ?_
      refine j_goto 18 K dX0_restore_9 (by decide) ?_
      refine j_iconstZ K dX0_restore_18 rfl (Or.inl rfl) ?_
      exact j_iret K hr dX0_restore_19
    · refine t_ite (fun hk5 => ?_) (fun _ => ?_)
      · refine j_catch (kd := 42) 12 K [] ⟨0, 9, 12, 21⟩ [⟨0, 9, 15, 15⟩] hxt (fun _ h => by cases h) rfl (by decide) rfl q630 q645 rfl hq3 hk5 ?_
        refine j_astore_n K dX0_restore_12 rfl rfl ?_
        refine j_iconstZ K dX0_restore_13 rfl (Or.inr rfl) ?_
        exact j_iret K hr dX0_restore_14
      refine t_ite (fun hk4 => ?_) (fun _ => ?_)
      · refine j_catch (kd := 41) 15 K [⟨0, 9, 12, 21⟩] ⟨0, 9, 15, 15⟩ [] hxt (fun z hz => by cases List.mem_singleton.mp hz; exact Or.inr ⟨by decide, _, 42, rfl, by decide, q630⟩) rfl (by decide) rfl q439 q522 rfl hq3 hk4 ?_
        refine j_astore_n K dX0_restore_15 rfl rfl ?_
        refine j_iconst (x := 2) K dX0_restore_16 rfl ?_
        exact j_iret K hr dX0_restore_17
      exact t_none

theorem pm_X0_setRebuildPercentage : yX0_setRebuildPercentage.cls = RX0 ∧ yX0_setRebuildPercentage.cls ≠ "java/lang/invoke/MethodHandle" ∧ yX0_setRebuildPercentage.cls ≠ "java/lang/invoke/VarHandle" ∧ (parseMethodDescriptor yX0_setRebuildPercentage.desc).map (fun d => d.parameters.length) = some 3 := by decide +kernel
def f_X0_setRebuildPercentage (d : Nat) (p2 : Int32) (w : Wd) : Option (Wd × Int32) :=
  match d with
  | 0 => none
  | d + 1 =>
    bC (f_X1_setRebuildPercentage d p2 w) (fun wr1 r1 =>
      if ib 0 1 = true then
        some (sJ wr1 66 (Int32.toNatClampNeg 0) (Int32.toInt64 r1), 0)
      else none) fun wq3 q3 =>
    if gK wq3 q3 = 40 then
      some (wq3, 1)
    else
      none
theorem sim_X0_setRebuildPercentage {G : Gx} (hG : GW G) {l : Launch} (hl : l.stackTraces = false) (d : Nat) (p2 : Int32) (w : Wd) (fp2 : Bool) : Mt G true l yX0_setRebuildPercentage (wsW_ yX0_setRebuildPercentage cX0_setRebuildPercentage 4 (some .int) [(0, 9, 12, 13)]) d (rrV G pI) [aR 1 (some 8), aB fp2 p2, aR 13 (some 66)] w (f_X0_setRebuildPercentage d p2 w) := by
  refine Mt.ofW (own := "IntervalTreeLaw") hG hl (by decide +kernel) rfl rfl ?_
  intro M hM hr hnm hxt hnd K
  subst hM
  cases d with
  | zero => exact j_none
  | succ d =>
    refine j_aload_n K dX0_setRebuildPercentage_0 rfl ?_
    refine j_iconstZ K dX0_setRebuildPercentage_1 rfl (Or.inl rfl) ?_
    refine j_aload_n K dX0_setRebuildPercentage_2 rfl ?_
    refine j_iload_n K dX0_setRebuildPercentage_3 rfl ?_
    refine j_callVC _ K (sim_X1_setRebuildPercentage hG hl d p2 w fp2) dX0_setRebuildPercentage_4 rfl rfl q684 q685 q686 q93 q687 pm_X1_setRebuildPercentage rfl rfl rfl rfl rfl (fun wr1 r1 _ => ?_) (fun wq3 q3 _ hq3 => ?_)
    · refine j_i2l K dX0_setRebuildPercentage_7 ?_
      refine j_ib (fun hi2 => ?_)
      refine j_las K dX0_setRebuildPercentage_8 rfl (outLen2 rfl) hi2 ?_
      refine j_goto 15 K dX0_setRebuildPercentage_9 (by decide) ?_
      refine j_iconstZ K dX0_setRebuildPercentage_15 rfl (Or.inl rfl) ?_
      exact j_iret K hr dX0_setRebuildPercentage_16
    · refine t_ite (fun hk4 => ?_) (fun _ => ?_)
      · refine j_catch (kd := 40) 12 K [] ⟨0, 9, 12, 13⟩ [] hxt (fun _ h => by cases h) rfl (by decide) rfl q438 q452 rfl hq3 hk4 ?_
        refine j_astore_n K dX0_setRebuildPercentage_12 rfl rfl ?_
        refine j_iconstZ K dX0_setRebuildPercentage_13 rfl (Or.inr rfl) ?_
        exact j_iret K hr dX0_setRebuildPercentage_14
      exact t_none

theorem pm_X0_addWeight : yX0_addWeight.cls = RX0 ∧ yX0_addWeight.cls ≠ "java/lang/invoke/MethodHandle" ∧ yX0_addWeight.cls ≠ "java/lang/invoke/VarHandle" ∧ (parseMethodDescriptor yX0_addWeight.desc).map (fun d => d.parameters.length) = some 5 := by decide +kernel
def f_X0_addWeight (d : Nat) (p2 : Int32) (p3 : Int32) (p4 : Int32) (w : Wd) : Option (Wd × Int32) :=
  match d with
  | 0 => none
  | d + 1 =>
    bC (f_X1_addWeight d p2 p3 p4 w) (fun wr1 r1 =>
      if ib 0 1 = true then
        some (sJ wr1 66 (Int32.toNatClampNeg 0) (Int32.toInt64 r1), 0)
      else none) fun wq3 q3 =>
    if gK wq3 q3 = 40 then
      some (wq3, 1)
    else
      none
theorem sim_X0_addWeight {G : Gx} (hG : GW G) {l : Launch} (hl : l.stackTraces = false) (d : Nat) (p2 : Int32) (p3 : Int32) (p4 : Int32) (w : Wd) (fp2 : Bool) (fp3 : Bool) (fp4 : Bool) : Mt G true l yX0_addWeight (wsW_ yX0_addWeight cX0_addWeight 6 (some .int) [(0, 12, 15, 13)]) d (rrV G pI) [aR 1 (some 8), aB fp2 p2, aB fp3 p3, aB fp4 p4, aR 13 (some 66)] w (f_X0_addWeight d p2 p3 p4 w) := by
  refine Mt.ofW (own := "IntervalTreeLaw") hG hl (by decide +kernel) rfl rfl ?_
  intro M hM hr hnm hxt hnd K
  subst hM
  cases d with
  | zero => exact j_none
  | succ d =>
    refine j_aload K dX0_addWeight_0 rfl ?_
    refine j_iconstZ K dX0_addWeight_2 rfl (Or.inl rfl) ?_
    refine j_aload_n K dX0_addWeight_3 rfl ?_
    refine j_iload_n K dX0_addWeight_4 rfl ?_
    refine j_iload_n K dX0_addWeight_5 rfl ?_
    refine j_iload_n K dX0_addWeight_6 rfl ?_
    refine j_callVC _ K (sim_X1_addWeight hG hl d p2 p3 p4 w fp2 fp3 fp4) dX0_addWeight_7 rfl rfl q691 q692 q693 q93 q694 pm_X1_addWeight rfl rfl rfl rfl rfl (fun wr1 r1 _ => ?_) (fun wq3 q3 _ hq3 => ?_)
    · refine j_i2l K dX0_addWeight_10 ?_
      refine j_ib (fun hi2 => ?_)
      refine j_las K dX0_addWeight_11 rfl (outLen2 rfl) hi2 ?_
      refine j_goto 19 K dX0_addWeight_12 (by decide) ?_
      refine j_iconstZ K dX0_addWeight_19 rfl (Or.inl rfl) ?_
      exact j_iret K hr dX0_addWeight_20
    · refine t_ite (fun hk4 => ?_) (fun _ => ?_)
      · refine j_catch (kd := 40) 15 K [] ⟨0, 12, 15, 13⟩ [] hxt (fun _ h => by cases h) rfl (by decide) rfl q438 q452 rfl hq3 hk4 ?_
        refine j_astore K dX0_addWeight_15 rfl rfl ?_
        refine j_iconstZ K dX0_addWeight_17 rfl (Or.inr rfl) ?_
        exact j_iret K hr dX0_addWeight_18
      exact t_none

theorem pm_X0_state : yX0_state.cls = RX0 ∧ yX0_state.cls ≠ "java/lang/invoke/MethodHandle" ∧ yX0_state.cls ≠ "java/lang/invoke/VarHandle" ∧ (parseMethodDescriptor yX0_state.desc).map (fun d => d.parameters.length) = some 3 := by decide +kernel
def f_X0_state (d : Nat) (p2 : Int32) (w : Wd) : Option (Wd × Int32) :=
  match d with
  | 0 => none
  | d + 1 =>
    bC (f_X1_state d p2 w) (fun wr1 r1 =>
      if ib 0 1 = true then
        some (sJ wr1 66 (Int32.toNatClampNeg 0) (Int32.toInt64 r1), 0)
      else none) fun wq3 q3 =>
    if gK wq3 q3 = 42 then
      some (wq3, 1)
    else
      none
theorem sim_X0_state {G : Gx} (hG : GW G) {l : Launch} (hl : l.stackTraces = false) (d : Nat) (p2 : Int32) (w : Wd) (fp2 : Bool) : Mt G true l yX0_state (wsW_ yX0_state cX0_state 4 (some .int) [(0, 9, 12, 21)]) d (rrV G pI) [aR 1 (some 8), aB fp2 p2, aR 13 (some 66)] w (f_X0_state d p2 w) := by
  refine Mt.ofW (own := "IntervalTreeLaw") hG hl (by decide +kernel) rfl rfl ?_
  intro M hM hr hnm hxt hnd K
  subst hM
  cases d with
  | zero => exact j_none
  | succ d =>
    refine j_aload_n K dX0_state_0 rfl ?_
    refine j_iconstZ K dX0_state_1 rfl (Or.inl rfl) ?_
    refine j_aload_n K dX0_state_2 rfl ?_
    refine j_iload_n K dX0_state_3 rfl ?_
    refine j_callVC _ K (sim_X1_state hG hl d p2 w fp2) dX0_state_4 rfl rfl q707 q708 q709 q93 q710 pm_X1_state rfl rfl rfl rfl rfl (fun wr1 r1 _ => ?_) (fun wq3 q3 _ hq3 => ?_)
    · refine j_i2l K dX0_state_7 ?_
      refine j_ib (fun hi2 => ?_)
      refine j_las K dX0_state_8 rfl (outLen2 rfl) hi2 ?_
      refine j_goto 15 K dX0_state_9 (by decide) ?_
      refine j_iconstZ K dX0_state_15 rfl (Or.inl rfl) ?_
      exact j_iret K hr dX0_state_16
    · refine t_ite (fun hk4 => ?_) (fun _ => ?_)
      · refine j_catch (kd := 42) 12 K [] ⟨0, 9, 12, 21⟩ [] hxt (fun _ h => by cases h) rfl (by decide) rfl q630 q645 rfl hq3 hk4 ?_
        refine j_astore_n K dX0_state_12 rfl rfl ?_
        refine j_iconstZ K dX0_state_13 rfl (Or.inr rfl) ?_
        exact j_iret K hr dX0_state_14
      exact t_none

theorem pm_X0_low : yX0_low.cls = RX0 ∧ yX0_low.cls ≠ "java/lang/invoke/MethodHandle" ∧ yX0_low.cls ≠ "java/lang/invoke/VarHandle" ∧ (parseMethodDescriptor yX0_low.desc).map (fun d => d.parameters.length) = some 3 := by decide +kernel
def f_X0_low (d : Nat) (p2 : Int32) (w : Wd) : Option (Wd × Int32) :=
  match d with
  | 0 => none
  | d + 1 =>
    bC (f_X1_low d p2 w) (fun wr1 r1 =>
      if ib 0 1 = true then
        some (sJ wr1 66 (Int32.toNatClampNeg 0) (Int32.toInt64 r1), 0)
      else none) fun wq3 q3 =>
    if gK wq3 q3 = 42 then
      some (wq3, 1)
    else
      none
theorem sim_X0_low {G : Gx} (hG : GW G) {l : Launch} (hl : l.stackTraces = false) (d : Nat) (p2 : Int32) (w : Wd) (fp2 : Bool) : Mt G true l yX0_low (wsW_ yX0_low cX0_low 4 (some .int) [(0, 9, 12, 21)]) d (rrV G pI) [aR 1 (some 8), aB fp2 p2, aR 13 (some 66)] w (f_X0_low d p2 w) := by
  refine Mt.ofW (own := "IntervalTreeLaw") hG hl (by decide +kernel) rfl rfl ?_
  intro M hM hr hnm hxt hnd K
  subst hM
  cases d with
  | zero => exact j_none
  | succ d =>
    refine j_aload_n K dX0_low_0 rfl ?_
    refine j_iconstZ K dX0_low_1 rfl (Or.inl rfl) ?_
    refine j_aload_n K dX0_low_2 rfl ?_
    refine j_iload_n K dX0_low_3 rfl ?_
    refine j_callVC _ K (sim_X1_low hG hl d p2 w fp2) dX0_low_4 rfl rfl q714 q715 q716 q93 q717 pm_X1_low rfl rfl rfl rfl rfl (fun wr1 r1 _ => ?_) (fun wq3 q3 _ hq3 => ?_)
    · refine j_i2l K dX0_low_7 ?_
      refine j_ib (fun hi2 => ?_)
      refine j_las K dX0_low_8 rfl (outLen2 rfl) hi2 ?_
      refine j_goto 15 K dX0_low_9 (by decide) ?_
      refine j_iconstZ K dX0_low_15 rfl (Or.inl rfl) ?_
      exact j_iret K hr dX0_low_16
    · refine t_ite (fun hk4 => ?_) (fun _ => ?_)
      · refine j_catch (kd := 42) 12 K [] ⟨0, 9, 12, 21⟩ [] hxt (fun _ h => by cases h) rfl (by decide) rfl q630 q645 rfl hq3 hk4 ?_
        refine j_astore_n K dX0_low_12 rfl rfl ?_
        refine j_iconstZ K dX0_low_13 rfl (Or.inr rfl) ?_
        exact j_iret K hr dX0_low_14
      exact t_none

theorem pm_X0_high : yX0_high.cls = RX0 ∧ yX0_high.cls ≠ "java/lang/invoke/MethodHandle" ∧ yX0_high.cls ≠ "java/lang/invoke/VarHandle" ∧ (parseMethodDescriptor yX0_high.desc).map (fun d => d.parameters.length) = some 3 := by decide +kernel
def f_X0_high (d : Nat) (p2 : Int32) (w : Wd) : Option (Wd × Int32) :=
  match d with
  | 0 => none
  | d + 1 =>
    bC (f_X1_high d p2 w) (fun wr1 r1 =>
      if ib 0 1 = true then
        some (sJ wr1 66 (Int32.toNatClampNeg 0) (Int32.toInt64 r1), 0)
      else none) fun wq3 q3 =>
    if gK wq3 q3 = 42 then
      some (wq3, 1)
    else
      none
theorem sim_X0_high {G : Gx} (hG : GW G) {l : Launch} (hl : l.stackTraces = false) (d : Nat) (p2 : Int32) (w : Wd) (fp2 : Bool) : Mt G true l yX0_high (wsW_ yX0_high cX0_high 4 (some .int) [(0, 9, 12, 21)]) d (rrV G pI) [aR 1 (some 8), aB fp2 p2, aR 13 (some 66)] w (f_X0_high d p2 w) := by
  refine Mt.ofW (own := "IntervalTreeLaw") hG hl (by decide +kernel) rfl rfl ?_
  intro M hM hr hnm hxt hnd K
  subst hM
  cases d with
  | zero => exact j_none
  | succ d =>
    refine j_aload_n K dX0_high_0 rfl ?_
    refine j_iconstZ K dX0_high_1 rfl (Or.inl rfl) ?_
    refine j_aload_n K dX0_high_2 rfl ?_
    refine j_iload_n K dX0_high_3 rfl ?_
    refine j_callVC _ K (sim_X1_high hG hl d p2 w fp2) dX0_high_4 rfl rfl q721 q722 q723 q93 q724 pm_X1_high rfl rfl rfl rfl rfl (fun wr1 r1 _ => ?_) (fun wq3 q3 _ hq3 => ?_)
    · refine j_i2l K dX0_high_7 ?_
      refine j_ib (fun hi2 => ?_)
      refine j_las K dX0_high_8 rfl (outLen2 rfl) hi2 ?_
      refine j_goto 15 K dX0_high_9 (by decide) ?_
      refine j_iconstZ K dX0_high_15 rfl (Or.inl rfl) ?_
      exact j_iret K hr dX0_high_16
    · refine t_ite (fun hk4 => ?_) (fun _ => ?_)
      · refine j_catch (kd := 42) 12 K [] ⟨0, 9, 12, 21⟩ [] hxt (fun _ h => by cases h) rfl (by decide) rfl q630 q645 rfl hq3 hk4 ?_
        refine j_astore_n K dX0_high_12 rfl rfl ?_
        refine j_iconstZ K dX0_high_13 rfl (Or.inr rfl) ?_
        exact j_iret K hr dX0_high_14
      exact t_none

theorem pm_X0_weight : yX0_weight.cls = RX0 ∧ yX0_weight.cls ≠ "java/lang/invoke/MethodHandle" ∧ yX0_weight.cls ≠ "java/lang/invoke/VarHandle" ∧ (parseMethodDescriptor yX0_weight.desc).map (fun d => d.parameters.length) = some 3 := by decide +kernel
def f_X0_weight (d : Nat) (p2 : Int32) (w : Wd) : Option (Wd × Int32) :=
  match d with
  | 0 => none
  | d + 1 =>
    bC (f_X1_weight d p2 w) (fun wr1 r1 =>
      if ib 0 1 = true then
        some (sJ wr1 66 (Int32.toNatClampNeg 0) (Int32.toInt64 r1), 0)
      else none) fun wq3 q3 =>
    if gK wq3 q3 = 42 then
      some (wq3, 1)
    else
      none
theorem sim_X0_weight {G : Gx} (hG : GW G) {l : Launch} (hl : l.stackTraces = false) (d : Nat) (p2 : Int32) (w : Wd) (fp2 : Bool) : Mt G true l yX0_weight (wsW_ yX0_weight cX0_weight 4 (some .int) [(0, 9, 12, 21)]) d (rrV G pI) [aR 1 (some 8), aB fp2 p2, aR 13 (some 66)] w (f_X0_weight d p2 w) := by
  refine Mt.ofW (own := "IntervalTreeLaw") hG hl (by decide +kernel) rfl rfl ?_
  intro M hM hr hnm hxt hnd K
  subst hM
  cases d with
  | zero => exact j_none
  | succ d =>
    refine j_aload_n K dX0_weight_0 rfl ?_
    refine j_iconstZ K dX0_weight_1 rfl (Or.inl rfl) ?_
    refine j_aload_n K dX0_weight_2 rfl ?_
    refine j_iload_n K dX0_weight_3 rfl ?_
    refine j_callVC _ K (sim_X1_weight hG hl d p2 w fp2) dX0_weight_4 rfl rfl q728 q729 q730 q93 q731 pm_X1_weight rfl rfl rfl rfl rfl (fun wr1 r1 _ => ?_) (fun wq3 q3 _ hq3 => ?_)
    · refine j_i2l K dX0_weight_7 ?_
      refine j_ib (fun hi2 => ?_)
      refine j_las K dX0_weight_8 rfl (outLen2 rfl) hi2 ?_
      refine j_goto 15 K dX0_weight_9 (by decide) ?_
      refine j_iconstZ K dX0_weight_15 rfl (Or.inl rfl) ?_
      exact j_iret K hr dX0_weight_16
    · refine t_ite (fun hk4 => ?_) (fun _ => ?_)
      · refine j_catch (kd := 42) 12 K [] ⟨0, 9, 12, 21⟩ [] hxt (fun _ h => by cases h) rfl (by decide) rfl q630 q645 rfl hq3 hk4 ?_
        refine j_astore_n K dX0_weight_12 rfl rfl ?_
        refine j_iconstZ K dX0_weight_13 rfl (Or.inr rfl) ?_
        exact j_iret K hr dX0_weight_14
      exact t_none

theorem pm_X0_parent : yX0_parent.cls = RX0 ∧ yX0_parent.cls ≠ "java/lang/invoke/MethodHandle" ∧ yX0_parent.cls ≠ "java/lang/invoke/VarHandle" ∧ (parseMethodDescriptor yX0_parent.desc).map (fun d => d.parameters.length) = some 3 := by decide +kernel
def f_X0_parent (d : Nat) (p2 : Int32) (w : Wd) : Option (Wd × Int32) :=
  match d with
  | 0 => none
  | d + 1 =>
    bC (f_X1_parent d p2 w) (fun wr1 r1 =>
      if ib 0 1 = true then
        some (sJ wr1 66 (Int32.toNatClampNeg 0) (Int32.toInt64 r1), 0)
      else none) fun wq3 q3 =>
    if gK wq3 q3 = 42 then
      some (wq3, 1)
    else
      none
theorem sim_X0_parent {G : Gx} (hG : GW G) {l : Launch} (hl : l.stackTraces = false) (d : Nat) (p2 : Int32) (w : Wd) (fp2 : Bool) : Mt G true l yX0_parent (wsW_ yX0_parent cX0_parent 4 (some .int) [(0, 9, 12, 21)]) d (rrV G pI) [aR 1 (some 8), aB fp2 p2, aR 13 (some 66)] w (f_X0_parent d p2 w) := by
  refine Mt.ofW (own := "IntervalTreeLaw") hG hl (by decide +kernel) rfl rfl ?_
  intro M hM hr hnm hxt hnd K
  subst hM
  cases d with
  | zero => exact j_none
  | succ d =>
    refine j_aload_n K dX0_parent_0 rfl ?_
    refine j_iconstZ K dX0_parent_1 rfl (Or.inl rfl) ?_
    refine j_aload_n K dX0_parent_2 rfl ?_
    refine j_iload_n K dX0_parent_3 rfl ?_
    refine j_callVC _ K (sim_X1_parent hG hl d p2 w fp2) dX0_parent_4 rfl rfl q736 q737 q738 q93 q739 pm_X1_parent rfl rfl rfl rfl rfl (fun wr1 r1 _ => ?_) (fun wq3 q3 _ hq3 => ?_)
    · refine j_i2l K dX0_parent_7 ?_
      refine j_ib (fun hi2 => ?_)
      refine j_las K dX0_parent_8 rfl (outLen2 rfl) hi2 ?_
      refine j_goto 15 K dX0_parent_9 (by decide) ?_
      refine j_iconstZ K dX0_parent_15 rfl (Or.inl rfl) ?_
      exact j_iret K hr dX0_parent_16
    · refine t_ite (fun hk4 => ?_) (fun _ => ?_)
      · refine j_catch (kd := 42) 12 K [] ⟨0, 9, 12, 21⟩ [] hxt (fun _ h => by cases h) rfl (by decide) rfl q630 q645 rfl hq3 hk4 ?_
        refine j_astore_n K dX0_parent_12 rfl rfl ?_
        refine j_iconstZ K dX0_parent_13 rfl (Or.inr rfl) ?_
        exact j_iret K hr dX0_parent_14
      exact t_none

theorem pm_X0_child : yX0_child.cls = RX0 ∧ yX0_child.cls ≠ "java/lang/invoke/MethodHandle" ∧ yX0_child.cls ≠ "java/lang/invoke/VarHandle" ∧ (parseMethodDescriptor yX0_child.desc).map (fun d => d.parameters.length) = some 4 := by decide +kernel
def f_X0_child (d : Nat) (p2 : Int32) (p3 : Int32) (w : Wd) : Option (Wd × Int32) :=
  match d with
  | 0 => none
  | d + 1 =>
    bC (f_X1_child d p2 p3 w) (fun wr1 r1 =>
      if ib 0 1 = true then
        some (sJ wr1 66 (Int32.toNatClampNeg 0) (Int32.toInt64 r1), 0)
      else none) fun wq3 q3 =>
    if gK wq3 q3 = 42 then
      some (wq3, 1)
    else
      none
theorem sim_X0_child {G : Gx} (hG : GW G) {l : Launch} (hl : l.stackTraces = false) (d : Nat) (p2 : Int32) (p3 : Int32) (w : Wd) (fp2 : Bool) : Mt G true l yX0_child (wsW_ yX0_child cX0_child 5 (some .int) [(0, 10, 13, 21)]) d (rrV G pI) [aR 1 (some 8), aB fp2 p2, aZ p3, aR 13 (some 66)] w (f_X0_child d p2 p3 w) := by
  refine Mt.ofW (own := "IntervalTreeLaw") hG hl (by decide +kernel) rfl rfl ?_
  intro M hM hr hnm hxt hnd K
  subst hM
  cases d with
  | zero => exact j_none
  | succ d =>
    refine j_aload_n K dX0_child_0 rfl ?_
    refine j_iconstZ K dX0_child_1 rfl (Or.inl rfl) ?_
    refine j_aload_n K dX0_child_2 rfl ?_
    refine j_iload_n K dX0_child_3 rfl ?_
    refine j_iload_n K dX0_child_4 rfl ?_
    refine j_callVC _ K (sim_X1_child hG hl d p2 p3 w fp2) dX0_child_5 rfl rfl q743 q744 q745 q93 q746 pm_X1_child rfl rfl rfl rfl rfl (fun wr1 r1 _ => ?_) (fun wq3 q3 _ hq3 => ?_)
    · refine j_i2l K dX0_child_8 ?_
      refine j_ib (fun hi2 => ?_)
      refine j_las K dX0_child_9 rfl (outLen2 rfl) hi2 ?_
      refine j_goto 17 K dX0_child_10 (by decide) ?_
      refine j_iconstZ K dX0_child_17 rfl (Or.inl rfl) ?_
      exact j_iret K hr dX0_child_18
    · refine t_ite (fun hk4 => ?_) (fun _ => ?_)
      · refine j_catch (kd := 42) 13 K [] ⟨0, 10, 13, 21⟩ [] hxt (fun _ h => by cases h) rfl (by decide) rfl q630 q645 rfl hq3 hk4 ?_
        refine j_astore K dX0_child_13 rfl rfl ?_
        refine j_iconstZ K dX0_child_15 rfl (Or.inr rfl) ?_
        exact j_iret K hr dX0_child_16
      exact t_none

theorem pm_X0_isRed : yX0_isRed.cls = RX0 ∧ yX0_isRed.cls ≠ "java/lang/invoke/MethodHandle" ∧ yX0_isRed.cls ≠ "java/lang/invoke/VarHandle" ∧ (parseMethodDescriptor yX0_isRed.desc).map (fun d => d.parameters.length) = some 3 := by decide +kernel
def f_X0_isRed (d : Nat) (p2 : Int32) (w : Wd) : Option (Wd × Int32) :=
  match d with
  | 0 => none
  | d + 1 =>
    bC (f_X1_isRed d p2 w) (fun wr1 r1 =>
      if r1 = 0 then
        if ib 0 1 = true then
          some (sJ wr1 66 (Int32.toNatClampNeg 0) 0, 0)
        else none
      else
        if ib 0 1 = true then
          some (sJ wr1 66 (Int32.toNatClampNeg 0) 1, 0)
        else none) fun wq4 q4 =>
    if gK wq4 q4 = 42 then
      some (wq4, 1)
    else
      none
theorem sim_X0_isRed {G : Gx} (hG : GW G) {l : Launch} (hl : l.stackTraces = false) (d : Nat) (p2 : Int32) (w : Wd) (fp2 : Bool) : Mt G true l yX0_isRed (wsW_ yX0_isRed cX0_isRed 4 (some .int) [(0, 16, 19, 21)]) d (rrV G pI) [aR 1 (some 8), aB fp2 p2, aR 13 (some 66)] w (f_X0_isRed d p2 w) := by
  refine Mt.ofW (own := "IntervalTreeLaw") hG hl (by decide +kernel) rfl rfl ?_
  intro M hM hr hnm hxt hnd K
  subst hM
  cases d with
  | zero => exact j_none
  | succ d =>
    refine j_aload_n K dX0_isRed_0 rfl ?_
    refine j_iconstZ K dX0_isRed_1 rfl (Or.inl rfl) ?_
    refine j_aload_n K dX0_isRed_2 rfl ?_
    refine j_iload_n K dX0_isRed_3 rfl ?_
    refine j_callVC _ K (sim_X1_isRed hG hl d p2 w fp2) dX0_isRed_4 rfl rfl q750 q751 q752 q93 q753 pm_X1_isRed rfl rfl rfl rfl rfl (fun wr1 r1 _ => ?_) (fun wq4 q4 _ hq4 => ?_)
    · refine j_if_eq 14 K dX0_isRed_7 (by decide) ?_ ?_
      · refine j_lconst (x := 0) K dX0_isRed_14 rfl ?_
        refine j_ib (fun hi2 => ?_)
        refine j_las K dX0_isRed_15 rfl (outLen2 rfl) hi2 ?_
        refine j_goto 22 K dX0_isRed_16 (by decide) ?_
        refine j_iconstZ K dX0_isRed_22 rfl (Or.inl rfl) ?_
        exact j_iret K hr dX0_isRed_23
      · refine j_lconst (x := 1) K dX0_isRed_10 rfl ?_
        refine j_goto 15 K dX0_isRed_11 (by decide) ?_
        refine j_ib (fun hi3 => ?_)
        refine j_las K dX0_isRed_15 rfl (outLen2 rfl) hi3 ?_
        refine j_goto 22 K dX0_isRed_16 (by decide) ?_
        refine j_iconstZ K dX0_isRed_22 rfl (Or.inl rfl) ?_
        exact j_iret K hr dX0_isRed_23
    · refine t_ite (fun hk5 => ?_) (fun _ => ?_)
      · refine j_catch (kd := 42) 19 K [] ⟨0, 16, 19, 21⟩ [] hxt (fun _ h => by cases h) rfl (by decide) rfl q630 q645 rfl hq4 hk5 ?_
        refine j_astore_n K dX0_isRed_19 rfl rfl ?_
        refine j_iconstZ K dX0_isRed_20 rfl (Or.inr rfl) ?_
        exact j_iret K hr dX0_isRed_21
      exact t_none

theorem pm_X0_subtreeSize : yX0_subtreeSize.cls = RX0 ∧ yX0_subtreeSize.cls ≠ "java/lang/invoke/MethodHandle" ∧ yX0_subtreeSize.cls ≠ "java/lang/invoke/VarHandle" ∧ (parseMethodDescriptor yX0_subtreeSize.desc).map (fun d => d.parameters.length) = some 3 := by decide +kernel
def f_X0_subtreeSize (d : Nat) (p2 : Int32) (w : Wd) : Option (Wd × Int32) :=
  match d with
  | 0 => none
  | d + 1 =>
    bC (f_X1_subtreeSize d p2 w) (fun wr1 r1 =>
      if ib 0 1 = true then
        some (sJ wr1 66 (Int32.toNatClampNeg 0) (Int32.toInt64 r1), 0)
      else none) fun wq3 q3 =>
    if gK wq3 q3 = 42 then
      some (wq3, 1)
    else
      none
theorem sim_X0_subtreeSize {G : Gx} (hG : GW G) {l : Launch} (hl : l.stackTraces = false) (d : Nat) (p2 : Int32) (w : Wd) (fp2 : Bool) : Mt G true l yX0_subtreeSize (wsW_ yX0_subtreeSize cX0_subtreeSize 4 (some .int) [(0, 9, 12, 21)]) d (rrV G pI) [aR 1 (some 8), aB fp2 p2, aR 13 (some 66)] w (f_X0_subtreeSize d p2 w) := by
  refine Mt.ofW (own := "IntervalTreeLaw") hG hl (by decide +kernel) rfl rfl ?_
  intro M hM hr hnm hxt hnd K
  subst hM
  cases d with
  | zero => exact j_none
  | succ d =>
    refine j_aload_n K dX0_subtreeSize_0 rfl ?_
    refine j_iconstZ K dX0_subtreeSize_1 rfl (Or.inl rfl) ?_
    refine j_aload_n K dX0_subtreeSize_2 rfl ?_
    refine j_iload_n K dX0_subtreeSize_3 rfl ?_
    refine j_callVC _ K (sim_X1_subtreeSize hG hl d p2 w fp2) dX0_subtreeSize_4 rfl rfl q757 q758 q759 q93 q760 pm_X1_subtreeSize rfl rfl rfl rfl rfl (fun wr1 r1 _ => ?_) (fun wq3 q3 _ hq3 => ?_)
    · refine j_i2l K dX0_subtreeSize_7 ?_
      refine j_ib (fun hi2 => ?_)
      refine j_las K dX0_subtreeSize_8 rfl (outLen2 rfl) hi2 ?_
      refine j_goto 15 K dX0_subtreeSize_9 (by decide) ?_
      refine j_iconstZ K dX0_subtreeSize_15 rfl (Or.inl rfl) ?_
      exact j_iret K hr dX0_subtreeSize_16
    · refine t_ite (fun hk4 => ?_) (fun _ => ?_)
      · refine j_catch (kd := 42) 12 K [] ⟨0, 9, 12, 21⟩ [] hxt (fun _ h => by cases h) rfl (by decide) rfl q630 q645 rfl hq3 hk4 ?_
        refine j_astore_n K dX0_subtreeSize_12 rfl rfl ?_
        refine j_iconstZ K dX0_subtreeSize_13 rfl (Or.inr rfl) ?_
        exact j_iret K hr dX0_subtreeSize_14
      exact t_none

theorem pm_X0_subtreeHigh : yX0_subtreeHigh.cls = RX0 ∧ yX0_subtreeHigh.cls ≠ "java/lang/invoke/MethodHandle" ∧ yX0_subtreeHigh.cls ≠ "java/lang/invoke/VarHandle" ∧ (parseMethodDescriptor yX0_subtreeHigh.desc).map (fun d => d.parameters.length) = some 3 := by decide +kernel
def f_X0_subtreeHigh (d : Nat) (p2 : Int32) (w : Wd) : Option (Wd × Int32) :=
  match d with
  | 0 => none
  | d + 1 =>
    bC (f_X1_subtreeHigh d p2 w) (fun wr1 r1 =>
      if ib 0 1 = true then
        some (sJ wr1 66 (Int32.toNatClampNeg 0) (Int32.toInt64 r1), 0)
      else none) fun wq3 q3 =>
    if gK wq3 q3 = 42 then
      some (wq3, 1)
    else
      if gK wq3 q3 = 41 then
        some (wq3, 2)
      else
        none
theorem sim_X0_subtreeHigh {G : Gx} (hG : GW G) {l : Launch} (hl : l.stackTraces = false) (d : Nat) (p2 : Int32) (w : Wd) (fp2 : Bool) : Mt G true l yX0_subtreeHigh (wsW_ yX0_subtreeHigh cX0_subtreeHigh 4 (some .int) [(0, 9, 12, 21), (0, 9, 15, 15)]) d (rrV G pI) [aR 1 (some 8), aB fp2 p2, aR 13 (some 66)] w (f_X0_subtreeHigh d p2 w) := by
  refine Mt.ofW (own := "IntervalTreeLaw") hG hl (by decide +kernel) rfl rfl ?_
  intro M hM hr hnm hxt hnd K
  subst hM
  cases d with
  | zero => exact j_none
  | succ d =>
    refine j_aload_n K dX0_subtreeHigh_0 rfl ?_
    refine j_iconstZ K dX0_subtreeHigh_1 rfl (Or.inl rfl) ?_
    refine j_aload_n K dX0_subtreeHigh_2 rfl ?_
    refine j_iload_n K dX0_subtreeHigh_3 rfl ?_
    refine j_callVC _ K (sim_X1_subtreeHigh hG hl d p2 w fp2) dX0_subtreeHigh_4 rfl rfl q764 q765 q766 q93 q767 pm_X1_subtreeHigh rfl rfl rfl rfl rfl (fun wr1 r1 _ => ?_) (fun wq3 q3 _ hq3 => ?_)
    · refine j_i2l K dX0_subtreeHigh_7 ?_
      refine j_ib (fun hi2 => ?_)
      refine j_las K dX0_subtreeHigh_8 rfl (outLen2 rfl) hi2 ?_
      refine j_goto 18 K dX0_subtreeHigh_9 (by decide) ?_
      refine j_iconstZ K dX0_subtreeHigh_18 rfl (Or.inl rfl) ?_
      exact j_iret K hr dX0_subtreeHigh_19
    · refine t_ite (fun hk5 => ?_) (fun _ => ?_)
      · refine j_catch (kd := 42) 12 K [] ⟨0, 9, 12, 21⟩ [⟨0, 9, 15, 15⟩] hxt (fun _ h => by cases h) rfl (by decide) rfl q630 q645 rfl hq3 hk5 ?_
        refine j_astore_n K dX0_subtreeHigh_12 rfl rfl ?_
        refine j_iconstZ K dX0_subtreeHigh_13 rfl (Or.inr rfl) ?_
        exact j_iret K hr dX0_subtreeHigh_14
      refine t_ite (fun hk4 => ?_) (fun _ => ?_)
      · refine j_catch (kd := 41) 15 K [⟨0, 9, 12, 21⟩] ⟨0, 9, 15, 15⟩ [] hxt (fun z hz => by cases List.mem_singleton.mp hz; exact Or.inr ⟨by decide, _, 42, rfl, by decide, q630⟩) rfl (by decide) rfl q439 q522 rfl hq3 hk4 ?_
        refine j_astore_n K dX0_subtreeHigh_15 rfl rfl ?_
        refine j_iconst (x := 2) K dX0_subtreeHigh_16 rfl ?_
        exact j_iret K hr dX0_subtreeHigh_17
      exact t_none

theorem pm_X0_subtreeWeight : yX0_subtreeWeight.cls = RX0 ∧ yX0_subtreeWeight.cls ≠ "java/lang/invoke/MethodHandle" ∧ yX0_subtreeWeight.cls ≠ "java/lang/invoke/VarHandle" ∧ (parseMethodDescriptor yX0_subtreeWeight.desc).map (fun d => d.parameters.length) = some 3 := by decide +kernel
def f_X0_subtreeWeight (d : Nat) (p2 : Int32) (w : Wd) : Option (Wd × Int32) :=
  match d with
  | 0 => none
  | d + 1 =>
    bC (f_X1_subtreeWeight d p2 w) (fun wr1 r1 =>
      if ib 0 1 = true then
        some (sJ wr1 66 (Int32.toNatClampNeg 0) (Int32.toInt64 r1), 0)
      else none) fun wq3 q3 =>
    if gK wq3 q3 = 42 then
      some (wq3, 1)
    else
      if gK wq3 q3 = 41 then
        some (wq3, 2)
      else
        none
theorem sim_X0_subtreeWeight {G : Gx} (hG : GW G) {l : Launch} (hl : l.stackTraces = false) (d : Nat) (p2 : Int32) (w : Wd) (fp2 : Bool) : Mt G true l yX0_subtreeWeight (wsW_ yX0_subtreeWeight cX0_subtreeWeight 4 (some .int) [(0, 9, 12, 21), (0, 9, 15, 15)]) d (rrV G pI) [aR 1 (some 8), aB fp2 p2, aR 13 (some 66)] w (f_X0_subtreeWeight d p2 w) := by
  refine Mt.ofW (own := "IntervalTreeLaw") hG hl (by decide +kernel) rfl rfl ?_
  intro M hM hr hnm hxt hnd K
  subst hM
  cases d with
  | zero => exact j_none
  | succ d =>
    refine j_aload_n K dX0_subtreeWeight_0 rfl ?_
    refine j_iconstZ K dX0_subtreeWeight_1 rfl (Or.inl rfl) ?_
    refine j_aload_n K dX0_subtreeWeight_2 rfl ?_
    refine j_iload_n K dX0_subtreeWeight_3 rfl ?_
    refine j_callVC _ K (sim_X1_subtreeWeight hG hl d p2 w fp2) dX0_subtreeWeight_4 rfl rfl q776 q777 q778 q93 q779 pm_X1_subtreeWeight rfl rfl rfl rfl rfl (fun wr1 r1 _ => ?_) (fun wq3 q3 _ hq3 => ?_)
    · refine j_i2l K dX0_subtreeWeight_7 ?_
      refine j_ib (fun hi2 => ?_)
      refine j_las K dX0_subtreeWeight_8 rfl (outLen2 rfl) hi2 ?_
      refine j_goto 18 K dX0_subtreeWeight_9 (by decide) ?_
      refine j_iconstZ K dX0_subtreeWeight_18 rfl (Or.inl rfl) ?_
      exact j_iret K hr dX0_subtreeWeight_19
    · refine t_ite (fun hk5 => ?_) (fun _ => ?_)
      · refine j_catch (kd := 42) 12 K [] ⟨0, 9, 12, 21⟩ [⟨0, 9, 15, 15⟩] hxt (fun _ h => by cases h) rfl (by decide) rfl q630 q645 rfl hq3 hk5 ?_
        refine j_astore_n K dX0_subtreeWeight_12 rfl rfl ?_
        refine j_iconstZ K dX0_subtreeWeight_13 rfl (Or.inr rfl) ?_
        exact j_iret K hr dX0_subtreeWeight_14
      refine t_ite (fun hk4 => ?_) (fun _ => ?_)
      · refine j_catch (kd := 41) 15 K [⟨0, 9, 12, 21⟩] ⟨0, 9, 15, 15⟩ [] hxt (fun z hz => by cases List.mem_singleton.mp hz; exact Or.inr ⟨by decide, _, 42, rfl, by decide, q630⟩) rfl (by decide) rfl q439 q522 rfl hq3 hk4 ?_
        refine j_astore_n K dX0_subtreeWeight_15 rfl rfl ?_
        refine j_iconst (x := 2) K dX0_subtreeWeight_16 rfl ?_
        exact j_iret K hr dX0_subtreeWeight_17
      exact t_none

theorem pm_X0_heaviest : yX0_heaviest.cls = RX0 ∧ yX0_heaviest.cls ≠ "java/lang/invoke/MethodHandle" ∧ yX0_heaviest.cls ≠ "java/lang/invoke/VarHandle" ∧ (parseMethodDescriptor yX0_heaviest.desc).map (fun d => d.parameters.length) = some 4 := by decide +kernel
def f_X0_heaviest (d : Nat) (p2 : Int32) (p3 : Int32) (w : Wd) : Option (Wd × Int32) :=
  match d with
  | 0 => none
  | d + 1 =>
    bC (f_X1_heaviest d p2 p3 w) (fun wr1 r1 =>
      if ib 0 1 = true then
        some (sJ wr1 66 (Int32.toNatClampNeg 0) (Int32.toInt64 r1), 0)
      else none) fun wq3 q3 =>
    if gK wq3 q3 = 40 then
      some (wq3, 1)
    else
      none
theorem sim_X0_heaviest {G : Gx} (hG : GW G) {l : Launch} (hl : l.stackTraces = false) (d : Nat) (p2 : Int32) (p3 : Int32) (w : Wd) (fp2 : Bool) (fp3 : Bool) : Mt G true l yX0_heaviest (wsW_ yX0_heaviest cX0_heaviest 5 (some .int) [(0, 10, 13, 13)]) d (rrV G pI) [aR 1 (some 8), aB fp2 p2, aB fp3 p3, aR 13 (some 66)] w (f_X0_heaviest d p2 p3 w) := by
  refine Mt.ofW (own := "IntervalTreeLaw") hG hl (by decide +kernel) rfl rfl ?_
  intro M hM hr hnm hxt hnd K
  subst hM
  cases d with
  | zero => exact j_none
  | succ d =>
    refine j_aload_n K dX0_heaviest_0 rfl ?_
    refine j_iconstZ K dX0_heaviest_1 rfl (Or.inl rfl) ?_
    refine j_aload_n K dX0_heaviest_2 rfl ?_
    refine j_iload_n K dX0_heaviest_3 rfl ?_
    refine j_iload_n K dX0_heaviest_4 rfl ?_
    refine j_callVC _ K (sim_X1_heaviest hG hl d p2 p3 w fp2 fp3) dX0_heaviest_5 rfl rfl q783 q784 q785 q93 q786 pm_X1_heaviest rfl rfl rfl rfl rfl (fun wr1 r1 _ => ?_) (fun wq3 q3 _ hq3 => ?_)
    · refine j_i2l K dX0_heaviest_8 ?_
      refine j_ib (fun hi2 => ?_)
      refine j_las K dX0_heaviest_9 rfl (outLen2 rfl) hi2 ?_
      refine j_goto 17 K dX0_heaviest_10 (by decide) ?_
      refine j_iconstZ K dX0_heaviest_17 rfl (Or.inl rfl) ?_
      exact j_iret K hr dX0_heaviest_18
    · refine t_ite (fun hk4 => ?_) (fun _ => ?_)
      · refine j_catch (kd := 40) 13 K [] ⟨0, 10, 13, 13⟩ [] hxt (fun _ h => by cases h) rfl (by decide) rfl q438 q452 rfl hq3 hk4 ?_
        refine j_astore K dX0_heaviest_13 rfl rfl ?_
        refine j_iconstZ K dX0_heaviest_15 rfl (Or.inr rfl) ?_
        exact j_iret K hr dX0_heaviest_16
      exact t_none

theorem pm_X0_heaviestOverlap : yX0_heaviestOverlap.cls = RX0 ∧ yX0_heaviestOverlap.cls ≠ "java/lang/invoke/MethodHandle" ∧ yX0_heaviestOverlap.cls ≠ "java/lang/invoke/VarHandle" ∧ (parseMethodDescriptor yX0_heaviestOverlap.desc).map (fun d => d.parameters.length) = some 5 := by decide +kernel
def f_X0_heaviestOverlap (d : Nat) (p2 : Int32) (p3 : Int32) (p4 : Int32) (w : Wd) : Option (Wd × Int32) :=
  match d with
  | 0 => none
  | d + 1 =>
    bC (f_X1_heaviestOverlap d p2 p3 p4 w) (fun wr1 r1 =>
      if ib 0 1 = true then
        some (sJ wr1 66 (Int32.toNatClampNeg 0) (Int32.toInt64 r1), 0)
      else none) fun wq3 q3 =>
    if gK wq3 q3 = 40 then
      some (wq3, 1)
    else
      none
theorem sim_X0_heaviestOverlap {G : Gx} (hG : GW G) {l : Launch} (hl : l.stackTraces = false) (d : Nat) (p2 : Int32) (p3 : Int32) (p4 : Int32) (w : Wd) (fp2 : Bool) (fp3 : Bool) (fp4 : Bool) : Mt G true l yX0_heaviestOverlap (wsW_ yX0_heaviestOverlap cX0_heaviestOverlap 6 (some .int) [(0, 12, 15, 13)]) d (rrV G pI) [aR 1 (some 8), aB fp2 p2, aB fp3 p3, aB fp4 p4, aR 13 (some 66)] w (f_X0_heaviestOverlap d p2 p3 p4 w) := by
  refine Mt.ofW (own := "IntervalTreeLaw") hG hl (by decide +kernel) rfl rfl ?_
  intro M hM hr hnm hxt hnd K
  subst hM
  cases d with
  | zero => exact j_none
  | succ d =>
    refine j_aload K dX0_heaviestOverlap_0 rfl ?_
    refine j_iconstZ K dX0_heaviestOverlap_2 rfl (Or.inl rfl) ?_
    refine j_aload_n K dX0_heaviestOverlap_3 rfl ?_
    refine j_iload_n K dX0_heaviestOverlap_4 rfl ?_
    refine j_iload_n K dX0_heaviestOverlap_5 rfl ?_
    refine j_iload_n K dX0_heaviestOverlap_6 rfl ?_
    refine j_callVC _ K (sim_X1_heaviestOverlap hG hl d p2 p3 p4 w fp2 fp3 fp4) dX0_heaviestOverlap_7 rfl rfl q801 q802 q803 q93 q804 pm_X1_heaviestOverlap rfl rfl rfl rfl rfl (fun wr1 r1 _ => ?_) (fun wq3 q3 _ hq3 => ?_)
    · refine j_i2l K dX0_heaviestOverlap_10 ?_
      refine j_ib (fun hi2 => ?_)
      refine j_las K dX0_heaviestOverlap_11 rfl (outLen2 rfl) hi2 ?_
      refine j_goto 19 K dX0_heaviestOverlap_12 (by decide) ?_
      refine j_iconstZ K dX0_heaviestOverlap_19 rfl (Or.inl rfl) ?_
      exact j_iret K hr dX0_heaviestOverlap_20
    · refine t_ite (fun hk4 => ?_) (fun _ => ?_)
      · refine j_catch (kd := 40) 15 K [] ⟨0, 12, 15, 13⟩ [] hxt (fun _ h => by cases h) rfl (by decide) rfl q438 q452 rfl hq3 hk4 ?_
        refine j_astore K dX0_heaviestOverlap_15 rfl rfl ?_
        refine j_iconstZ K dX0_heaviestOverlap_17 rfl (Or.inr rfl) ?_
        exact j_iret K hr dX0_heaviestOverlap_18
      exact t_none

theorem pm_X0_firstOverlap : yX0_firstOverlap.cls = RX0 ∧ yX0_firstOverlap.cls ≠ "java/lang/invoke/MethodHandle" ∧ yX0_firstOverlap.cls ≠ "java/lang/invoke/VarHandle" ∧ (parseMethodDescriptor yX0_firstOverlap.desc).map (fun d => d.parameters.length) = some 4 := by decide +kernel
def f_X0_firstOverlap (d : Nat) (p2 : Int32) (p3 : Int32) (w : Wd) : Option (Wd × Int32) :=
  match d with
  | 0 => none
  | d + 1 =>
    bC (f_X1_firstOverlap d p2 p3 w) (fun wr1 r1 =>
      if ib 0 1 = true then
        some (sJ wr1 66 (Int32.toNatClampNeg 0) (Int32.toInt64 r1), 0)
      else none) fun wq3 q3 =>
    if gK wq3 q3 = 40 then
      some (wq3, 1)
    else
      none
theorem sim_X0_firstOverlap {G : Gx} (hG : GW G) {l : Launch} (hl : l.stackTraces = false) (d : Nat) (p2 : Int32) (p3 : Int32) (w : Wd) (fp2 : Bool) (fp3 : Bool) : Mt G true l yX0_firstOverlap (wsW_ yX0_firstOverlap cX0_firstOverlap 5 (some .int) [(0, 10, 13, 13)]) d (rrV G pI) [aR 1 (some 8), aB fp2 p2, aB fp3 p3, aR 13 (some 66)] w (f_X0_firstOverlap d p2 p3 w) := by
  refine Mt.ofW (own := "IntervalTreeLaw") hG hl (by decide +kernel) rfl rfl ?_
  intro M hM hr hnm hxt hnd K
  subst hM
  cases d with
  | zero => exact j_none
  | succ d =>
    refine j_aload_n K dX0_firstOverlap_0 rfl ?_
    refine j_iconstZ K dX0_firstOverlap_1 rfl (Or.inl rfl) ?_
    refine j_aload_n K dX0_firstOverlap_2 rfl ?_
    refine j_iload_n K dX0_firstOverlap_3 rfl ?_
    refine j_iload_n K dX0_firstOverlap_4 rfl ?_
    refine j_callVC _ K (sim_X1_firstOverlap hG hl d p2 p3 w fp2 fp3) dX0_firstOverlap_5 rfl rfl q808 q809 q810 q93 q811 pm_X1_firstOverlap rfl rfl rfl rfl rfl (fun wr1 r1 _ => ?_) (fun wq3 q3 _ hq3 => ?_)
    · refine j_i2l K dX0_firstOverlap_8 ?_
      refine j_ib (fun hi2 => ?_)
      refine j_las K dX0_firstOverlap_9 rfl (outLen2 rfl) hi2 ?_
      refine j_goto 17 K dX0_firstOverlap_10 (by decide) ?_
      refine j_iconstZ K dX0_firstOverlap_17 rfl (Or.inl rfl) ?_
      exact j_iret K hr dX0_firstOverlap_18
    · refine t_ite (fun hk4 => ?_) (fun _ => ?_)
      · refine j_catch (kd := 40) 13 K [] ⟨0, 10, 13, 13⟩ [] hxt (fun _ h => by cases h) rfl (by decide) rfl q438 q452 rfl hq3 hk4 ?_
        refine j_astore K dX0_firstOverlap_13 rfl rfl ?_
        refine j_iconstZ K dX0_firstOverlap_15 rfl (Or.inr rfl) ?_
        exact j_iret K hr dX0_firstOverlap_16
      exact t_none

theorem pm_X0_rank : yX0_rank.cls = RX0 ∧ yX0_rank.cls ≠ "java/lang/invoke/MethodHandle" ∧ yX0_rank.cls ≠ "java/lang/invoke/VarHandle" ∧ (parseMethodDescriptor yX0_rank.desc).map (fun d => d.parameters.length) = some 3 := by decide +kernel
def f_X0_rank (d : Nat) (p2 : Int32) (w : Wd) : Option (Wd × Int32) :=
  match d with
  | 0 => none
  | d + 1 =>
    bC (f_X1_rank d p2 w) (fun wr1 r1 =>
      if ib 0 1 = true then
        some (sJ wr1 66 (Int32.toNatClampNeg 0) (Int32.toInt64 r1), 0)
      else none) fun wq3 q3 =>
    if gK wq3 q3 = 42 then
      some (wq3, 1)
    else
      none
theorem sim_X0_rank {G : Gx} (hG : GW G) {l : Launch} (hl : l.stackTraces = false) (d : Nat) (p2 : Int32) (w : Wd) (fp2 : Bool) : Mt G true l yX0_rank (wsW_ yX0_rank cX0_rank 4 (some .int) [(0, 9, 12, 21)]) d (rrV G pI) [aR 1 (some 8), aB fp2 p2, aR 13 (some 66)] w (f_X0_rank d p2 w) := by
  refine Mt.ofW (own := "IntervalTreeLaw") hG hl (by decide +kernel) rfl rfl ?_
  intro M hM hr hnm hxt hnd K
  subst hM
  cases d with
  | zero => exact j_none
  | succ d =>
    refine j_aload_n K dX0_rank_0 rfl ?_
    refine j_iconstZ K dX0_rank_1 rfl (Or.inl rfl) ?_
    refine j_aload_n K dX0_rank_2 rfl ?_
    refine j_iload_n K dX0_rank_3 rfl ?_
    refine j_callVC _ K (sim_X1_rank hG hl d p2 w fp2) dX0_rank_4 rfl rfl q818 q819 q820 q93 q821 pm_X1_rank rfl rfl rfl rfl rfl (fun wr1 r1 _ => ?_) (fun wq3 q3 _ hq3 => ?_)
    · refine j_i2l K dX0_rank_7 ?_
      refine j_ib (fun hi2 => ?_)
      refine j_las K dX0_rank_8 rfl (outLen2 rfl) hi2 ?_
      refine j_goto 15 K dX0_rank_9 (by decide) ?_
      refine j_iconstZ K dX0_rank_15 rfl (Or.inl rfl) ?_
      exact j_iret K hr dX0_rank_16
    · refine t_ite (fun hk4 => ?_) (fun _ => ?_)
      · refine j_catch (kd := 42) 12 K [] ⟨0, 9, 12, 21⟩ [] hxt (fun _ h => by cases h) rfl (by decide) rfl q630 q645 rfl hq3 hk4 ?_
        refine j_astore_n K dX0_rank_12 rfl rfl ?_
        refine j_iconstZ K dX0_rank_13 rfl (Or.inr rfl) ?_
        exact j_iret K hr dX0_rank_14
      exact t_none

theorem pm_X0_select : yX0_select.cls = RX0 ∧ yX0_select.cls ≠ "java/lang/invoke/MethodHandle" ∧ yX0_select.cls ≠ "java/lang/invoke/VarHandle" ∧ (parseMethodDescriptor yX0_select.desc).map (fun d => d.parameters.length) = some 3 := by decide +kernel
def f_X0_select (d : Nat) (p2 : Int32) (w : Wd) : Option (Wd × Int32) :=
  match d with
  | 0 => none
  | d + 1 =>
    bC (f_X1_select d p2 w) (fun wr1 r1 =>
      if ib 0 1 = true then
        some (sJ wr1 66 (Int32.toNatClampNeg 0) (Int32.toInt64 r1), 0)
      else none) fun wq3 q3 =>
    if gK wq3 q3 = 43 then
      some (wq3, 1)
    else
      none
theorem sim_X0_select {G : Gx} (hG : GW G) {l : Launch} (hl : l.stackTraces = false) (d : Nat) (p2 : Int32) (w : Wd) (fp2 : Bool) : Mt G true l yX0_select (wsW_ yX0_select cX0_select 4 (some .int) [(0, 9, 12, 80)]) d (rrV G pI) [aR 1 (some 8), aB fp2 p2, aR 13 (some 66)] w (f_X0_select d p2 w) := by
  refine Mt.ofW (own := "IntervalTreeLaw") hG hl (by decide +kernel) rfl rfl ?_
  intro M hM hr hnm hxt hnd K
  subst hM
  cases d with
  | zero => exact j_none
  | succ d =>
    refine j_aload_n K dX0_select_0 rfl ?_
    refine j_iconstZ K dX0_select_1 rfl (Or.inl rfl) ?_
    refine j_aload_n K dX0_select_2 rfl ?_
    refine j_iload_n K dX0_select_3 rfl ?_
    refine j_callVC _ K (sim_X1_select hG hl d p2 w fp2) dX0_select_4 rfl rfl q849 q850 q851 q93 q852 pm_X1_select rfl rfl rfl rfl rfl (fun wr1 r1 _ => ?_) (fun wq3 q3 _ hq3 => ?_)
    · refine j_i2l K dX0_select_7 ?_
      refine j_ib (fun hi2 => ?_)
      refine j_las K dX0_select_8 rfl (outLen2 rfl) hi2 ?_
      refine j_goto 15 K dX0_select_9 (by decide) ?_
      refine j_iconstZ K dX0_select_15 rfl (Or.inl rfl) ?_
      exact j_iret K hr dX0_select_16
    · refine t_ite (fun hk4 => ?_) (fun _ => ?_)
      · refine j_catch (kd := 43) 12 K [] ⟨0, 9, 12, 80⟩ [] hxt (fun _ h => by cases h) rfl (by decide) rfl q825 q855 rfl hq3 hk4 ?_
        refine j_astore_n K dX0_select_12 rfl rfl ?_
        refine j_iconstZ K dX0_select_13 rfl (Or.inr rfl) ?_
        exact j_iret K hr dX0_select_14
      exact t_none

theorem pm_X0_nearest : yX0_nearest.cls = RX0 ∧ yX0_nearest.cls ≠ "java/lang/invoke/MethodHandle" ∧ yX0_nearest.cls ≠ "java/lang/invoke/VarHandle" ∧ (parseMethodDescriptor yX0_nearest.desc).map (fun d => d.parameters.length) = some 3 := by decide +kernel
def f_X0_nearest (d : Nat) (p2 : Int32) (w : Wd) : Option (Wd × Int32) :=
  match d with
  | 0 => none
  | d + 1 =>
    bC (f_X1_nearest d p2 w) (fun wr1 r1 =>
      if ib 0 1 = true then
        some (sJ wr1 66 (Int32.toNatClampNeg 0) (Int32.toInt64 r1), 0)
      else none) fun wq3 q3 =>
    if gK wq3 q3 = 40 then
      some (wq3, 1)
    else
      none
theorem sim_X0_nearest {G : Gx} (hG : GW G) {l : Launch} (hl : l.stackTraces = false) (d : Nat) (p2 : Int32) (w : Wd) (fp2 : Bool) : Mt G true l yX0_nearest (wsW_ yX0_nearest cX0_nearest 4 (some .int) [(0, 9, 12, 13)]) d (rrV G pI) [aR 1 (some 8), aB fp2 p2, aR 13 (some 66)] w (f_X0_nearest d p2 w) := by
  refine Mt.ofW (own := "IntervalTreeLaw") hG hl (by decide +kernel) rfl rfl ?_
  intro M hM hr hnm hxt hnd K
  subst hM
  cases d with
  | zero => exact j_none
  | succ d =>
    refine j_aload_n K dX0_nearest_0 rfl ?_
    refine j_iconstZ K dX0_nearest_1 rfl (Or.inl rfl) ?_
    refine j_aload_n K dX0_nearest_2 rfl ?_
    refine j_iload_n K dX0_nearest_3 rfl ?_
    refine j_callVC _ K (sim_X1_nearest hG hl d p2 w fp2) dX0_nearest_4 rfl rfl q869 q870 q871 q93 q872 pm_X1_nearest rfl rfl rfl rfl rfl (fun wr1 r1 _ => ?_) (fun wq3 q3 _ hq3 => ?_)
    · refine j_i2l K dX0_nearest_7 ?_
      refine j_ib (fun hi2 => ?_)
      refine j_las K dX0_nearest_8 rfl (outLen2 rfl) hi2 ?_
      refine j_goto 15 K dX0_nearest_9 (by decide) ?_
      refine j_iconstZ K dX0_nearest_15 rfl (Or.inl rfl) ?_
      exact j_iret K hr dX0_nearest_16
    · refine t_ite (fun hk4 => ?_) (fun _ => ?_)
      · refine j_catch (kd := 40) 12 K [] ⟨0, 9, 12, 13⟩ [] hxt (fun _ h => by cases h) rfl (by decide) rfl q438 q452 rfl hq3 hk4 ?_
        refine j_astore_n K dX0_nearest_12 rfl rfl ?_
        refine j_iconstZ K dX0_nearest_13 rfl (Or.inr rfl) ?_
        exact j_iret K hr dX0_nearest_14
      exact t_none

theorem pm_X0_covered : yX0_covered.cls = RX0 ∧ yX0_covered.cls ≠ "java/lang/invoke/MethodHandle" ∧ yX0_covered.cls ≠ "java/lang/invoke/VarHandle" ∧ (parseMethodDescriptor yX0_covered.desc).map (fun d => d.parameters.length) = some 4 := by decide +kernel
def f_X0_covered (d : Nat) (p2 : Int32) (p3 : Int32) (w : Wd) : Option (Wd × Int32) :=
  match d with
  | 0 => none
  | d + 1 =>
    bC (f_X1_covered d p2 p3 w) (fun wr1 r1 =>
      if ib 0 1 = true then
        some (sJ wr1 66 (Int32.toNatClampNeg 0) (Int32.toInt64 r1), 0)
      else none) fun wq3 q3 =>
    if gK wq3 q3 = 40 then
      some (wq3, 1)
    else
      none
theorem sim_X0_covered {G : Gx} (hG : GW G) {l : Launch} (hl : l.stackTraces = false) (d : Nat) (p2 : Int32) (p3 : Int32) (w : Wd) (fp2 : Bool) (fp3 : Bool) : Mt G true l yX0_covered (wsW_ yX0_covered cX0_covered 5 (some .int) [(0, 10, 13, 13)]) d (rrV G pI) [aR 1 (some 8), aB fp2 p2, aB fp3 p3, aR 13 (some 66)] w (f_X0_covered d p2 p3 w) := by
  refine Mt.ofW (own := "IntervalTreeLaw") hG hl (by decide +kernel) rfl rfl ?_
  intro M hM hr hnm hxt hnd K
  subst hM
  cases d with
  | zero => exact j_none
  | succ d =>
    refine j_aload_n K dX0_covered_0 rfl ?_
    refine j_iconstZ K dX0_covered_1 rfl (Or.inl rfl) ?_
    refine j_aload_n K dX0_covered_2 rfl ?_
    refine j_iload_n K dX0_covered_3 rfl ?_
    refine j_iload_n K dX0_covered_4 rfl ?_
    refine j_callVC _ K (sim_X1_covered hG hl d p2 p3 w fp2 fp3) dX0_covered_5 rfl rfl q883 q884 q885 q93 q886 pm_X1_covered rfl rfl rfl rfl rfl (fun wr1 r1 _ => ?_) (fun wq3 q3 _ hq3 => ?_)
    · refine j_i2l K dX0_covered_8 ?_
      refine j_ib (fun hi2 => ?_)
      refine j_las K dX0_covered_9 rfl (outLen2 rfl) hi2 ?_
      refine j_goto 17 K dX0_covered_10 (by decide) ?_
      refine j_iconstZ K dX0_covered_17 rfl (Or.inl rfl) ?_
      exact j_iret K hr dX0_covered_18
    · refine t_ite (fun hk4 => ?_) (fun _ => ?_)
      · refine j_catch (kd := 40) 13 K [] ⟨0, 10, 13, 13⟩ [] hxt (fun _ h => by cases h) rfl (by decide) rfl q438 q452 rfl hq3 hk4 ?_
        refine j_astore K dX0_covered_13 rfl rfl ?_
        refine j_iconstZ K dX0_covered_15 rfl (Or.inr rfl) ?_
        exact j_iret K hr dX0_covered_16
      exact t_none

theorem pm_X0_deepestPoint : yX0_deepestPoint.cls = RX0 ∧ yX0_deepestPoint.cls ≠ "java/lang/invoke/MethodHandle" ∧ yX0_deepestPoint.cls ≠ "java/lang/invoke/VarHandle" ∧ (parseMethodDescriptor yX0_deepestPoint.desc).map (fun d => d.parameters.length) = some 2 := by decide +kernel
def f_X0_deepestPoint (d : Nat) (w : Wd) : Option (Wd × Int32) :=
  match d with
  | 0 => none
  | d + 1 =>
    bC (f_X1_deepestPoint d w) (fun wr1 r1 =>
      if ib 0 1 = true then
        some (sJ wr1 66 (Int32.toNatClampNeg 0) (Int32.toInt64 r1), 0)
      else none) fun wq3 q3 =>
    if gK wq3 q3 = 42 then
      some (wq3, 1)
    else
      none
theorem sim_X0_deepestPoint {G : Gx} (hG : GW G) {l : Launch} (hl : l.stackTraces = false) (d : Nat) (w : Wd) : Mt G true l yX0_deepestPoint (wsW_ yX0_deepestPoint cX0_deepestPoint 3 (some .int) [(0, 8, 11, 21)]) d (rrV G pI) [aR 1 (some 8), aR 13 (some 66)] w (f_X0_deepestPoint d w) := by
  refine Mt.ofW (own := "IntervalTreeLaw") hG hl (by decide +kernel) rfl rfl ?_
  intro M hM hr hnm hxt hnd K
  subst hM
  cases d with
  | zero => exact j_none
  | succ d =>
    refine j_aload_n K dX0_deepestPoint_0 rfl ?_
    refine j_iconstZ K dX0_deepestPoint_1 rfl (Or.inl rfl) ?_
    refine j_aload_n K dX0_deepestPoint_2 rfl ?_
    refine j_callVC _ K (sim_X1_deepestPoint hG hl d w) dX0_deepestPoint_3 rfl rfl q893 q894 q895 q93 q896 pm_X1_deepestPoint rfl rfl rfl rfl rfl (fun wr1 r1 _ => ?_) (fun wq3 q3 _ hq3 => ?_)
    · refine j_i2l K dX0_deepestPoint_6 ?_
      refine j_ib (fun hi2 => ?_)
      refine j_las K dX0_deepestPoint_7 rfl (outLen2 rfl) hi2 ?_
      refine j_goto 14 K dX0_deepestPoint_8 (by decide) ?_
      refine j_iconstZ K dX0_deepestPoint_14 rfl (Or.inl rfl) ?_
      exact j_iret K hr dX0_deepestPoint_15
    · refine t_ite (fun hk4 => ?_) (fun _ => ?_)
      · refine j_catch (kd := 42) 11 K [] ⟨0, 8, 11, 21⟩ [] hxt (fun _ h => by cases h) rfl (by decide) rfl q630 q645 rfl hq3 hk4 ?_
        refine j_astore_n K dX0_deepestPoint_11 rfl rfl ?_
        refine j_iconstZ K dX0_deepestPoint_12 rfl (Or.inr rfl) ?_
        exact j_iret K hr dX0_deepestPoint_13
      exact t_none

theorem pm_X0_scheduled : yX0_scheduled.cls = RX0 ∧ yX0_scheduled.cls ≠ "java/lang/invoke/MethodHandle" ∧ yX0_scheduled.cls ≠ "java/lang/invoke/VarHandle" ∧ (parseMethodDescriptor yX0_scheduled.desc).map (fun d => d.parameters.length) = some 3 := by decide +kernel
def f_X0_scheduled (d : Nat) (p2 : Int32) (w : Wd) : Option (Wd × Int32) :=
  match d with
  | 0 => none
  | d + 1 =>
    bC (f_X1_scheduled d p2 w) (fun wr1 r1 =>
      if ib 0 1 = true then
        some (sJ wr1 66 (Int32.toNatClampNeg 0) (Int32.toInt64 r1), 0)
      else none) fun wq3 q3 =>
    if gK wq3 q3 = 43 then
      some (wq3, 1)
    else
      none
theorem sim_X0_scheduled {G : Gx} (hG : GW G) {l : Launch} (hl : l.stackTraces = false) (d : Nat) (p2 : Int32) (w : Wd) (fp2 : Bool) : Mt G true l yX0_scheduled (wsW_ yX0_scheduled cX0_scheduled 4 (some .int) [(0, 9, 12, 80)]) d (rrV G pI) [aR 1 (some 8), aB fp2 p2, aR 13 (some 66)] w (f_X0_scheduled d p2 w) := by
  refine Mt.ofW (own := "IntervalTreeLaw") hG hl (by decide +kernel) rfl rfl ?_
  intro M hM hr hnm hxt hnd K
  subst hM
  cases d with
  | zero => exact j_none
  | succ d =>
    refine j_aload_n K dX0_scheduled_0 rfl ?_
    refine j_iconstZ K dX0_scheduled_1 rfl (Or.inl rfl) ?_
    refine j_aload_n K dX0_scheduled_2 rfl ?_
    refine j_iload_n K dX0_scheduled_3 rfl ?_
    refine j_callVC _ K (sim_X1_scheduled hG hl d p2 w fp2) dX0_scheduled_4 rfl rfl q902 q903 q904 q93 q905 pm_X1_scheduled rfl rfl rfl rfl rfl (fun wr1 r1 _ => ?_) (fun wq3 q3 _ hq3 => ?_)
    · refine j_i2l K dX0_scheduled_7 ?_
      refine j_ib (fun hi2 => ?_)
      refine j_las K dX0_scheduled_8 rfl (outLen2 rfl) hi2 ?_
      refine j_goto 15 K dX0_scheduled_9 (by decide) ?_
      refine j_iconstZ K dX0_scheduled_15 rfl (Or.inl rfl) ?_
      exact j_iret K hr dX0_scheduled_16
    · refine t_ite (fun hk4 => ?_) (fun _ => ?_)
      · refine j_catch (kd := 43) 12 K [] ⟨0, 9, 12, 80⟩ [] hxt (fun _ h => by cases h) rfl (by decide) rfl q825 q855 rfl hq3 hk4 ?_
        refine j_astore_n K dX0_scheduled_12 rfl rfl ?_
        refine j_iconstZ K dX0_scheduled_13 rfl (Or.inr rfl) ?_
        exact j_iret K hr dX0_scheduled_14
      exact t_none

theorem pm_X0_piercingPoint : yX0_piercingPoint.cls = RX0 ∧ yX0_piercingPoint.cls ≠ "java/lang/invoke/MethodHandle" ∧ yX0_piercingPoint.cls ≠ "java/lang/invoke/VarHandle" ∧ (parseMethodDescriptor yX0_piercingPoint.desc).map (fun d => d.parameters.length) = some 3 := by decide +kernel
def f_X0_piercingPoint (d : Nat) (p2 : Int32) (w : Wd) : Option (Wd × Int32) :=
  match d with
  | 0 => none
  | d + 1 =>
    bC (f_X1_piercingPoint d p2 w) (fun wr1 r1 =>
      if ib 0 1 = true then
        some (sJ wr1 66 (Int32.toNatClampNeg 0) (Int32.toInt64 r1), 0)
      else none) fun wq3 q3 =>
    if gK wq3 q3 = 43 then
      some (wq3, 1)
    else
      none
theorem sim_X0_piercingPoint {G : Gx} (hG : GW G) {l : Launch} (hl : l.stackTraces = false) (d : Nat) (p2 : Int32) (w : Wd) (fp2 : Bool) : Mt G true l yX0_piercingPoint (wsW_ yX0_piercingPoint cX0_piercingPoint 4 (some .int) [(0, 9, 12, 80)]) d (rrV G pI) [aR 1 (some 8), aB fp2 p2, aR 13 (some 66)] w (f_X0_piercingPoint d p2 w) := by
  refine Mt.ofW (own := "IntervalTreeLaw") hG hl (by decide +kernel) rfl rfl ?_
  intro M hM hr hnm hxt hnd K
  subst hM
  cases d with
  | zero => exact j_none
  | succ d =>
    refine j_aload_n K dX0_piercingPoint_0 rfl ?_
    refine j_iconstZ K dX0_piercingPoint_1 rfl (Or.inl rfl) ?_
    refine j_aload_n K dX0_piercingPoint_2 rfl ?_
    refine j_iload_n K dX0_piercingPoint_3 rfl ?_
    refine j_callVC _ K (sim_X1_piercingPoint hG hl d p2 w fp2) dX0_piercingPoint_4 rfl rfl q910 q911 q912 q93 q913 pm_X1_piercingPoint rfl rfl rfl rfl rfl (fun wr1 r1 _ => ?_) (fun wq3 q3 _ hq3 => ?_)
    · refine j_i2l K dX0_piercingPoint_7 ?_
      refine j_ib (fun hi2 => ?_)
      refine j_las K dX0_piercingPoint_8 rfl (outLen2 rfl) hi2 ?_
      refine j_goto 15 K dX0_piercingPoint_9 (by decide) ?_
      refine j_iconstZ K dX0_piercingPoint_15 rfl (Or.inl rfl) ?_
      exact j_iret K hr dX0_piercingPoint_16
    · refine t_ite (fun hk4 => ?_) (fun _ => ?_)
      · refine j_catch (kd := 43) 12 K [] ⟨0, 9, 12, 80⟩ [] hxt (fun _ h => by cases h) rfl (by decide) rfl q825 q855 rfl hq3 hk4 ?_
        refine j_astore_n K dX0_piercingPoint_12 rfl rfl ?_
        refine j_iconstZ K dX0_piercingPoint_13 rfl (Or.inr rfl) ?_
        exact j_iret K hr dX0_piercingPoint_14
      exact t_none

theorem pm_X0_addRangeFilter : yX0_addRangeFilter.cls = RX0 ∧ yX0_addRangeFilter.cls ≠ "java/lang/invoke/MethodHandle" ∧ yX0_addRangeFilter.cls ≠ "java/lang/invoke/VarHandle" ∧ (parseMethodDescriptor yX0_addRangeFilter.desc).map (fun d => d.parameters.length) = some 5 := by decide +kernel
def f_X0_addRangeFilter (d : Nat) (p2 : Int32) (p3 : Int32) (p4 : Int32) (w : Wd) : Option (Wd × Int32) :=
  match d with
  | 0 => none
  | d + 1 =>
    bC (f_X1_addRangeFilter d p2 p3 p4 w) (fun wr1 r1 =>
      if ib 0 1 = true then
        some (sJ wr1 66 (Int32.toNatClampNeg 0) (Int32.toInt64 r1), 0)
      else none) fun wq3 q3 =>
    if gK wq3 q3 = 40 then
      some (wq3, 1)
    else
      if gK wq3 q3 = 41 then
        some (wq3, 2)
      else
        none
theorem sim_X0_addRangeFilter {G : Gx} (hG : GW G) {l : Launch} (hl : l.stackTraces = false) (d : Nat) (p2 : Int32) (p3 : Int32) (p4 : Int32) (w : Wd) (fp2 : Bool) (fp3 : Bool) (fp4 : Bool) : Mt G true l yX0_addRangeFilter (wsW_ yX0_addRangeFilter cX0_addRangeFilter 6 (some .int) [(0, 12, 15, 13), (0, 12, 19, 15)]) d (rrV G pI) [aR 1 (some 8), aB fp2 p2, aB fp3 p3, aB fp4 p4, aR 13 (some 66)] w (f_X0_addRangeFilter d p2 p3 p4 w) := by
  refine Mt.ofW (own := "IntervalTreeLaw") hG hl (by decide +kernel) rfl rfl ?_
  intro M hM hr hnm hxt hnd K
  subst hM
  cases d with
  | zero => exact j_none
  | succ d =>
    refine j_aload K dX0_addRangeFilter_0 rfl ?_
    refine j_iconstZ K dX0_addRangeFilter_2 rfl (Or.inl rfl) ?_
    refine j_aload_n K dX0_addRangeFilter_3 rfl ?_
    refine j_iload_n K dX0_addRangeFilter_4 rfl ?_
    refine j_iload_n K dX0_addRangeFilter_5 rfl ?_
    refine j_iload_n K dX0_addRangeFilter_6 rfl ?_
    refine j_callVC _ K (sim_X1_addRangeFilter hG hl d p2 p3 p4 w fp2 fp3 fp4) dX0_addRangeFilter_7 rfl rfl q917 q918 q919 q93 q920 pm_X1_addRangeFilter rfl rfl rfl rfl rfl (fun wr1 r1 _ => ?_) (fun wq3 q3 _ hq3 => ?_)
    · refine j_i2l K dX0_addRangeFilter_10 ?_
      refine j_ib (fun hi2 => ?_)
      refine j_las K dX0_addRangeFilter_11 rfl (outLen2 rfl) hi2 ?_
      refine j_goto 23 K dX0_addRangeFilter_12 (by decide) ?_
      refine j_iconstZ K dX0_addRangeFilter_23 rfl (Or.inl rfl) ?_
      exact j_iret K hr dX0_addRangeFilter_24
    · refine t_ite (fun hk5 => ?_) (fun _ => ?_)
      · refine j_catch (kd := 40) 15 K [] ⟨0, 12, 15, 13⟩ [⟨0, 12, 19, 15⟩] hxt (fun _ h => by cases h) rfl (by decide) rfl q438 q452 rfl hq3 hk5 ?_
        refine j_astore K dX0_addRangeFilter_15 rfl rfl ?_
        refine j_iconstZ K dX0_addRangeFilter_17 rfl (Or.inr rfl) ?_
        exact j_iret K hr dX0_addRangeFilter_18
      refine t_ite (fun hk4 => ?_) (fun _ => ?_)
      · refine j_catch (kd := 41) 19 K [⟨0, 12, 15, 13⟩] ⟨0, 12, 19, 15⟩ [] hxt (fun z hz => by cases List.mem_singleton.mp hz; exact Or.inr ⟨by decide, _, 40, rfl, by decide, q438⟩) rfl (by decide) rfl q439 q522 rfl hq3 hk4 ?_
        refine j_astore K dX0_addRangeFilter_19 rfl rfl ?_
        refine j_iconst (x := 2) K dX0_addRangeFilter_21 rfl ?_
        exact j_iret K hr dX0_addRangeFilter_22
      exact t_none

theorem pm_X0_addHeavierFilter : yX0_addHeavierFilter.cls = RX0 ∧ yX0_addHeavierFilter.cls ≠ "java/lang/invoke/MethodHandle" ∧ yX0_addHeavierFilter.cls ≠ "java/lang/invoke/VarHandle" ∧ (parseMethodDescriptor yX0_addHeavierFilter.desc).map (fun d => d.parameters.length) = some 3 := by decide +kernel
def f_X0_addHeavierFilter (d : Nat) (p2 : Int32) (w : Wd) : Option (Wd × Int32) :=
  match d with
  | 0 => none
  | d + 1 =>
    bC (f_X1_addHeavierFilter d p2 w) (fun wr1 r1 =>
      if ib 0 1 = true then
        some (sJ wr1 66 (Int32.toNatClampNeg 0) (Int32.toInt64 r1), 0)
      else none) fun wq3 q3 =>
    if gK wq3 q3 = 42 then
      some (wq3, 1)
    else
      if gK wq3 q3 = 41 then
        some (wq3, 2)
      else
        none
theorem sim_X0_addHeavierFilter {G : Gx} (hG : GW G) {l : Launch} (hl : l.stackTraces = false) (d : Nat) (p2 : Int32) (w : Wd) (fp2 : Bool) : Mt G true l yX0_addHeavierFilter (wsW_ yX0_addHeavierFilter cX0_addHeavierFilter 4 (some .int) [(0, 9, 12, 21), (0, 9, 15, 15)]) d (rrV G pI) [aR 1 (some 8), aB fp2 p2, aR 13 (some 66)] w (f_X0_addHeavierFilter d p2 w) := by
  refine Mt.ofW (own := "IntervalTreeLaw") hG hl (by decide +kernel) rfl rfl ?_
  intro M hM hr hnm hxt hnd K
  subst hM
  cases d with
  | zero => exact j_none
  | succ d =>
    refine j_aload_n K dX0_addHeavierFilter_0 rfl ?_
    refine j_iconstZ K dX0_addHeavierFilter_1 rfl (Or.inl rfl) ?_
    refine j_aload_n K dX0_addHeavierFilter_2 rfl ?_
    refine j_iload_n K dX0_addHeavierFilter_3 rfl ?_
    refine j_callVC _ K (sim_X1_addHeavierFilter hG hl d p2 w fp2) dX0_addHeavierFilter_4 rfl rfl q939 q940 q941 q93 q942 pm_X1_addHeavierFilter rfl rfl rfl rfl rfl (fun wr1 r1 _ => ?_) (fun wq3 q3 _ hq3 => ?_)
    · refine j_i2l K dX0_addHeavierFilter_7 ?_
      refine j_ib (fun hi2 => ?_)
      refine j_las K dX0_addHeavierFilter_8 rfl (outLen2 rfl) hi2 ?_
      refine j_goto 18 K dX0_addHeavierFilter_9 (by decide) ?_
      refine j_iconstZ K dX0_addHeavierFilter_18 rfl (Or.inl rfl) ?_
      exact j_iret K hr dX0_addHeavierFilter_19
    · refine t_ite (fun hk5 => ?_) (fun _ => ?_)
      · refine j_catch (kd := 42) 12 K [] ⟨0, 9, 12, 21⟩ [⟨0, 9, 15, 15⟩] hxt (fun _ h => by cases h) rfl (by decide) rfl q630 q645 rfl hq3 hk5 ?_
        refine j_astore_n K dX0_addHeavierFilter_12 rfl rfl ?_
        refine j_iconstZ K dX0_addHeavierFilter_13 rfl (Or.inr rfl) ?_
        exact j_iret K hr dX0_addHeavierFilter_14
      refine t_ite (fun hk4 => ?_) (fun _ => ?_)
      · refine j_catch (kd := 41) 15 K [⟨0, 9, 12, 21⟩] ⟨0, 9, 15, 15⟩ [] hxt (fun z hz => by cases List.mem_singleton.mp hz; exact Or.inr ⟨by decide, _, 42, rfl, by decide, q630⟩) rfl (by decide) rfl q439 q522 rfl hq3 hk4 ?_
        refine j_astore_n K dX0_addHeavierFilter_15 rfl rfl ?_
        refine j_iconst (x := 2) K dX0_addHeavierFilter_16 rfl ?_
        exact j_iret K hr dX0_addHeavierFilter_17
      exact t_none

theorem pm_X0_addCombinedFilter : yX0_addCombinedFilter.cls = RX0 ∧ yX0_addCombinedFilter.cls ≠ "java/lang/invoke/MethodHandle" ∧ yX0_addCombinedFilter.cls ≠ "java/lang/invoke/VarHandle" ∧ (parseMethodDescriptor yX0_addCombinedFilter.desc).map (fun d => d.parameters.length) = some 5 := by decide +kernel
def f_X0_addCombinedFilter (d : Nat) (p2 : Int32) (p3 : Int32) (p4 : Int32) (w : Wd) : Option (Wd × Int32) :=
  match d with
  | 0 => none
  | d + 1 =>
    bC (f_X1_addCombinedFilter d p2 p3 p4 w) (fun wr1 r1 =>
      if ib 0 1 = true then
        some (sJ wr1 66 (Int32.toNatClampNeg 0) (Int32.toInt64 r1), 0)
      else none) fun wq3 q3 =>
    if gK wq3 q3 = 40 then
      some (wq3, 1)
    else
      if gK wq3 q3 = 41 then
        some (wq3, 2)
      else
        none
theorem sim_X0_addCombinedFilter {G : Gx} (hG : GW G) {l : Launch} (hl : l.stackTraces = false) (d : Nat) (p2 : Int32) (p3 : Int32) (p4 : Int32) (w : Wd) (fp2 : Bool) (fp3 : Bool) (fp4 : Bool) : Mt G true l yX0_addCombinedFilter (wsW_ yX0_addCombinedFilter cX0_addCombinedFilter 6 (some .int) [(0, 12, 15, 13), (0, 12, 19, 15)]) d (rrV G pI) [aR 1 (some 8), aB fp2 p2, aB fp3 p3, aB fp4 p4, aR 13 (some 66)] w (f_X0_addCombinedFilter d p2 p3 p4 w) := by
  refine Mt.ofW (own := "IntervalTreeLaw") hG hl (by decide +kernel) rfl rfl ?_
  intro M hM hr hnm hxt hnd K
  subst hM
  cases d with
  | zero => exact j_none
  | succ d =>
    refine j_aload K dX0_addCombinedFilter_0 rfl ?_
    refine j_iconstZ K dX0_addCombinedFilter_2 rfl (Or.inl rfl) ?_
    refine j_aload_n K dX0_addCombinedFilter_3 rfl ?_
    refine j_iload_n K dX0_addCombinedFilter_4 rfl ?_
    refine j_iload_n K dX0_addCombinedFilter_5 rfl ?_
    refine j_iload_n K dX0_addCombinedFilter_6 rfl ?_
    refine j_callVC _ K (sim_X1_addCombinedFilter hG hl d p2 p3 p4 w fp2 fp3 fp4) dX0_addCombinedFilter_7 rfl rfl q949 q950 q951 q93 q952 pm_X1_addCombinedFilter rfl rfl rfl rfl rfl (fun wr1 r1 _ => ?_) (fun wq3 q3 _ hq3 => ?_)
    · refine j_i2l K dX0_addCombinedFilter_10 ?_
      refine j_ib (fun hi2 => ?_)
      refine j_las K dX0_addCombinedFilter_11 rfl (outLen2 rfl) hi2 ?_
      refine j_goto 23 K dX0_addCombinedFilter_12 (by decide) ?_
      refine j_iconstZ K dX0_addCombinedFilter_23 rfl (Or.inl rfl) ?_
      exact j_iret K hr dX0_addCombinedFilter_24
    · refine t_ite (fun hk5 => ?_) (fun _ => ?_)
      · refine j_catch (kd := 40) 15 K [] ⟨0, 12, 15, 13⟩ [⟨0, 12, 19, 15⟩] hxt (fun _ h => by cases h) rfl (by decide) rfl q438 q452 rfl hq3 hk5 ?_
        refine j_astore K dX0_addCombinedFilter_15 rfl rfl ?_
        refine j_iconstZ K dX0_addCombinedFilter_17 rfl (Or.inr rfl) ?_
        exact j_iret K hr dX0_addCombinedFilter_18
      refine t_ite (fun hk4 => ?_) (fun _ => ?_)
      · refine j_catch (kd := 41) 19 K [⟨0, 12, 15, 13⟩] ⟨0, 12, 19, 15⟩ [] hxt (fun z hz => by cases List.mem_singleton.mp hz; exact Or.inr ⟨by decide, _, 40, rfl, by decide, q438⟩) rfl (by decide) rfl q439 q522 rfl hq3 hk4 ?_
        refine j_astore K dX0_addCombinedFilter_19 rfl rfl ?_
        refine j_iconst (x := 2) K dX0_addCombinedFilter_21 rfl ?_
        exact j_iret K hr dX0_addCombinedFilter_22
      exact t_none

theorem pm_X0_feed : yX0_feed.cls = RX0 ∧ yX0_feed.cls ≠ "java/lang/invoke/MethodHandle" ∧ yX0_feed.cls ≠ "java/lang/invoke/VarHandle" ∧ (parseMethodDescriptor yX0_feed.desc).map (fun d => d.parameters.length) = some 3 := by decide +kernel
def f_X0_feed (d : Nat) (p2 : Int32) (w : Wd) : Option (Wd × Int32) :=
  match d with
  | 0 => none
  | d + 1 =>
    bC (f_X1_feed d p2 w) (fun wr1 r1 =>
      if ib 0 1 = true then
        some (sJ wr1 66 (Int32.toNatClampNeg 0) (Int32.toInt64 r1), 0)
      else none) fun wq3 q3 =>
    if gK wq3 q3 = 40 then
      some (wq3, 1)
    else
      if gK wq3 q3 = 41 then
        some (wq3, 2)
      else
        none
theorem sim_X0_feed {G : Gx} (hG : GW G) {l : Launch} (hl : l.stackTraces = false) (d : Nat) (p2 : Int32) (w : Wd) (fp2 : Bool) : Mt G true l yX0_feed (wsW_ yX0_feed cX0_feed 4 (some .int) [(0, 9, 12, 13), (0, 9, 15, 15)]) d (rrV G pI) [aR 1 (some 8), aB fp2 p2, aR 13 (some 66)] w (f_X0_feed d p2 w) := by
  refine Mt.ofW (own := "IntervalTreeLaw") hG hl (by decide +kernel) rfl rfl ?_
  intro M hM hr hnm hxt hnd K
  subst hM
  cases d with
  | zero => exact j_none
  | succ d =>
    refine j_aload_n K dX0_feed_0 rfl ?_
    refine j_iconstZ K dX0_feed_1 rfl (Or.inl rfl) ?_
    refine j_aload_n K dX0_feed_2 rfl ?_
    refine j_iload_n K dX0_feed_3 rfl ?_
    refine j_callVC _ K (sim_X1_feed hG hl d p2 w fp2) dX0_feed_4 rfl rfl q979 q980 q981 q93 q982 pm_X1_feed rfl rfl rfl rfl rfl (fun wr1 r1 _ => ?_) (fun wq3 q3 _ hq3 => ?_)
    · refine j_i2l K dX0_feed_7 ?_
      refine j_ib (fun hi2 => ?_)
      refine j_las K dX0_feed_8 rfl (outLen2 rfl) hi2 ?_
      refine j_goto 18 K dX0_feed_9 (by decide) ?_
      refine j_iconstZ K dX0_feed_18 rfl (Or.inl rfl) ?_
      exact j_iret K hr dX0_feed_19
    · refine t_ite (fun hk5 => ?_) (fun _ => ?_)
      · refine j_catch (kd := 40) 12 K [] ⟨0, 9, 12, 13⟩ [⟨0, 9, 15, 15⟩] hxt (fun _ h => by cases h) rfl (by decide) rfl q438 q452 rfl hq3 hk5 ?_
        refine j_astore_n K dX0_feed_12 rfl rfl ?_
        refine j_iconstZ K dX0_feed_13 rfl (Or.inr rfl) ?_
        exact j_iret K hr dX0_feed_14
      refine t_ite (fun hk4 => ?_) (fun _ => ?_)
      · refine j_catch (kd := 41) 15 K [⟨0, 9, 12, 13⟩] ⟨0, 9, 15, 15⟩ [] hxt (fun z hz => by cases List.mem_singleton.mp hz; exact Or.inr ⟨by decide, _, 40, rfl, by decide, q438⟩) rfl (by decide) rfl q439 q522 rfl hq3 hk4 ?_
        refine j_astore_n K dX0_feed_15 rfl rfl ?_
        refine j_iconst (x := 2) K dX0_feed_16 rfl ?_
        exact j_iret K hr dX0_feed_17
      exact t_none

theorem pm_X0_matchCount : yX0_matchCount.cls = RX0 ∧ yX0_matchCount.cls ≠ "java/lang/invoke/MethodHandle" ∧ yX0_matchCount.cls ≠ "java/lang/invoke/VarHandle" ∧ (parseMethodDescriptor yX0_matchCount.desc).map (fun d => d.parameters.length) = some 3 := by decide +kernel
def f_X0_matchCount (d : Nat) (p2 : Int32) (w : Wd) : Option (Wd × Int32) :=
  match d with
  | 0 => none
  | d + 1 =>
    bC (f_X1_matchCount d p2 w) (fun wr1 r1 =>
      if ib 0 1 = true then
        some (sJ wr1 66 (Int32.toNatClampNeg 0) (Int32.toInt64 r1), 0)
      else none) fun wq3 q3 =>
    if gK wq3 q3 = 40 then
      some (wq3, 1)
    else
      none
theorem sim_X0_matchCount {G : Gx} (hG : GW G) {l : Launch} (hl : l.stackTraces = false) (d : Nat) (p2 : Int32) (w : Wd) (fp2 : Bool) : Mt G true l yX0_matchCount (wsW_ yX0_matchCount cX0_matchCount 4 (some .int) [(0, 9, 12, 13)]) d (rrV G pI) [aR 1 (some 8), aB fp2 p2, aR 13 (some 66)] w (f_X0_matchCount d p2 w) := by
  refine Mt.ofW (own := "IntervalTreeLaw") hG hl (by decide +kernel) rfl rfl ?_
  intro M hM hr hnm hxt hnd K
  subst hM
  cases d with
  | zero => exact j_none
  | succ d =>
    refine j_aload_n K dX0_matchCount_0 rfl ?_
    refine j_iconstZ K dX0_matchCount_1 rfl (Or.inl rfl) ?_
    refine j_aload_n K dX0_matchCount_2 rfl ?_
    refine j_iload_n K dX0_matchCount_3 rfl ?_
    refine j_callVC _ K (sim_X1_matchCount hG hl d p2 w fp2) dX0_matchCount_4 rfl rfl q1184 q1185 q1186 q93 q1187 pm_X1_matchCount rfl rfl rfl rfl rfl (fun wr1 r1 _ => ?_) (fun wq3 q3 _ hq3 => ?_)
    · refine j_i2l K dX0_matchCount_7 ?_
      refine j_ib (fun hi2 => ?_)
      refine j_las K dX0_matchCount_8 rfl (outLen2 rfl) hi2 ?_
      refine j_goto 15 K dX0_matchCount_9 (by decide) ?_
      refine j_iconstZ K dX0_matchCount_15 rfl (Or.inl rfl) ?_
      exact j_iret K hr dX0_matchCount_16
    · refine t_ite (fun hk4 => ?_) (fun _ => ?_)
      · refine j_catch (kd := 40) 12 K [] ⟨0, 9, 12, 13⟩ [] hxt (fun _ h => by cases h) rfl (by decide) rfl q438 q452 rfl hq3 hk4 ?_
        refine j_astore_n K dX0_matchCount_12 rfl rfl ?_
        refine j_iconstZ K dX0_matchCount_13 rfl (Or.inr rfl) ?_
        exact j_iret K hr dX0_matchCount_14
      exact t_none

theorem pm_X0_accepts : yX0_accepts.cls = RX0 ∧ yX0_accepts.cls ≠ "java/lang/invoke/MethodHandle" ∧ yX0_accepts.cls ≠ "java/lang/invoke/VarHandle" ∧ (parseMethodDescriptor yX0_accepts.desc).map (fun d => d.parameters.length) = some 4 := by decide +kernel
def f_X0_accepts (d : Nat) (p2 : Int32) (p3 : Int32) (w : Wd) : Option (Wd × Int32) :=
  match d with
  | 0 => none
  | d + 1 =>
    bC (f_X1_accepts d p2 p3 w) (fun wr1 r1 =>
      if r1 = 0 then
        if ib 0 1 = true then
          some (sJ wr1 66 (Int32.toNatClampNeg 0) 0, 0)
        else none
      else
        if ib 0 1 = true then
          some (sJ wr1 66 (Int32.toNatClampNeg 0) 1, 0)
        else none) fun wq4 q4 =>
    if gK wq4 q4 = 40 then
      some (wq4, 1)
    else
      if gK wq4 q4 = 42 then
        some (wq4, 2)
      else
        none
theorem sim_X0_accepts {G : Gx} (hG : GW G) {l : Launch} (hl : l.stackTraces = false) (d : Nat) (p2 : Int32) (p3 : Int32) (w : Wd) (fp2 : Bool) (fp3 : Bool) : Mt G true l yX0_accepts (wsW_ yX0_accepts cX0_accepts 5 (some .int) [(0, 17, 20, 13), (0, 17, 24, 21)]) d (rrV G pI) [aR 1 (some 8), aB fp2 p2, aB fp3 p3, aR 13 (some 66)] w (f_X0_accepts d p2 p3 w) := by
  refine Mt.ofW (own := "IntervalTreeLaw") hG hl (by decide +kernel) rfl rfl ?_
  intro M hM hr hnm hxt hnd K
  subst hM
  cases d with
  | zero => exact j_none
  | succ d =>
    refine j_aload_n K dX0_accepts_0 rfl ?_
    refine j_iconstZ K dX0_accepts_1 rfl (Or.inl rfl) ?_
    refine j_aload_n K dX0_accepts_2 rfl ?_
    refine j_iload_n K dX0_accepts_3 rfl ?_
    refine j_iload_n K dX0_accepts_4 rfl ?_
    refine j_callVC _ K (sim_X1_accepts hG hl d p2 p3 w fp2 fp3) dX0_accepts_5 rfl rfl q1191 q1192 q1193 q93 q1194 pm_X1_accepts rfl rfl rfl rfl rfl (fun wr1 r1 _ => ?_) (fun wq4 q4 _ hq4 => ?_)
    · refine j_if_eq 15 K dX0_accepts_8 (by decide) ?_ ?_
      · refine j_lconst (x := 0) K dX0_accepts_15 rfl ?_
        refine j_ib (fun hi2 => ?_)
        refine j_las K dX0_accepts_16 rfl (outLen2 rfl) hi2 ?_
        refine j_goto 28 K dX0_accepts_17 (by decide) ?_
        refine j_iconstZ K dX0_accepts_28 rfl (Or.inl rfl) ?_
        exact j_iret K hr dX0_accepts_29
      · refine j_lconst (x := 1) K dX0_accepts_11 rfl ?_
        refine j_goto 16 K dX0_accepts_12 (by decide) ?_
        refine j_ib (fun hi3 => ?_)
        refine j_las K dX0_accepts_16 rfl (outLen2 rfl) hi3 ?_
        refine j_goto 28 K dX0_accepts_17 (by decide) ?_
        refine j_iconstZ K dX0_accepts_28 rfl (Or.inl rfl) ?_
        exact j_iret K hr dX0_accepts_29
    · refine t_ite (fun hk6 => ?_) (fun _ => ?_)
      · refine j_catch (kd := 40) 20 K [] ⟨0, 17, 20, 13⟩ [⟨0, 17, 24, 21⟩] hxt (fun _ h => by cases h) rfl (by decide) rfl q438 q452 rfl hq4 hk6 ?_
        refine j_astore K dX0_accepts_20 rfl rfl ?_
        refine j_iconstZ K dX0_accepts_22 rfl (Or.inr rfl) ?_
        exact j_iret K hr dX0_accepts_23
      refine t_ite (fun hk5 => ?_) (fun _ => ?_)
      · refine j_catch (kd := 42) 24 K [⟨0, 17, 20, 13⟩] ⟨0, 17, 24, 21⟩ [] hxt (fun z hz => by cases List.mem_singleton.mp hz; exact Or.inr ⟨by decide, _, 40, rfl, by decide, q438⟩) rfl (by decide) rfl q630 q645 rfl hq4 hk5 ?_
        refine j_astore K dX0_accepts_24 rfl rfl ?_
        refine j_iconst (x := 2) K dX0_accepts_26 rfl ?_
        exact j_iret K hr dX0_accepts_27
      exact t_none

theorem pm_X0_open : yX0_open.cls = RX0 ∧ yX0_open.cls ≠ "java/lang/invoke/MethodHandle" ∧ yX0_open.cls ≠ "java/lang/invoke/VarHandle" ∧ (parseMethodDescriptor yX0_open.desc).map (fun d => d.parameters.length) = some 4 := by decide +kernel
def f_X0_open (d : Nat) (p2 : Int32) (p3 : Int32) (w : Wd) : Option (Wd × Int32) :=
  match d with
  | 0 => none
  | d + 1 =>
    bC (f_X1_open d p2 p3 w) (fun wr1 r1 =>
      if ib 0 1 = true then
        some (sJ wr1 66 (Int32.toNatClampNeg 0) (Int32.toInt64 r1), 0)
      else none) fun wq3 q3 =>
    if gK wq3 q3 = 40 then
      some (wq3, 1)
    else
      none
theorem sim_X0_open {G : Gx} (hG : GW G) {l : Launch} (hl : l.stackTraces = false) (d : Nat) (p2 : Int32) (p3 : Int32) (w : Wd) (fp2 : Bool) (fp3 : Bool) : Mt G true l yX0_open (wsW_ yX0_open cX0_open 5 (some .int) [(0, 10, 13, 13)]) d (rrV G pI) [aR 1 (some 8), aB fp2 p2, aB fp3 p3, aR 13 (some 66)] w (f_X0_open d p2 p3 w) := by
  refine Mt.ofW (own := "IntervalTreeLaw") hG hl (by decide +kernel) rfl rfl ?_
  intro M hM hr hnm hxt hnd K
  subst hM
  cases d with
  | zero => exact j_none
  | succ d =>
    refine j_aload_n K dX0_open_0 rfl ?_
    refine j_iconstZ K dX0_open_1 rfl (Or.inl rfl) ?_
    refine j_aload_n K dX0_open_2 rfl ?_
    refine j_iload_n K dX0_open_3 rfl ?_
    refine j_iload_n K dX0_open_4 rfl ?_
    refine j_callVC _ K (sim_X1_open hG hl d p2 p3 w fp2 fp3) dX0_open_5 rfl rfl q1198 q1199 q1200 q93 q1201 pm_X1_open rfl rfl rfl rfl rfl (fun wr1 r1 _ => ?_) (fun wq3 q3 _ hq3 => ?_)
    · refine j_i2l K dX0_open_8 ?_
      refine j_ib (fun hi2 => ?_)
      refine j_las K dX0_open_9 rfl (outLen2 rfl) hi2 ?_
      refine j_goto 17 K dX0_open_10 (by decide) ?_
      refine j_iconstZ K dX0_open_17 rfl (Or.inl rfl) ?_
      exact j_iret K hr dX0_open_18
    · refine t_ite (fun hk4 => ?_) (fun _ => ?_)
      · refine j_catch (kd := 40) 13 K [] ⟨0, 10, 13, 13⟩ [] hxt (fun _ h => by cases h) rfl (by decide) rfl q438 q452 rfl hq3 hk4 ?_
        refine j_astore K dX0_open_13 rfl rfl ?_
        refine j_iconstZ K dX0_open_15 rfl (Or.inr rfl) ?_
        exact j_iret K hr dX0_open_16
      exact t_none

theorem pm_X0_hasNext : yX0_hasNext.cls = RX0 ∧ yX0_hasNext.cls ≠ "java/lang/invoke/MethodHandle" ∧ yX0_hasNext.cls ≠ "java/lang/invoke/VarHandle" ∧ (parseMethodDescriptor yX0_hasNext.desc).map (fun d => d.parameters.length) = some 3 := by decide +kernel
def f_X0_hasNext (d : Nat) (p2 : Int32) (w : Wd) : Option (Wd × Int32) :=
  match d with
  | 0 => none
  | d + 1 =>
    bC (f_X1_hasNext d p2 w) (fun wr1 r1 =>
      if r1 = 0 then
        if ib 0 1 = true then
          some (sJ wr1 66 (Int32.toNatClampNeg 0) 0, 0)
        else none
      else
        if ib 0 1 = true then
          some (sJ wr1 66 (Int32.toNatClampNeg 0) 1, 0)
        else none) fun wq4 q4 =>
    if gK wq4 q4 = 40 then
      some (wq4, 1)
    else
      if gK wq4 q4 = 41 then
        some (wq4, 2)
      else
        none
theorem sim_X0_hasNext {G : Gx} (hG : GW G) {l : Launch} (hl : l.stackTraces = false) (d : Nat) (p2 : Int32) (w : Wd) (fp2 : Bool) : Mt G true l yX0_hasNext (wsW_ yX0_hasNext cX0_hasNext 4 (some .int) [(0, 16, 19, 13), (0, 16, 22, 15)]) d (rrV G pI) [aR 1 (some 8), aB fp2 p2, aR 13 (some 66)] w (f_X0_hasNext d p2 w) := by
  refine Mt.ofW (own := "IntervalTreeLaw") hG hl (by decide +kernel) rfl rfl ?_
  intro M hM hr hnm hxt hnd K
  subst hM
  cases d with
  | zero => exact j_none
  | succ d =>
    refine j_aload_n K dX0_hasNext_0 rfl ?_
    refine j_iconstZ K dX0_hasNext_1 rfl (Or.inl rfl) ?_
    refine j_aload_n K dX0_hasNext_2 rfl ?_
    refine j_iload_n K dX0_hasNext_3 rfl ?_
    refine j_callVC _ K (sim_X1_hasNext hG hl d p2 w fp2) dX0_hasNext_4 rfl rfl q1209 q1210 q1211 q93 q1212 pm_X1_hasNext rfl rfl rfl rfl rfl (fun wr1 r1 _ => ?_) (fun wq4 q4 _ hq4 => ?_)
    · refine j_if_eq 14 K dX0_hasNext_7 (by decide) ?_ ?_
      · refine j_lconst (x := 0) K dX0_hasNext_14 rfl ?_
        refine j_ib (fun hi2 => ?_)
        refine j_las K dX0_hasNext_15 rfl (outLen2 rfl) hi2 ?_
        refine j_goto 25 K dX0_hasNext_16 (by decide) ?_
        refine j_iconstZ K dX0_hasNext_25 rfl (Or.inl rfl) ?_
        exact j_iret K hr dX0_hasNext_26
      · refine j_lconst (x := 1) K dX0_hasNext_10 rfl ?_
        refine j_goto 15 K dX0_hasNext_11 (by decide) ?_
        refine j_ib (fun hi3 => ?_)
        refine j_las K dX0_hasNext_15 rfl (outLen2 rfl) hi3 ?_
        refine j_goto 25 K dX0_hasNext_16 (by decide) ?_
        refine j_iconstZ K dX0_hasNext_25 rfl (Or.inl rfl) ?_
        exact j_iret K hr dX0_hasNext_26
    · refine t_ite (fun hk6 => ?_) (fun _ => ?_)
      · refine j_catch (kd := 40) 19 K [] ⟨0, 16, 19, 13⟩ [⟨0, 16, 22, 15⟩] hxt (fun _ h => by cases h) rfl (by decide) rfl q438 q452 rfl hq4 hk6 ?_
        refine j_astore_n K dX0_hasNext_19 rfl rfl ?_
        refine j_iconstZ K dX0_hasNext_20 rfl (Or.inr rfl) ?_
        exact j_iret K hr dX0_hasNext_21
      refine t_ite (fun hk5 => ?_) (fun _ => ?_)
      · refine j_catch (kd := 41) 22 K [⟨0, 16, 19, 13⟩] ⟨0, 16, 22, 15⟩ [] hxt (fun z hz => by cases List.mem_singleton.mp hz; exact Or.inr ⟨by decide, _, 40, rfl, by decide, q438⟩) rfl (by decide) rfl q439 q522 rfl hq4 hk5 ?_
        refine j_astore_n K dX0_hasNext_22 rfl rfl ?_
        refine j_iconst (x := 2) K dX0_hasNext_23 rfl ?_
        exact j_iret K hr dX0_hasNext_24
      exact t_none

theorem pm_X0_next : yX0_next.cls = RX0 ∧ yX0_next.cls ≠ "java/lang/invoke/MethodHandle" ∧ yX0_next.cls ≠ "java/lang/invoke/VarHandle" ∧ (parseMethodDescriptor yX0_next.desc).map (fun d => d.parameters.length) = some 3 := by decide +kernel
def f_X0_next (d : Nat) (p2 : Int32) (w : Wd) : Option (Wd × Int32) :=
  match d with
  | 0 => none
  | d + 1 =>
    bC (f_X1_next d p2 w) (fun wr1 r1 =>
      if ib 0 1 = true then
        some (sJ wr1 66 (Int32.toNatClampNeg 0) (Int32.toInt64 r1), 0)
      else none) fun wq3 q3 =>
    if gK wq3 q3 = 40 then
      some (wq3, 1)
    else
      if gK wq3 q3 = 41 then
        some (wq3, 2)
      else
        if gK wq3 q3 = 42 then
          some (wq3, 3)
        else
          none
theorem sim_X0_next {G : Gx} (hG : GW G) {l : Launch} (hl : l.stackTraces = false) (d : Nat) (p2 : Int32) (w : Wd) (fp2 : Bool) : Mt G true l yX0_next (wsW_ yX0_next cX0_next 4 (some .int) [(0, 9, 12, 13), (0, 9, 15, 15), (0, 9, 18, 21)]) d (rrV G pI) [aR 1 (some 8), aB fp2 p2, aR 13 (some 66)] w (f_X0_next d p2 w) := by
  refine Mt.ofW (own := "IntervalTreeLaw") hG hl (by decide +kernel) rfl rfl ?_
  intro M hM hr hnm hxt hnd K
  subst hM
  cases d with
  | zero => exact j_none
  | succ d =>
    refine j_aload_n K dX0_next_0 rfl ?_
    refine j_iconstZ K dX0_next_1 rfl (Or.inl rfl) ?_
    refine j_aload_n K dX0_next_2 rfl ?_
    refine j_iload_n K dX0_next_3 rfl ?_
    refine j_callVC _ K (sim_X1_next hG hl d p2 w fp2) dX0_next_4 rfl rfl q1221 q1222 q1223 q93 q1224 pm_X1_next rfl rfl rfl rfl rfl (fun wr1 r1 _ => ?_) (fun wq3 q3 _ hq3 => ?_)
    · refine j_i2l K dX0_next_7 ?_
      refine j_ib (fun hi2 => ?_)
      refine j_las K dX0_next_8 rfl (outLen2 rfl) hi2 ?_
      refine j_goto 21 K dX0_next_9 (by decide) ?_
      refine j_iconstZ K dX0_next_21 rfl (Or.inl rfl) ?_
      exact j_iret K hr dX0_next_22
    · refine t_ite (fun hk6 => ?_) (fun _ => ?_)
      · refine j_catch (kd := 40) 12 K [] ⟨0, 9, 12, 13⟩ [⟨0, 9, 15, 15⟩, ⟨0, 9, 18, 21⟩] hxt (fun _ h => by cases h) rfl (by decide) rfl q438 q452 rfl hq3 hk6 ?_
        refine j_astore_n K dX0_next_12 rfl rfl ?_
        refine j_iconstZ K dX0_next_13 rfl (Or.inr rfl) ?_
        exact j_iret K hr dX0_next_14
      refine t_ite (fun hk5 => ?_) (fun _ => ?_)
      · refine j_catch (kd := 41) 15 K [⟨0, 9, 12, 13⟩] ⟨0, 9, 15, 15⟩ [⟨0, 9, 18, 21⟩] hxt (fun z hz => by cases List.mem_singleton.mp hz; exact Or.inr ⟨by decide, _, 40, rfl, by decide, q438⟩) rfl (by decide) rfl q439 q522 rfl hq3 hk5 ?_
        refine j_astore_n K dX0_next_15 rfl rfl ?_
        refine j_iconst (x := 2) K dX0_next_16 rfl ?_
        exact j_iret K hr dX0_next_17
      refine t_ite (fun hk4 => ?_) (fun _ => ?_)
      · refine j_catch (kd := 42) 18 K [⟨0, 9, 12, 13⟩, ⟨0, 9, 15, 15⟩] ⟨0, 9, 18, 21⟩ [] hxt (fun z hz => (List.mem_cons.mp hz).elim (fun e => by cases e; exact Or.inr ⟨by decide, _, 40, rfl, by decide, q438⟩) (fun hz => by cases List.mem_singleton.mp hz; exact Or.inr ⟨by decide, _, 41, rfl, by decide, q439⟩)) rfl (by decide) rfl q630 q645 rfl hq3 hk4 ?_
        refine j_astore_n K dX0_next_18 rfl rfl ?_
        refine j_iconst (x := 3) K dX0_next_19 rfl ?_
        exact j_iret K hr dX0_next_20
      exact t_none

theorem pm_X0_removeCurrent : yX0_removeCurrent.cls = RX0 ∧ yX0_removeCurrent.cls ≠ "java/lang/invoke/MethodHandle" ∧ yX0_removeCurrent.cls ≠ "java/lang/invoke/VarHandle" ∧ (parseMethodDescriptor yX0_removeCurrent.desc).map (fun d => d.parameters.length) = some 3 := by decide +kernel
def f_X0_removeCurrent (d : Nat) (p2 : Int32) (w : Wd) : Option (Wd × Int32) :=
  match d with
  | 0 => none
  | d + 1 =>
    bC (f_X1_removeCurrent d p2 w) (fun wr1 r1 =>
      if ib 0 1 = true then
        some (sJ wr1 66 (Int32.toNatClampNeg 0) (Int32.toInt64 r1), 0)
      else none) fun wq3 q3 =>
    if gK wq3 q3 = 40 then
      some (wq3, 1)
    else
      if gK wq3 q3 = 41 then
        some (wq3, 2)
      else
        none
theorem sim_X0_removeCurrent {G : Gx} (hG : GW G) {l : Launch} (hl : l.stackTraces = false) (d : Nat) (p2 : Int32) (w : Wd) (fp2 : Bool) : Mt G true l yX0_removeCurrent (wsW_ yX0_removeCurrent cX0_removeCurrent 4 (some .int) [(0, 9, 12, 13), (0, 9, 15, 15)]) d (rrV G pI) [aR 1 (some 8), aB fp2 p2, aR 13 (some 66)] w (f_X0_removeCurrent d p2 w) := by
  refine Mt.ofW (own := "IntervalTreeLaw") hG hl (by decide +kernel) rfl rfl ?_
  intro M hM hr hnm hxt hnd K
  subst hM
  cases d with
  | zero => exact j_none
  | succ d =>
    refine j_aload_n K dX0_removeCurrent_0 rfl ?_
    refine j_iconstZ K dX0_removeCurrent_1 rfl (Or.inl rfl) ?_
    refine j_aload_n K dX0_removeCurrent_2 rfl ?_
    refine j_iload_n K dX0_removeCurrent_3 rfl ?_
    refine j_callVC _ K (sim_X1_removeCurrent hG hl d p2 w fp2) dX0_removeCurrent_4 rfl rfl q1229 q1230 q1231 q93 q1232 pm_X1_removeCurrent rfl rfl rfl rfl rfl (fun wr1 r1 _ => ?_) (fun wq3 q3 _ hq3 => ?_)
    · refine j_i2l K dX0_removeCurrent_7 ?_
      refine j_ib (fun hi2 => ?_)
      refine j_las K dX0_removeCurrent_8 rfl (outLen2 rfl) hi2 ?_
      refine j_goto 18 K dX0_removeCurrent_9 (by decide) ?_
      refine j_iconstZ K dX0_removeCurrent_18 rfl (Or.inl rfl) ?_
      exact j_iret K hr dX0_removeCurrent_19
    · refine t_ite (fun hk5 => ?_) (fun _ => ?_)
      · refine j_catch (kd := 40) 12 K [] ⟨0, 9, 12, 13⟩ [⟨0, 9, 15, 15⟩] hxt (fun _ h => by cases h) rfl (by decide) rfl q438 q452 rfl hq3 hk5 ?_
        refine j_astore_n K dX0_removeCurrent_12 rfl rfl ?_
        refine j_iconstZ K dX0_removeCurrent_13 rfl (Or.inr rfl) ?_
        exact j_iret K hr dX0_removeCurrent_14
      refine t_ite (fun hk4 => ?_) (fun _ => ?_)
      · refine j_catch (kd := 41) 15 K [⟨0, 9, 12, 13⟩] ⟨0, 9, 15, 15⟩ [] hxt (fun z hz => by cases List.mem_singleton.mp hz; exact Or.inr ⟨by decide, _, 40, rfl, by decide, q438⟩) rfl (by decide) rfl q439 q522 rfl hq3 hk4 ?_
        refine j_astore_n K dX0_removeCurrent_15 rfl rfl ?_
        refine j_iconst (x := 2) K dX0_removeCurrent_16 rfl ?_
        exact j_iret K hr dX0_removeCurrent_17
      exact t_none

theorem pm_X0_load : yX0_load.cls = RX0 ∧ yX0_load.cls ≠ "java/lang/invoke/MethodHandle" ∧ yX0_load.cls ≠ "java/lang/invoke/VarHandle" ∧ (parseMethodDescriptor yX0_load.desc).map (fun d => d.parameters.length) = some 2 := by decide +kernel
def f_X0_load (d : Nat) (w : Wd) : Option (Wd × Int32) :=
  match d with
  | 0 => none
  | d + 1 =>
    bC (f_X1_load d w) (fun wr1 r1 =>
      if ib 0 1 = true then
        some (sJ wr1 66 (Int32.toNatClampNeg 0) (Int32.toInt64 r1), 0)
      else none) fun wq3 q3 =>
    if gK wq3 q3 = 41 then
      some (wq3, 1)
    else
      none
theorem sim_X0_load {G : Gx} (hG : GW G) {l : Launch} (hl : l.stackTraces = false) (d : Nat) (w : Wd) : Mt G true l yX0_load (wsW_ yX0_load cX0_load 3 (some .int) [(0, 8, 11, 15)]) d (rrV G pI) [aR 1 (some 8), aR 13 (some 66)] w (f_X0_load d w) := by
  refine Mt.ofW (own := "IntervalTreeLaw") hG hl (by decide +kernel) rfl rfl ?_
  intro M hM hr hnm hxt hnd K
  subst hM
  cases d with
  | zero => exact j_none
  | succ d =>
    refine j_aload_n K dX0_load_0 rfl ?_
    refine j_iconstZ K dX0_load_1 rfl (Or.inl rfl) ?_
    refine j_aload_n K dX0_load_2 rfl ?_
    refine j_callVC _ K (sim_X1_load hG hl d w) dX0_load_3 rfl rfl q1237 q1238 q1239 q93 q1240 pm_X1_load rfl rfl rfl rfl rfl (fun wr1 r1 _ => ?_) (fun wq3 q3 _ hq3 => ?_)
    · refine j_i2l K dX0_load_6 ?_
      refine j_ib (fun hi2 => ?_)
      refine j_las K dX0_load_7 rfl (outLen2 rfl) hi2 ?_
      refine j_goto 14 K dX0_load_8 (by decide) ?_
      refine j_iconstZ K dX0_load_14 rfl (Or.inl rfl) ?_
      exact j_iret K hr dX0_load_15
    · refine t_ite (fun hk4 => ?_) (fun _ => ?_)
      · refine j_catch (kd := 41) 11 K [] ⟨0, 8, 11, 15⟩ [] hxt (fun _ h => by cases h) rfl (by decide) rfl q439 q522 rfl hq3 hk4 ?_
        refine j_astore_n K dX0_load_11 rfl rfl ?_
        refine j_iconstZ K dX0_load_12 rfl (Or.inr rfl) ?_
        exact j_iret K hr dX0_load_13
      exact t_none
