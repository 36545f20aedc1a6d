set_option maxRecDepth 100000
theorem pm_X3_thrown : yX3_thrown.cls = RX3 ∧ yX3_thrown.cls ≠ "java/lang/invoke/MethodHandle" ∧ yX3_thrown.cls ≠ "java/lang/invoke/VarHandle" ∧ (parseMethodDescriptor yX3_thrown.desc).map (fun d => d.parameters.length) = some 0 := by decide +kernel
def f_X3_thrown (d : Nat) (w : Wd) : Option (Wd × Int32) :=
  match d with
  | 0 => none
  | d + 1 =>
    some (w, (gI w 30 0))
theorem sim_X3_thrown {G : Gx} (hG : GW G) {l : Launch} (hl : l.stackTraces = false) (d : Nat) (w : Wd) : Mt G true l yX3_thrown (ws_ yX3_thrown cX3_thrown 1 (some .int)) d (rrV G pI) [aR 3 (some 30)] w (f_X3_thrown d w) := by
  refine Mt.of (own := "IntervalTreeModel") hG hl (by decide +kernel) rfl rfl ?_
  intro M hM hr hnm hxt hnd K
  subst hM
  cases d with
  | zero => exact j_none
  | succ d =>
    refine j_aload_n K dX3_thrown_0 rfl ?_
    refine j_getI (k := 0) K dX3_thrown_1 rfl rfl rfl q1256 rfl rfl rfl ?_
    exact j_iret K hr dX3_thrown_4

theorem pm_X3_init : yX3_init.cls = RX3 ∧ yX3_init.cls ≠ "java/lang/invoke/MethodHandle" ∧ yX3_init.cls ≠ "java/lang/invoke/VarHandle" ∧ (parseMethodDescriptor yX3_init.desc).map (fun d => d.parameters.length) = some 0 := by decide +kernel
def f_X3_init (d : Nat) (w : Wd) : Option (Wd × Unit) :=
  match d with
  | 0 => none
  | d + 1 =>
    (nwB (sI w 30 0 0) 10 500 500).bind fun w1 =>
    (nwB (sR w1 30 1 (some (gN (sI w 30 0 0)))) 10 500 500).bind fun w2 =>
    (nwB (sR w2 30 2 (some (gN (sR w1 30 1 (some (gN (sI w 30 0 0))))))) 10 500 500).bind fun w3 =>
    (nwB (sR w3 30 3 (some (gN (sR w2 30 2 (some (gN (sR w1 30 1 (some (gN (sI w 30 0 0)))))))))) 10 500 500).bind fun w4 =>
    (nwB (sR w4 30 4 (some (gN (sR w3 30 3 (some (gN (sR w2 30 2 (some (gN (sR w1 30 1 (some (gN (sI w 30 0 0))))))))))))) 10 500 500).bind fun w5 =>
    (nwB (sR w5 30 5 (some (gN (sR w4 30 4 (some (gN (sR w3 30 3 (some (gN (sR w2 30 2 (some (gN (sR w1 30 1 (some (gN (sI w 30 0 0)))))))))))))))) 10 500 500).bind fun w6 =>
    (nwB (sR w6 30 6 (some (gN (sR w5 30 5 (some (gN (sR w4 30 4 (some (gN (sR w3 30 3 (some (gN (sR w2 30 2 (some (gN (sR w1 30 1 (some (gN (sI w 30 0 0))))))))))))))))))) 10 500 500).bind fun w7 =>
    (nwB (sR w7 30 7 (some (gN (sR w6 30 6 (some (gN (sR w5 30 5 (some (gN (sR w4 30 4 (some (gN (sR w3 30 3 (some (gN (sR w2 30 2 (some (gN (sR w1 30 1 (some (gN (sI w 30 0 0)))))))))))))))))))))) 11 500 500).bind fun w8 =>
    (nwB (sI (sI (sI (sI (sI (sI (sI (sR w8 30 8 (some (gN (sR w7 30 7 (some (gN (sR w6 30 6 (some (gN (sR w5 30 5 (some (gN (sR w4 30 4 (some (gN (sR w3 30 3 (some (gN (sR w2 30 2 (some (gN (sR w1 30 1 (some (gN (sI w 30 0 0))))))))))))))))))))))))) 30 9 (-1)) 30 10 0) 30 11 0) 30 12 0) 30 13 50) 30 14 0) 30 15 0) 10 500 500).bind fun w9 =>
    (nwB (sI (sR w9 30 16 (some (gN (sI (sI (sI (sI (sI (sI (sI (sR w8 30 8 (some (gN (sR w7 30 7 (some (gN (sR w6 30 6 (some (gN (sR w5 30 5 (some (gN (sR w4 30 4 (some (gN (sR w3 30 3 (some (gN (sR w2 30 2 (some (gN (sR w1 30 1 (some (gN (sI w 30 0 0))))))))))))))))))))))))) 30 9 (-1)) 30 10 0) 30 11 0) 30 12 0) 30 13 50) 30 14 0) 30 15 0)))) 30 17 0) 10 500 500).bind fun w10 =>
    (nwB (sR w10 30 18 (some (gN (sI (sR w9 30 16 (some (gN (sI (sI (sI (sI (sI (sI (sI (sR w8 30 8 (some (gN (sR w7 30 7 (some (gN (sR w6 30 6 (some (gN (sR w5 30 5 (some (gN (sR w4 30 4 (some (gN (sR w3 30 3 (some (gN (sR w2 30 2 (some (gN (sR w1 30 1 (some (gN (sI w 30 0 0))))))))))))))))))))))))) 30 9 (-1)) 30 10 0) 30 11 0) 30 12 0) 30 13 50) 30 14 0) 30 15 0)))) 30 17 0)))) 10 500 500).bind fun w11 =>
    (nwB (sR w11 30 19 (some (gN (sR w10 30 18 (some (gN (sI (sR w9 30 16 (some (gN (sI (sI (sI (sI (sI (sI (sI (sR w8 30 8 (some (gN (sR w7 30 7 (some (gN (sR w6 30 6 (some (gN (sR w5 30 5 (some (gN (sR w4 30 4 (some (gN (sR w3 30 3 (some (gN (sR w2 30 2 (some (gN (sR w1 30 1 (some (gN (sI w 30 0 0))))))))))))))))))))))))) 30 9 (-1)) 30 10 0) 30 11 0) 30 12 0) 30 13 50) 30 14 0) 30 15 0)))) 30 17 0))))))) 10 2002 2002).bind fun w12 =>
    (nwB (sR w12 30 22 (some (gN (sR w11 30 19 (some (gN (sR w10 30 18 (some (gN (sI (sR w9 30 16 (some (gN (sI (sI (sI (sI (sI (sI (sI (sR w8 30 8 (some (gN (sR w7 30 7 (some (gN (sR w6 30 6 (some (gN (sR w5 30 5 (some (gN (sR w4 30 4 (some (gN (sR w3 30 3 (some (gN (sR w2 30 2 (some (gN (sR w1 30 1 (some (gN (sI w 30 0 0))))))))))))))))))))))))) 30 9 (-1)) 30 10 0) 30 11 0) 30 12 0) 30 13 50) 30 14 0) 30 15 0)))) 30 17 0)))))))))) 10 501 501).bind fun w13 =>
    (nwB (sI (sR w13 30 23 (some (gN (sR w12 30 22 (some (gN (sR w11 30 19 (some (gN (sR w10 30 18 (some (gN (sI (sR w9 30 16 (some (gN (sI (sI (sI (sI (sI (sI (sI (sR w8 30 8 (some (gN (sR w7 30 7 (some (gN (sR w6 30 6 (some (gN (sR w5 30 5 (some (gN (sR w4 30 4 (some (gN (sR w3 30 3 (some (gN (sR w2 30 2 (some (gN (sR w1 30 1 (some (gN (sI w 30 0 0))))))))))))))))))))))))) 30 9 (-1)) 30 10 0) 30 11 0) 30 12 0) 30 13 50) 30 14 0) 30 15 0)))) 30 17 0))))))))))))) 30 24 3) 10 8 8).bind fun w14 =>
    if ib 0 (gL w14 (gN (sI (sR w13 30 23 (some (gN (sR w12 30 22 (some (gN (sR w11 30 19 (some (gN (sR w10 30 18 (some (gN (sI (sR w9 30 16 (some (gN (sI (sI (sI (sI (sI (sI (sI (sR w8 30 8 (some (gN (sR w7 30 7 (some (gN (sR w6 30 6 (some (gN (sR w5 30 5 (some (gN (sR w4 30 4 (some (gN (sR w3 30 3 (some (gN (sR w2 30 2 (some (gN (sR w1 30 1 (some (gN (sI w 30 0 0))))))))))))))))))))))))) 30 9 (-1)) 30 10 0) 30 11 0) 30 12 0) 30 13 50) 30 14 0) 30 15 0)))) 30 17 0))))))))))))) 30 24 3))) = true then
      if ib 1 (gL (sI w14 (gN (sI (sR w13 30 23 (some (gN (sR w12 30 22 (some (gN (sR w11 30 19 (some (gN (sR w10 30 18 (some (gN (sI (sR w9 30 16 (some (gN (sI (sI (sI (sI (sI (sI (sI (sR w8 30 8 (some (gN (sR w7 30 7 (some (gN (sR w6 30 6 (some (gN (sR w5 30 5 (some (gN (sR w4 30 4 (some (gN (sR w3 30 3 (some (gN (sR w2 30 2 (some (gN (sR w1 30 1 (some (gN (sI w 30 0 0))))))))))))))))))))))))) 30 9 (-1)) 30 10 0) 30 11 0) 30 12 0) 30 13 50) 30 14 0) 30 15 0)))) 30 17 0))))))))))))) 30 24 3)) (Int32.toNatClampNeg 0) 0) (gN (sI (sR w13 30 23 (some (gN (sR w12 30 22 (some (gN (sR w11 30 19 (some (gN (sR w10 30 18 (some (gN (sI (sR w9 30 16 (some (gN (sI (sI (sI (sI (sI (sI (sI (sR w8 30 8 (some (gN (sR w7 30 7 (some (gN (sR w6 30 6 (some (gN (sR w5 30 5 (some (gN (sR w4 30 4 (some (gN (sR w3 30 3 (some (gN (sR w2 30 2 (some (gN (sR w1 30 1 (some (gN (sI w 30 0 0))))))))))))))))))))))))) 30 9 (-1)) 30 10 0) 30 11 0) 30 12 0) 30 13 50) 30 14 0) 30 15 0)))) 30 17 0))))))))))))) 30 24 3))) = true then
        if ib 2 (gL (sI (sI w14 (gN (sI (sR w13 30 23 (some (gN (sR w12 30 22 (some (gN (sR w11 30 19 (some (gN (sR w10 30 18 (some (gN (sI (sR w9 30 16 (some (gN (sI (sI (sI (sI (sI (sI (sI (sR w8 30 8 (some (gN (sR w7 30 7 (some (gN (sR w6 30 6 (some (gN (sR w5 30 5 (some (gN (sR w4 30 4 (some (gN (sR w3 30 3 (some (gN (sR w2 30 2 (some (gN (sR w1 30 1 (some (gN (sI w 30 0 0))))))))))))))))))))))))) 30 9 (-1)) 30 10 0) 30 11 0) 30 12 0) 30 13 50) 30 14 0) 30 15 0)))) 30 17 0))))))))))))) 30 24 3)) (Int32.toNatClampNeg 0) 0) (gN (sI (sR w13 30 23 (some (gN (sR w12 30 22 (some (gN (sR w11 30 19 (some (gN (sR w10 30 18 (some (gN (sI (sR w9 30 16 (some (gN (sI (sI (sI (sI (sI (sI (sI (sR w8 30 8 (some (gN (sR w7 30 7 (some (gN (sR w6 30 6 (some (gN (sR w5 30 5 (some (gN (sR w4 30 4 (some (gN (sR w3 30 3 (some (gN (sR w2 30 2 (some (gN (sR w1 30 1 (some (gN (sI w 30 0 0))))))))))))))))))))))))) 30 9 (-1)) 30 10 0) 30 11 0) 30 12 0) 30 13 50) 30 14 0) 30 15 0)))) 30 17 0))))))))))))) 30 24 3)) (Int32.toNatClampNeg 1) 1) (gN (sI (sR w13 30 23 (some (gN (sR w12 30 22 (some (gN (sR w11 30 19 (some (gN (sR w10 30 18 (some (gN (sI (sR w9 30 16 (some (gN (sI (sI (sI (sI (sI (sI (sI (sR w8 30 8 (some (gN (sR w7 30 7 (some (gN (sR w6 30 6 (some (gN (sR w5 30 5 (some (gN (sR w4 30 4 (some (gN (sR w3 30 3 (some (gN (sR w2 30 2 (some (gN (sR w1 30 1 (some (gN (sI w 30 0 0))))))))))))))))))))))))) 30 9 (-1)) 30 10 0) 30 11 0) 30 12 0) 30 13 50) 30 14 0) 30 15 0)))) 30 17 0))))))))))))) 30 24 3))) = true then
          if ib 3 (gL (sI (sI (sI w14 (gN (sI (sR w13 30 23 (some (gN (sR w12 30 22 (some (gN (sR w11 30 19 (some (gN (sR w10 30 18 (some (gN (sI (sR w9 30 16 (some (gN (sI (sI (sI (sI (sI (sI (sI (sR w8 30 8 (some (gN (sR w7 30 7 (some (gN (sR w6 30 6 (some (gN (sR w5 30 5 (some (gN (sR w4 30 4 (some (gN (sR w3 30 3 (some (gN (sR w2 30 2 (some (gN (sR w1 30 1 (some (gN (sI w 30 0 0))))))))))))))))))))))))) 30 9 (-1)) 30 10 0) 30 11 0) 30 12 0) 30 13 50) 30 14 0) 30 15 0)))) 30 17 0))))))))))))) 30 24 3)) (Int32.toNatClampNeg 0) 0) (gN (sI (sR w13 30 23 (some (gN (sR w12 30 22 (some (gN (sR w11 30 19 (some (gN (sR w10 30 18 (some (gN (sI (sR w9 30 16 (some (gN (sI (sI (sI (sI (sI (sI (sI (sR w8 30 8 (some (gN (sR w7 30 7 (some (gN (sR w6 30 6 (some (gN (sR w5 30 5 (some (gN (sR w4 30 4 (some (gN (sR w3 30 3 (some (gN (sR w2 30 2 (some (gN (sR w1 30 1 (some (gN (sI w 30 0 0))))))))))))))))))))))))) 30 9 (-1)) 30 10 0) 30 11 0) 30 12 0) 30 13 50) 30 14 0) 30 15 0)))) 30 17 0))))))))))))) 30 24 3)) (Int32.toNatClampNeg 1) 1) (gN (sI (sR w13 30 23 (some (gN (sR w12 30 22 (some (gN (sR w11 30 19 (some (gN (sR w10 30 18 (some (gN (sI (sR w9 30 16 (some (gN (sI (sI (sI (sI (sI (sI (sI (sR w8 30 8 (some (gN (sR w7 30 7 (some (gN (sR w6 30 6 (some (gN (sR w5 30 5 (some (gN (sR w4 30 4 (some (gN (sR w3 30 3 (some (gN (sR w2 30 2 (some (gN (sR w1 30 1 (some (gN (sI w 30 0 0))))))))))))))))))))))))) 30 9 (-1)) 30 10 0) 30 11 0) 30 12 0) 30 13 50) 30 14 0) 30 15 0)))) 30 17 0))))))))))))) 30 24 3)) (Int32.toNatClampNeg 2) 2) (gN (sI (sR w13 30 23 (some (gN (sR w12 30 22 (some (gN (sR w11 30 19 (some (gN (sR w10 30 18 (some (gN (sI (sR w9 30 16 (some (gN (sI (sI (sI (sI (sI (sI (sI (sR w8 30 8 (some (gN (sR w7 30 7 (some (gN (sR w6 30 6 (some (gN (sR w5 30 5 (some (gN (sR w4 30 4 (some (gN (sR w3 30 3 (some (gN (sR w2 30 2 (some (gN (sR w1 30 1 (some (gN (sI w 30 0 0))))))))))))))))))))))))) 30 9 (-1)) 30 10 0) 30 11 0) 30 12 0) 30 13 50) 30 14 0) 30 15 0)))) 30 17 0))))))))))))) 30 24 3))) = true then
            if ib 4 (gL (sI (sI (sI (sI w14 (gN (sI (sR w13 30 23 (some (gN (sR w12 30 22 (some (gN (sR w11 30 19 (some (gN (sR w10 30 18 (some (gN (sI (sR w9 30 16 (some (gN (sI (sI (sI (sI (sI (sI (sI (sR w8 30 8 (some (gN (sR w7 30 7 (some (gN (sR w6 30 6 (some (gN (sR w5 30 5 (some (gN (sR w4 30 4 (some (gN (sR w3 30 3 (some (gN (sR w2 30 2 (some (gN (sR w1 30 1 (some (gN (sI w 30 0 0))))))))))))))))))))))))) 30 9 (-1)) 30 10 0) 30 11 0) 30 12 0) 30 13 50) 30 14 0) 30 15 0)))) 30 17 0))))))))))))) 30 24 3)) (Int32.toNatClampNeg 0) 0) (gN (sI (sR w13 30 23 (some (gN (sR w12 30 22 (some (gN (sR w11 30 19 (some (gN (sR w10 30 18 (some (gN (sI (sR w9 30 16 (some (gN (sI (sI (sI (sI (sI (sI (sI (sR w8 30 8 (some (gN (sR w7 30 7 (some (gN (sR w6 30 6 (some (gN (sR w5 30 5 (some (gN (sR w4 30 4 (some (gN (sR w3 30 3 (some (gN (sR w2 30 2 (some (gN (sR w1 30 1 (some (gN (sI w 30 0 0))))))))))))))))))))))))) 30 9 (-1)) 30 10 0) 30 11 0) 30 12 0) 30 13 50) 30 14 0) 30 15 0)))) 30 17 0))))))))))))) 30 24 3)) (Int32.toNatClampNeg 1) 1) (gN (sI (sR w13 30 23 (some (gN (sR w12 30 22 (some (gN (sR w11 30 19 (some (gN (sR w10 30 18 (some (gN (sI (sR w9 30 16 (some (gN (sI (sI (sI (sI (sI (sI (sI (sR w8 30 8 (some (gN (sR w7 30 7 (some (gN (sR w6 30 6 (some (gN (sR w5 30 5 (some (gN (sR w4 30 4 (some (gN (sR w3 30 3 (some (gN (sR w2 30 2 (some (gN (sR w1 30 1 (some (gN (sI w 30 0 0))))))))))))))))))))))))) 30 9 (-1)) 30 10 0) 30 11 0) 30 12 0) 30 13 50) 30 14 0) 30 15 0)))) 30 17 0))))))))))))) 30 24 3)) (Int32.toNatClampNeg 2) 2) (gN (sI (sR w13 30 23 (some (gN (sR w12 30 22 (some (gN (sR w11 30 19 (some (gN (sR w10 30 18 (some (gN (sI (sR w9 30 16 (some (gN (sI (sI (sI (sI (sI (sI (sI (sR w8 30 8 (some (gN (sR w7 30 7 (some (gN (sR w6 30 6 (some (gN (sR w5 30 5 (some (gN (sR w4 30 4 (some (gN (sR w3 30 3 (some (gN (sR w2 30 2 (some (gN (sR w1 30 1 (some (gN (sI w 30 0 0))))))))))))))))))))))))) 30 9 (-1)) 30 10 0) 30 11 0) 30 12 0) 30 13 50) 30 14 0) 30 15 0)))) 30 17 0))))))))))))) 30 24 3)) (Int32.toNatClampNeg 3) 0) (gN (sI (sR w13 30 23 (some (gN (sR w12 30 22 (some (gN (sR w11 30 19 (some (gN (sR w10 30 18 (some (gN (sI (sR w9 30 16 (some (gN (sI (sI (sI (sI (sI (sI (sI (sR w8 30 8 (some (gN (sR w7 30 7 (some (gN (sR w6 30 6 (some (gN (sR w5 30 5 (some (gN (sR w4 30 4 (some (gN (sR w3 30 3 (some (gN (sR w2 30 2 (some (gN (sR w1 30 1 (some (gN (sI w 30 0 0))))))))))))))))))))))))) 30 9 (-1)) 30 10 0) 30 11 0) 30 12 0) 30 13 50) 30 14 0) 30 15 0)))) 30 17 0))))))))))))) 30 24 3))) = true then
              if ib 5 (gL (sI (sI (sI (sI (sI w14 (gN (sI (sR w13 30 23 (some (gN (sR w12 30 22 (some (gN (sR w11 30 19 (some (gN (sR w10 30 18 (some (gN (sI (sR w9 30 16 (some (gN (sI (sI (sI (sI (sI (sI (sI (sR w8 30 8 (some (gN (sR w7 30 7 (some (gN (sR w6 30 6 (some (gN (sR w5 30 5 (some (gN (sR w4 30 4 (some (gN (sR w3 30 3 (some (gN (sR w2 30 2 (some (gN (sR w1 30 1 (some (gN (sI w 30 0 0))))))))))))))))))))))))) 30 9 (-1)) 30 10 0) 30 11 0) 30 12 0) 30 13 50) 30 14 0) 30 15 0)))) 30 17 0))))))))))))) 30 24 3)) (Int32.toNatClampNeg 0) 0) (gN (sI (sR w13 30 23 (some (gN (sR w12 30 22 (some (gN (sR w11 30 19 (some (gN (sR w10 30 18 (some (gN (sI (sR w9 30 16 (some (gN (sI (sI (sI (sI (sI (sI (sI (sR w8 30 8 (some (gN (sR w7 30 7 (some (gN (sR w6 30 6 (some (gN (sR w5 30 5 (some (gN (sR w4 30 4 (some (gN (sR w3 30 3 (some (gN (sR w2 30 2 (some (gN (sR w1 30 1 (some (gN (sI w 30 0 0))))))))))))))))))))))))) 30 9 (-1)) 30 10 0) 30 11 0) 30 12 0) 30 13 50) 30 14 0) 30 15 0)))) 30 17 0))))))))))))) 30 24 3)) (Int32.toNatClampNeg 1) 1) (gN (sI (sR w13 30 23 (some (gN (sR w12 30 22 (some (gN (sR w11 30 19 (some (gN (sR w10 30 18 (some (gN (sI (sR w9 30 16 (some (gN (sI (sI (sI (sI (sI (sI (sI (sR w8 30 8 (some (gN (sR w7 30 7 (some (gN (sR w6 30 6 (some (gN (sR w5 30 5 (some (gN (sR w4 30 4 (some (gN (sR w3 30 3 (some (gN (sR w2 30 2 (some (gN (sR w1 30 1 (some (gN (sI w 30 0 0))))))))))))))))))))))))) 30 9 (-1)) 30 10 0) 30 11 0) 30 12 0) 30 13 50) 30 14 0) 30 15 0)))) 30 17 0))))))))))))) 30 24 3)) (Int32.toNatClampNeg 2) 2) (gN (sI (sR w13 30 23 (some (gN (sR w12 30 22 (some (gN (sR w11 30 19 (some (gN (sR w10 30 18 (some (gN (sI (sR w9 30 16 (some (gN (sI (sI (sI (sI (sI (sI (sI (sR w8 30 8 (some (gN (sR w7 30 7 (some (gN (sR w6 30 6 (some (gN (sR w5 30 5 (some (gN (sR w4 30 4 (some (gN (sR w3 30 3 (some (gN (sR w2 30 2 (some (gN (sR w1 30 1 (some (gN (sI w 30 0 0))))))))))))))))))))))))) 30 9 (-1)) 30 10 0) 30 11 0) 30 12 0) 30 13 50) 30 14 0) 30 15 0)))) 30 17 0))))))))))))) 30 24 3)) (Int32.toNatClampNeg 3) 0) (gN (sI (sR w13 30 23 (some (gN (sR w12 30 22 (some (gN (sR w11 30 19 (some (gN (sR w10 30 18 (some (gN (sI (sR w9 30 16 (some (gN (sI (sI (sI (sI (sI (sI (sI (sR w8 30 8 (some (gN (sR w7 30 7 (some (gN (sR w6 30 6 (some (gN (sR w5 30 5 (some (gN (sR w4 30 4 (some (gN (sR w3 30 3 (some (gN (sR w2 30 2 (some (gN (sR w1 30 1 (some (gN (sI w 30 0 0))))))))))))))))))))))))) 30 9 (-1)) 30 10 0) 30 11 0) 30 12 0) 30 13 50) 30 14 0) 30 15 0)))) 30 17 0))))))))))))) 30 24 3)) (Int32.toNatClampNeg 4) 0) (gN (sI (sR w13 30 23 (some (gN (sR w12 30 22 (some (gN (sR w11 30 19 (some (gN (sR w10 30 18 (some (gN (sI (sR w9 30 16 (some (gN (sI (sI (sI (sI (sI (sI (sI (sR w8 30 8 (some (gN (sR w7 30 7 (some (gN (sR w6 30 6 (some (gN (sR w5 30 5 (some (gN (sR w4 30 4 (some (gN (sR w3 30 3 (some (gN (sR w2 30 2 (some (gN (sR w1 30 1 (some (gN (sI w 30 0 0))))))))))))))))))))))))) 30 9 (-1)) 30 10 0) 30 11 0) 30 12 0) 30 13 50) 30 14 0) 30 15 0)))) 30 17 0))))))))))))) 30 24 3))) = true then
                if ib 6 (gL (sI (sI (sI (sI (sI (sI w14 (gN (sI (sR w13 30 23 (some (gN (sR w12 30 22 (some (gN (sR w11 30 19 (some (gN (sR w10 30 18 (some (gN (sI (sR w9 30 16 (some (gN (sI (sI (sI (sI (sI (sI (sI (sR w8 30 8 (some (gN (sR w7 30 7 (some (gN (sR w6 30 6 (some (gN (sR w5 30 5 (some (gN (sR w4 30 4 (some (gN (sR w3 30 3 (some (gN (sR w2 30 2 (some (gN (sR w1 30 1 (some (gN (sI w 30 0 0))))))))))))))))))))))))) 30 9 (-1)) 30 10 0) 30 11 0) 30 12 0) 30 13 50) 30 14 0) 30 15 0)))) 30 17 0))))))))))))) 30 24 3)) (Int32.toNatClampNeg 0) 0) (gN (sI (sR w13 30 23 (some (gN (sR w12 30 22 (some (gN (sR w11 30 19 (some (gN (sR w10 30 18 (some (gN (sI (sR w9 30 16 (some (gN (sI (sI (sI (sI (sI (sI (sI (sR w8 30 8 (some (gN (sR w7 30 7 (some (gN (sR w6 30 6 (some (gN (sR w5 30 5 (some (gN (sR w4 30 4 (some (gN (sR w3 30 3 (some (gN (sR w2 30 2 (some (gN (sR w1 30 1 (some (gN (sI w 30 0 0))))))))))))))))))))))))) 30 9 (-1)) 30 10 0) 30 11 0) 30 12 0) 30 13 50) 30 14 0) 30 15 0)))) 30 17 0))))))))))))) 30 24 3)) (Int32.toNatClampNeg 1) 1) (gN (sI (sR w13 30 23 (some (gN (sR w12 30 22 (some (gN (sR w11 30 19 (some (gN (sR w10 30 18 (some (gN (sI (sR w9 30 16 (some (gN (sI (sI (sI (sI (sI (sI (sI (sR w8 30 8 (some (gN (sR w7 30 7 (some (gN (sR w6 30 6 (some (gN (sR w5 30 5 (some (gN (sR w4 30 4 (some (gN (sR w3 30 3 (some (gN (sR w2 30 2 (some (gN (sR w1 30 1 (some (gN (sI w 30 0 0))))))))))))))))))))))))) 30 9 (-1)) 30 10 0) 30 11 0) 30 12 0) 30 13 50) 30 14 0) 30 15 0)))) 30 17 0))))))))))))) 30 24 3)) (Int32.toNatClampNeg 2) 2) (gN (sI (sR w13 30 23 (some (gN (sR w12 30 22 (some (gN (sR w11 30 19 (some (gN (sR w10 30 18 (some (gN (sI (sR w9 30 16 (some (gN (sI (sI (sI (sI (sI (sI (sI (sR w8 30 8 (some (gN (sR w7 30 7 (some (gN (sR w6 30 6 (some (gN (sR w5 30 5 (some (gN (sR w4 30 4 (some (gN (sR w3 30 3 (some (gN (sR w2 30 2 (some (gN (sR w1 30 1 (some (gN (sI w 30 0 0))))))))))))))))))))))))) 30 9 (-1)) 30 10 0) 30 11 0) 30 12 0) 30 13 50) 30 14 0) 30 15 0)))) 30 17 0))))))))))))) 30 24 3)) (Int32.toNatClampNeg 3) 0) (gN (sI (sR w13 30 23 (some (gN (sR w12 30 22 (some (gN (sR w11 30 19 (some (gN (sR w10 30 18 (some (gN (sI (sR w9 30 16 (some (gN (sI (sI (sI (sI (sI (sI (sI (sR w8 30 8 (some (gN (sR w7 30 7 (some (gN (sR w6 30 6 (some (gN (sR w5 30 5 (some (gN (sR w4 30 4 (some (gN (sR w3 30 3 (some (gN (sR w2 30 2 (some (gN (sR w1 30 1 (some (gN (sI w 30 0 0))))))))))))))))))))))))) 30 9 (-1)) 30 10 0) 30 11 0) 30 12 0) 30 13 50) 30 14 0) 30 15 0)))) 30 17 0))))))))))))) 30 24 3)) (Int32.toNatClampNeg 4) 0) (gN (sI (sR w13 30 23 (some (gN (sR w12 30 22 (some (gN (sR w11 30 19 (some (gN (sR w10 30 18 (some (gN (sI (sR w9 30 16 (some (gN (sI (sI (sI (sI (sI (sI (sI (sR w8 30 8 (some (gN (sR w7 30 7 (some (gN (sR w6 30 6 (some (gN (sR w5 30 5 (some (gN (sR w4 30 4 (some (gN (sR w3 30 3 (some (gN (sR w2 30 2 (some (gN (sR w1 30 1 (some (gN (sI w 30 0 0))))))))))))))))))))))))) 30 9 (-1)) 30 10 0) 30 11 0) 30 12 0) 30 13 50) 30 14 0) 30 15 0)))) 30 17 0))))))))))))) 30 24 3)) (Int32.toNatClampNeg 5) 0) (gN (sI (sR w13 30 23 (some (gN (sR w12 30 22 (some (gN (sR w11 30 19 (some (gN (sR w10 30 18 (some (gN (sI (sR w9 30 16 (some (gN (sI (sI (sI (sI (sI (sI (sI (sR w8 30 8 (some (gN (sR w7 30 7 (some (gN (sR w6 30 6 (some (gN (sR w5 30 5 (some (gN (sR w4 30 4 (some (gN (sR w3 30 3 (some (gN (sR w2 30 2 (some (gN (sR w1 30 1 (some (gN (sI w 30 0 0))))))))))))))))))))))))) 30 9 (-1)) 30 10 0) 30 11 0) 30 12 0) 30 13 50) 30 14 0) 30 15 0)))) 30 17 0))))))))))))) 30 24 3))) = true then
                  if ib 7 (gL (sI (sI (sI (sI (sI (sI (sI w14 (gN (sI (sR w13 30 23 (some (gN (sR w12 30 22 (some (gN (sR w11 30 19 (some (gN (sR w10 30 18 (some (gN (sI (sR w9 30 16 (some (gN (sI (sI (sI (sI (sI (sI (sI (sR w8 30 8 (some (gN (sR w7 30 7 (some (gN (sR w6 30 6 (some (gN (sR w5 30 5 (some (gN (sR w4 30 4 (some (gN (sR w3 30 3 (some (gN (sR w2 30 2 (some (gN (sR w1 30 1 (some (gN (sI w 30 0 0))))))))))))))))))))))))) 30 9 (-1)) 30 10 0) 30 11 0) 30 12 0) 30 13 50) 30 14 0) 30 15 0)))) 30 17 0))))))))))))) 30 24 3)) (Int32.toNatClampNeg 0) 0) (gN (sI (sR w13 30 23 (some (gN (sR w12 30 22 (some (gN (sR w11 30 19 (some (gN (sR w10 30 18 (some (gN (sI (sR w9 30 16 (some (gN (sI (sI (sI (sI (sI (sI (sI (sR w8 30 8 (some (gN (sR w7 30 7 (some (gN (sR w6 30 6 (some (gN (sR w5 30 5 (some (gN (sR w4 30 4 (some (gN (sR w3 30 3 (some (gN (sR w2 30 2 (some (gN (sR w1 30 1 (some (gN (sI w 30 0 0))))))))))))))))))))))))) 30 9 (-1)) 30 10 0) 30 11 0) 30 12 0) 30 13 50) 30 14 0) 30 15 0)))) 30 17 0))))))))))))) 30 24 3)) (Int32.toNatClampNeg 1) 1) (gN (sI (sR w13 30 23 (some (gN (sR w12 30 22 (some (gN (sR w11 30 19 (some (gN (sR w10 30 18 (some (gN (sI (sR w9 30 16 (some (gN (sI (sI (sI (sI (sI (sI (sI (sR w8 30 8 (some (gN (sR w7 30 7 (some (gN (sR w6 30 6 (some (gN (sR w5 30 5 (some (gN (sR w4 30 4 (some (gN (sR w3 30 3 (some (gN (sR w2 30 2 (some (gN (sR w1 30 1 (some (gN (sI w 30 0 0))))))))))))))))))))))))) 30 9 (-1)) 30 10 0) 30 11 0) 30 12 0) 30 13 50) 30 14 0) 30 15 0)))) 30 17 0))))))))))))) 30 24 3)) (Int32.toNatClampNeg 2) 2) (gN (sI (sR w13 30 23 (some (gN (sR w12 30 22 (some (gN (sR w11 30 19 (some (gN (sR w10 30 18 (some (gN (sI (sR w9 30 16 (some (gN (sI (sI (sI (sI (sI (sI (sI (sR w8 30 8 (some (gN (sR w7 30 7 (some (gN (sR w6 30 6 (some (gN (sR w5 30 5 (some (gN (sR w4 30 4 (some (gN (sR w3 30 3 (some (gN (sR w2 30 2 (some (gN (sR w1 30 1 (some (gN (sI w 30 0 0))))))))))))))))))))))))) 30 9 (-1)) 30 10 0) 30 11 0) 30 12 0) 30 13 50) 30 14 0) 30 15 0)))) 30 17 0))))))))))))) 30 24 3)) (Int32.toNatClampNeg 3) 0) (gN (sI (sR w13 30 23 (some (gN (sR w12 30 22 (some (gN (sR w11 30 19 (some (gN (sR w10 30 18 (some (gN (sI (sR w9 30 16 (some (gN (sI (sI (sI (sI (sI (sI (sI (sR w8 30 8 (some (gN (sR w7 30 7 (some (gN (sR w6 30 6 (some (gN (sR w5 30 5 (some (gN (sR w4 30 4 (some (gN (sR w3 30 3 (some (gN (sR w2 30 2 (some (gN (sR w1 30 1 (some (gN (sI w 30 0 0))))))))))))))))))))))))) 30 9 (-1)) 30 10 0) 30 11 0) 30 12 0) 30 13 50) 30 14 0) 30 15 0)))) 30 17 0))))))))))))) 30 24 3)) (Int32.toNatClampNeg 4) 0) (gN (sI (sR w13 30 23 (some (gN (sR w12 30 22 (some (gN (sR w11 30 19 (some (gN (sR w10 30 18 (some (gN (sI (sR w9 30 16 (some (gN (sI (sI (sI (sI (sI (sI (sI (sR w8 30 8 (some (gN (sR w7 30 7 (some (gN (sR w6 30 6 (some (gN (sR w5 30 5 (some (gN (sR w4 30 4 (some (gN (sR w3 30 3 (some (gN (sR w2 30 2 (some (gN (sR w1 30 1 (some (gN (sI w 30 0 0))))))))))))))))))))))))) 30 9 (-1)) 30 10 0) 30 11 0) 30 12 0) 30 13 50) 30 14 0) 30 15 0)))) 30 17 0))))))))))))) 30 24 3)) (Int32.toNatClampNeg 5) 0) (gN (sI (sR w13 30 23 (some (gN (sR w12 30 22 (some (gN (sR w11 30 19 (some (gN (sR w10 30 18 (some (gN (sI (sR w9 30 16 (some (gN (sI (sI (sI (sI (sI (sI (sI (sR w8 30 8 (some (gN (sR w7 30 7 (some (gN (sR w6 30 6 (some (gN (sR w5 30 5 (some (gN (sR w4 30 4 (some (gN (sR w3 30 3 (some (gN (sR w2 30 2 (some (gN (sR w1 30 1 (some (gN (sI w 30 0 0))))))))))))))))))))))))) 30 9 (-1)) 30 10 0) 30 11 0) 30 12 0) 30 13 50) 30 14 0) 30 15 0)))) 30 17 0))))))))))))) 30 24 3)) (Int32.toNatClampNeg 6) 0) (gN (sI (sR w13 30 23 (some (gN (sR w12 30 22 (some (gN (sR w11 30 19 (some (gN (sR w10 30 18 (some (gN (sI (sR w9 30 16 (some (gN (sI (sI (sI (sI (sI (sI (sI (sR w8 30 8 (some (gN (sR w7 30 7 (some (gN (sR w6 30 6 (some (gN (sR w5 30 5 (some (gN (sR w4 30 4 (some (gN (sR w3 30 3 (some (gN (sR w2 30 2 (some (gN (sR w1 30 1 (some (gN (sI w 30 0 0))))))))))))))))))))))))) 30 9 (-1)) 30 10 0) 30 11 0) 30 12 0) 30 13 50) 30 14 0) 30 15 0)))) 30 17 0))))))))))))) 30 24 3))) = true then
                    (nwB (sR (sI (sI (sI (sI (sI (sI (sI (sI w14 (gN (sI (sR w13 30 23 (some (gN (sR w12 30 22 (some (gN (sR w11 30 19 (some (gN (sR w10 30 18 (some (gN (sI (sR w9 30 16 (some (gN (sI (sI (sI (sI (sI (sI (sI (sR w8 30 8 (some (gN (sR w7 30 7 (some (gN (sR w6 30 6 (some (gN (sR w5 30 5 (some (gN (sR w4 30 4 (some (gN (sR w3 30 3 (some (gN (sR w2 30 2 (some (gN (sR w1 30 1 (some (gN (sI w 30 0 0))))))))))))))))))))))))) 30 9 (-1)) 30 10 0) 30 11 0) 30 12 0) 30 13 50) 30 14 0) 30 15 0)))) 30 17 0))))))))))))) 30 24 3)) (Int32.toNatClampNeg 0) 0) (gN (sI (sR w13 30 23 (some (gN (sR w12 30 22 (some (gN (sR w11 30 19 (some (gN (sR w10 30 18 (some (gN (sI (sR w9 30 16 (some (gN (sI (sI (sI (sI (sI (sI (sI (sR w8 30 8 (some (gN (sR w7 30 7 (some (gN (sR w6 30 6 (some (gN (sR w5 30 5 (some (gN (sR w4 30 4 (some (gN (sR w3 30 3 (some (gN (sR w2 30 2 (some (gN (sR w1 30 1 (some (gN (sI w 30 0 0))))))))))))))))))))))))) 30 9 (-1)) 30 10 0) 30 11 0) 30 12 0) 30 13 50) 30 14 0) 30 15 0)))) 30 17 0))))))))))))) 30 24 3)) (Int32.toNatClampNeg 1) 1) (gN (sI (sR w13 30 23 (some (gN (sR w12 30 22 (some (gN (sR w11 30 19 (some (gN (sR w10 30 18 (some (gN (sI (sR w9 30 16 (some (gN (sI (sI (sI (sI (sI (sI (sI (sR w8 30 8 (some (gN (sR w7 30 7 (some (gN (sR w6 30 6 (some (gN (sR w5 30 5 (some (gN (sR w4 30 4 (some (gN (sR w3 30 3 (some (gN (sR w2 30 2 (some (gN (sR w1 30 1 (some (gN (sI w 30 0 0))))))))))))))))))))))))) 30 9 (-1)) 30 10 0) 30 11 0) 30 12 0) 30 13 50) 30 14 0) 30 15 0)))) 30 17 0))))))))))))) 30 24 3)) (Int32.toNatClampNeg 2) 2) (gN (sI (sR w13 30 23 (some (gN (sR w12 30 22 (some (gN (sR w11 30 19 (some (gN (sR w10 30 18 (some (gN (sI (sR w9 30 16 (some (gN (sI (sI (sI (sI (sI (sI (sI (sR w8 30 8 (some (gN (sR w7 30 7 (some (gN (sR w6 30 6 (some (gN (sR w5 30 5 (some (gN (sR w4 30 4 (some (gN (sR w3 30 3 (some (gN (sR w2 30 2 (some (gN (sR w1 30 1 (some (gN (sI w 30 0 0))))))))))))))))))))))))) 30 9 (-1)) 30 10 0) 30 11 0) 30 12 0) 30 13 50) 30 14 0) 30 15 0)))) 30 17 0))))))))))))) 30 24 3)) (Int32.toNatClampNeg 3) 0) (gN (sI (sR w13 30 23 (some (gN (sR w12 30 22 (some (gN (sR w11 30 19 (some (gN (sR w10 30 18 (some (gN (sI (sR w9 30 16 (some (gN (sI (sI (sI (sI (sI (sI (sI (sR w8 30 8 (some (gN (sR w7 30 7 (some (gN (sR w6 30 6 (some (gN (sR w5 30 5 (some (gN (sR w4 30 4 (some (gN (sR w3 30 3 (some (gN (sR w2 30 2 (some (gN (sR w1 30 1 (some (gN (sI w 30 0 0))))))))))))))))))))))))) 30 9 (-1)) 30 10 0) 30 11 0) 30 12 0) 30 13 50) 30 14 0) 30 15 0)))) 30 17 0))))))))))))) 30 24 3)) (Int32.toNatClampNeg 4) 0) (gN (sI (sR w13 30 23 (some (gN (sR w12 30 22 (some (gN (sR w11 30 19 (some (gN (sR w10 30 18 (some (gN (sI (sR w9 30 16 (some (gN (sI (sI (sI (sI (sI (sI (sI (sR w8 30 8 (some (gN (sR w7 30 7 (some (gN (sR w6 30 6 (some (gN (sR w5 30 5 (some (gN (sR w4 30 4 (some (gN (sR w3 30 3 (some (gN (sR w2 30 2 (some (gN (sR w1 30 1 (some (gN (sI w 30 0 0))))))))))))))))))))))))) 30 9 (-1)) 30 10 0) 30 11 0) 30 12 0) 30 13 50) 30 14 0) 30 15 0)))) 30 17 0))))))))))))) 30 24 3)) (Int32.toNatClampNeg 5) 0) (gN (sI (sR w13 30 23 (some (gN (sR w12 30 22 (some (gN (sR w11 30 19 (some (gN (sR w10 30 18 (some (gN (sI (sR w9 30 16 (some (gN (sI (sI (sI (sI (sI (sI (sI (sR w8 30 8 (some (gN (sR w7 30 7 (some (gN (sR w6 30 6 (some (gN (sR w5 30 5 (some (gN (sR w4 30 4 (some (gN (sR w3 30 3 (some (gN (sR w2 30 2 (some (gN (sR w1 30 1 (some (gN (sI w 30 0 0))))))))))))))))))))))))) 30 9 (-1)) 30 10 0) 30 11 0) 30 12 0) 30 13 50) 30 14 0) 30 15 0)))) 30 17 0))))))))))))) 30 24 3)) (Int32.toNatClampNeg 6) 0) (gN (sI (sR w13 30 23 (some (gN (sR w12 30 22 (some (gN (sR w11 30 19 (some (gN (sR w10 30 18 (some (gN (sI (sR w9 30 16 (some (gN (sI (sI (sI (sI (sI (sI (sI (sR w8 30 8 (some (gN (sR w7 30 7 (some (gN (sR w6 30 6 (some (gN (sR w5 30 5 (some (gN (sR w4 30 4 (some (gN (sR w3 30 3 (some (gN (sR w2 30 2 (some (gN (sR w1 30 1 (some (gN (sI w 30 0 0))))))))))))))))))))))))) 30 9 (-1)) 30 10 0) 30 11 0) 30 12 0) 30 13 50) 30 14 0) 30 15 0)))) 30 17 0))))))))))))) 30 24 3)) (Int32.toNatClampNeg 7) 0) 30 25 (some (gN (sI (sR w13 30 23 (some (gN (sR w12 30 22 (some (gN (sR w11 30 19 (some (gN (sR w10 30 18 (some (gN (sI (sR w9 30 16 (some (gN (sI (sI (sI (sI (sI (sI (sI (sR w8 30 8 (some (gN (sR w7 30 7 (some (gN (sR w6 30 6 (some (gN (sR w5 30 5 (some (gN (sR w4 30 4 (some (gN (sR w3 30 3 (some (gN (sR w2 30 2 (some (gN (sR w1 30 1 (some (gN (sI w 30 0 0))))))))))))))))))))))))) 30 9 (-1)) 30 10 0) 30 11 0) 30 12 0) 30 13 50) 30 14 0) 30 15 0)))) 30 17 0))))))))))))) 30 24 3)))) 10 8 8).bind fun w23 =>
                    (nwB (sR w23 30 26 (some (gN (sR (sI (sI (sI (sI (sI (sI (sI (sI w14 (gN (sI (sR w13 30 23 (some (gN (sR w12 30 22 (some (gN (sR w11 30 19 (some (gN (sR w10 30 18 (some (gN (sI (sR w9 30 16 (some (gN (sI (sI (sI (sI (sI (sI (sI (sR w8 30 8 (some (gN (sR w7 30 7 (some (gN (sR w6 30 6 (some (gN (sR w5 30 5 (some (gN (sR w4 30 4 (some (gN (sR w3 30 3 (some (gN (sR w2 30 2 (some (gN (sR w1 30 1 (some (gN (sI w 30 0 0))))))))))))))))))))))))) 30 9 (-1)) 30 10 0) 30 11 0) 30 12 0) 30 13 50) 30 14 0) 30 15 0)))) 30 17 0))))))))))))) 30 24 3)) (Int32.toNatClampNeg 0) 0) (gN (sI (sR w13 30 23 (some (gN (sR w12 30 22 (some (gN (sR w11 30 19 (some (gN (sR w10 30 18 (some (gN (sI (sR w9 30 16 (some (gN (sI (sI (sI (sI (sI (sI (sI (sR w8 30 8 (some (gN (sR w7 30 7 (some (gN (sR w6 30 6 (some (gN (sR w5 30 5 (some (gN (sR w4 30 4 (some (gN (sR w3 30 3 (some (gN (sR w2 30 2 (some (gN (sR w1 30 1 (some (gN (sI w 30 0 0))))))))))))))))))))))))) 30 9 (-1)) 30 10 0) 30 11 0) 30 12 0) 30 13 50) 30 14 0) 30 15 0)))) 30 17 0))))))))))))) 30 24 3)) (Int32.toNatClampNeg 1) 1) (gN (sI (sR w13 30 23 (some (gN (sR w12 30 22 (some (gN (sR w11 30 19 (some (gN (sR w10 30 18 (some (gN (sI (sR w9 30 16 (some (gN (sI (sI (sI (sI (sI (sI (sI (sR w8 30 8 (some (gN (sR w7 30 7 (some (gN (sR w6 30 6 (some (gN (sR w5 30 5 (some (gN (sR w4 30 4 (some (gN (sR w3 30 3 (some (gN (sR w2 30 2 (some (gN (sR w1 30 1 (some (gN (sI w 30 0 0))))))))))))))))))))))))) 30 9 (-1)) 30 10 0) 30 11 0) 30 12 0) 30 13 50) 30 14 0) 30 15 0)))) 30 17 0))))))))))))) 30 24 3)) (Int32.toNatClampNeg 2) 2) (gN (sI (sR w13 30 23 (some (gN (sR w12 30 22 (some (gN (sR w11 30 19 (some (gN (sR w10 30 18 (some (gN (sI (sR w9 30 16 (some (gN (sI (sI (sI (sI (sI (sI (sI (sR w8 30 8 (some (gN (sR w7 30 7 (some (gN (sR w6 30 6 (some (gN (sR w5 30 5 (some (gN (sR w4 30 4 (some (gN (sR w3 30 3 (some (gN (sR w2 30 2 (some (gN (sR w1 30 1 (some (gN (sI w 30 0 0))))))))))))))))))))))))) 30 9 (-1)) 30 10 0) 30 11 0) 30 12 0) 30 13 50) 30 14 0) 30 15 0)))) 30 17 0))))))))))))) 30 24 3)) (Int32.toNatClampNeg 3) 0) (gN (sI (sR w13 30 23 (some (gN (sR w12 30 22 (some (gN (sR w11 30 19 (some (gN (sR w10 30 18 (some (gN (sI (sR w9 30 16 (some (gN (sI (sI (sI (sI (sI (sI (sI (sR w8 30 8 (some (gN (sR w7 30 7 (some (gN (sR w6 30 6 (some (gN (sR w5 30 5 (some (gN (sR w4 30 4 (some (gN (sR w3 30 3 (some (gN (sR w2 30 2 (some (gN (sR w1 30 1 (some (gN (sI w 30 0 0))))))))))))))))))))))))) 30 9 (-1)) 30 10 0) 30 11 0) 30 12 0) 30 13 50) 30 14 0) 30 15 0)))) 30 17 0))))))))))))) 30 24 3)) (Int32.toNatClampNeg 4) 0) (gN (sI (sR w13 30 23 (some (gN (sR w12 30 22 (some (gN (sR w11 30 19 (some (gN (sR w10 30 18 (some (gN (sI (sR w9 30 16 (some (gN (sI (sI (sI (sI (sI (sI (sI (sR w8 30 8 (some (gN (sR w7 30 7 (some (gN (sR w6 30 6 (some (gN (sR w5 30 5 (some (gN (sR w4 30 4 (some (gN (sR w3 30 3 (some (gN (sR w2 30 2 (some (gN (sR w1 30 1 (some (gN (sI w 30 0 0))))))))))))))))))))))))) 30 9 (-1)) 30 10 0) 30 11 0) 30 12 0) 30 13 50) 30 14 0) 30 15 0)))) 30 17 0))))))))))))) 30 24 3)) (Int32.toNatClampNeg 5) 0) (gN (sI (sR w13 30 23 (some (gN (sR w12 30 22 (some (gN (sR w11 30 19 (some (gN (sR w10 30 18 (some (gN (sI (sR w9 30 16 (some (gN (sI (sI (sI (sI (sI (sI (sI (sR w8 30 8 (some (gN (sR w7 30 7 (some (gN (sR w6 30 6 (some (gN (sR w5 30 5 (some (gN (sR w4 30 4 (some (gN (sR w3 30 3 (some (gN (sR w2 30 2 (some (gN (sR w1 30 1 (some (gN (sI w 30 0 0))))))))))))))))))))))))) 30 9 (-1)) 30 10 0) 30 11 0) 30 12 0) 30 13 50) 30 14 0) 30 15 0)))) 30 17 0))))))))))))) 30 24 3)) (Int32.toNatClampNeg 6) 0) (gN (sI (sR w13 30 23 (some (gN (sR w12 30 22 (some (gN (sR w11 30 19 (some (gN (sR w10 30 18 (some (gN (sI (sR w9 30 16 (some (gN (sI (sI (sI (sI (sI (sI (sI (sR w8 30 8 (some (gN (sR w7 30 7 (some (gN (sR w6 30 6 (some (gN (sR w5 30 5 (some (gN (sR w4 30 4 (some (gN (sR w3 30 3 (some (gN (sR w2 30 2 (some (gN (sR w1 30 1 (some (gN (sI w 30 0 0))))))))))))))))))))))))) 30 9 (-1)) 30 10 0) 30 11 0) 30 12 0) 30 13 50) 30 14 0) 30 15 0)))) 30 17 0))))))))))))) 30 24 3)) (Int32.toNatClampNeg 7) 0) 30 25 (some (gN (sI (sR w13 30 23 (some (gN (sR w12 30 22 (some (gN (sR w11 30 19 (some (gN (sR w10 30 18 (some (gN (sI (sR w9 30 16 (some (gN (sI (sI (sI (sI (sI (sI (sI (sR w8 30 8 (some (gN (sR w7 30 7 (some (gN (sR w6 30 6 (some (gN (sR w5 30 5 (some (gN (sR w4 30 4 (some (gN (sR w3 30 3 (some (gN (sR w2 30 2 (some (gN (sR w1 30 1 (some (gN (sI w 30 0 0))))))))))))))))))))))))) 30 9 (-1)) 30 10 0) 30 11 0) 30 12 0) 30 13 50) 30 14 0) 30 15 0)))) 30 17 0))))))))))))) 30 24 3))))))) 10 8 8).bind fun w24 =>
                    (nwB (sR w24 30 27 (some (gN (sR w23 30 26 (some (gN (sR (sI (sI (sI (sI (sI (sI (sI (sI w14 (gN (sI (sR w13 30 23 (some (gN (sR w12 30 22 (some (gN (sR w11 30 19 (some (gN (sR w10 30 18 (some (gN (sI (sR w9 30 16 (some (gN (sI (sI (sI (sI (sI (sI (sI (sR w8 30 8 (some (gN (sR w7 30 7 (some (gN (sR w6 30 6 (some (gN (sR w5 30 5 (some (gN (sR w4 30 4 (some (gN (sR w3 30 3 (some (gN (sR w2 30 2 (some (gN (sR w1 30 1 (some (gN (sI w 30 0 0))))))))))))))))))))))))) 30 9 (-1)) 30 10 0) 30 11 0) 30 12 0) 30 13 50) 30 14 0) 30 15 0)))) 30 17 0))))))))))))) 30 24 3)) (Int32.toNatClampNeg 0) 0) (gN (sI (sR w13 30 23 (some (gN (sR w12 30 22 (some (gN (sR w11 30 19 (some (gN (sR w10 30 18 (some (gN (sI (sR w9 30 16 (some (gN (sI (sI (sI (sI (sI (sI (sI (sR w8 30 8 (some (gN (sR w7 30 7 (some (gN (sR w6 30 6 (some (gN (sR w5 30 5 (some (gN (sR w4 30 4 (some (gN (sR w3 30 3 (some (gN (sR w2 30 2 (some (gN (sR w1 30 1 (some (gN (sI w 30 0 0))))))))))))))))))))))))) 30 9 (-1)) 30 10 0) 30 11 0) 30 12 0) 30 13 50) 30 14 0) 30 15 0)))) 30 17 0))))))))))))) 30 24 3)) (Int32.toNatClampNeg 1) 1) (gN (sI (sR w13 30 23 (some (gN (sR w12 30 22 (some (gN (sR w11 30 19 (some (gN (sR w10 30 18 (some (gN (sI (sR w9 30 16 (some (gN (sI (sI (sI (sI (sI (sI (sI (sR w8 30 8 (some (gN (sR w7 30 7 (some (gN (sR w6 30 6 (some (gN (sR w5 30 5 (some (gN (sR w4 30 4 (some (gN (sR w3 30 3 (some (gN (sR w2 30 2 (some (gN (sR w1 30 1 (some (gN (sI w 30 0 0))))))))))))))))))))))))) 30 9 (-1)) 30 10 0) 30 11 0) 30 12 0) 30 13 50) 30 14 0) 30 15 0)))) 30 17 0))))))))))))) 30 24 3)) (Int32.toNatClampNeg 2) 2) (gN (sI (sR w13 30 23 (some (gN (sR w12 30 22 (some (gN (sR w11 30 19 (some (gN (sR w10 30 18 (some (gN (sI (sR w9 30 16 (some (gN (sI (sI (sI (sI (sI (sI (sI (sR w8 30 8 (some (gN (sR w7 30 7 (some (gN (sR w6 30 6 (some (gN (sR w5 30 5 (some (gN (sR w4 30 4 (some (gN (sR w3 30 3 (some (gN (sR w2 30 2 (some (gN (sR w1 30 1 (some (gN (sI w 30 0 0))))))))))))))))))))))))) 30 9 (-1)) 30 10 0) 30 11 0) 30 12 0) 30 13 50) 30 14 0) 30 15 0)))) 30 17 0))))))))))))) 30 24 3)) (Int32.toNatClampNeg 3) 0) (gN (sI (sR w13 30 23 (some (gN (sR w12 30 22 (some (gN (sR w11 30 19 (some (gN (sR w10 30 18 (some (gN (sI (sR w9 30 16 (some (gN (sI (sI (sI (sI (sI (sI (sI (sR w8 30 8 (some (gN (sR w7 30 7 (some (gN (sR w6 30 6 (some (gN (sR w5 30 5 (some (gN (sR w4 30 4 (some (gN (sR w3 30 3 (some (gN (sR w2 30 2 (some (gN (sR w1 30 1 (some (gN (sI w 30 0 0))))))))))))))))))))))))) 30 9 (-1)) 30 10 0) 30 11 0) 30 12 0) 30 13 50) 30 14 0) 30 15 0)))) 30 17 0))))))))))))) 30 24 3)) (Int32.toNatClampNeg 4) 0) (gN (sI (sR w13 30 23 (some (gN (sR w12 30 22 (some (gN (sR w11 30 19 (some (gN (sR w10 30 18 (some (gN (sI (sR w9 30 16 (some (gN (sI (sI (sI (sI (sI (sI (sI (sR w8 30 8 (some (gN (sR w7 30 7 (some (gN (sR w6 30 6 (some (gN (sR w5 30 5 (some (gN (sR w4 30 4 (some (gN (sR w3 30 3 (some (gN (sR w2 30 2 (some (gN (sR w1 30 1 (some (gN (sI w 30 0 0))))))))))))))))))))))))) 30 9 (-1)) 30 10 0) 30 11 0) 30 12 0) 30 13 50) 30 14 0) 30 15 0)))) 30 17 0))))))))))))) 30 24 3)) (Int32.toNatClampNeg 5) 0) (gN (sI (sR w13 30 23 (some (gN (sR w12 30 22 (some (gN (sR w11 30 19 (some (gN (sR w10 30 18 (some (gN (sI (sR w9 30 16 (some (gN (sI (sI (sI (sI (sI (sI (sI (sR w8 30 8 (some (gN (sR w7 30 7 (some (gN (sR w6 30 6 (some (gN (sR w5 30 5 (some (gN (sR w4 30 4 (some (gN (sR w3 30 3 (some (gN (sR w2 30 2 (some (gN (sR w1 30 1 (some (gN (sI w 30 0 0))))))))))))))))))))))))) 30 9 (-1)) 30 10 0) 30 11 0) 30 12 0) 30 13 50) 30 14 0) 30 15 0)))) 30 17 0))))))))))))) 30 24 3)) (Int32.toNatClampNeg 6) 0) (gN (sI (sR w13 30 23 (some (gN (sR w12 30 22 (some (gN (sR w11 30 19 (some (gN (sR w10 30 18 (some (gN (sI (sR w9 30 16 (some (gN (sI (sI (sI (sI (sI (sI (sI (sR w8 30 8 (some (gN (sR w7 30 7 (some (gN (sR w6 30 6 (some (gN (sR w5 30 5 (some (gN (sR w4 30 4 (some (gN (sR w3 30 3 (some (gN (sR w2 30 2 (some (gN (sR w1 30 1 (some (gN (sI w 30 0 0))))))))))))))))))))))))) 30 9 (-1)) 30 10 0) 30 11 0) 30 12 0) 30 13 50) 30 14 0) 30 15 0)))) 30 17 0))))))))))))) 30 24 3)) (Int32.toNatClampNeg 7) 0) 30 25 (some (gN (sI (sR w13 30 23 (some (gN (sR w12 30 22 (some (gN (sR w11 30 19 (some (gN (sR w10 30 18 (some (gN (sI (sR w9 30 16 (some (gN (sI (sI (sI (sI (sI (sI (sI (sR w8 30 8 (some (gN (sR w7 30 7 (some (gN (sR w6 30 6 (some (gN (sR w5 30 5 (some (gN (sR w4 30 4 (some (gN (sR w3 30 3 (some (gN (sR w2 30 2 (some (gN (sR w1 30 1 (some (gN (sI w 30 0 0))))))))))))))))))))))))) 30 9 (-1)) 30 10 0) 30 11 0) 30 12 0) 30 13 50) 30 14 0) 30 15 0)))) 30 17 0))))))))))))) 30 24 3)))))))))) 10 8 8).bind fun w25 =>
                    (nwB (sR w25 30 28 (some (gN (sR w24 30 27 (some (gN (sR w23 30 26 (some (gN (sR (sI (sI (sI (sI (sI (sI (sI (sI w14 (gN (sI (sR w13 30 23 (some (gN (sR w12 30 22 (some (gN (sR w11 30 19 (some (gN (sR w10 30 18 (some (gN (sI (sR w9 30 16 (some (gN (sI (sI (sI (sI (sI (sI (sI (sR w8 30 8 (some (gN (sR w7 30 7 (some (gN (sR w6 30 6 (some (gN (sR w5 30 5 (some (gN (sR w4 30 4 (some (gN (sR w3 30 3 (some (gN (sR w2 30 2 (some (gN (sR w1 30 1 (some (gN (sI w 30 0 0))))))))))))))))))))))))) 30 9 (-1)) 30 10 0) 30 11 0) 30 12 0) 30 13 50) 30 14 0) 30 15 0)))) 30 17 0))))))))))))) 30 24 3)) (Int32.toNatClampNeg 0) 0) (gN (sI (sR w13 30 23 (some (gN (sR w12 30 22 (some (gN (sR w11 30 19 (some (gN (sR w10 30 18 (some (gN (sI (sR w9 30 16 (some (gN (sI (sI (sI (sI (sI (sI (sI (sR w8 30 8 (some (gN (sR w7 30 7 (some (gN (sR w6 30 6 (some (gN (sR w5 30 5 (some (gN (sR w4 30 4 (some (gN (sR w3 30 3 (some (gN (sR w2 30 2 (some (gN (sR w1 30 1 (some (gN (sI w 30 0 0))))))))))))))))))))))))) 30 9 (-1)) 30 10 0) 30 11 0) 30 12 0) 30 13 50) 30 14 0) 30 15 0)))) 30 17 0))))))))))))) 30 24 3)) (Int32.toNatClampNeg 1) 1) (gN (sI (sR w13 30 23 (some (gN (sR w12 30 22 (some (gN (sR w11 30 19 (some (gN (sR w10 30 18 (some (gN (sI (sR w9 30 16 (some (gN (sI (sI (sI (sI (sI (sI (sI (sR w8 30 8 (some (gN (sR w7 30 7 (some (gN (sR w6 30 6 (some (gN (sR w5 30 5 (some (gN (sR w4 30 4 (some (gN (sR w3 30 3 (some (gN (sR w2 30 2 (some (gN (sR w1 30 1 (some (gN (sI w 30 0 0))))))))))))))))))))))))) 30 9 (-1)) 30 10 0) 30 11 0) 30 12 0) 30 13 50) 30 14 0) 30 15 0)))) 30 17 0))))))))))))) 30 24 3)) (Int32.toNatClampNeg 2) 2) (gN (sI (sR w13 30 23 (some (gN (sR w12 30 22 (some (gN (sR w11 30 19 (some (gN (sR w10 30 18 (some (gN (sI (sR w9 30 16 (some (gN (sI (sI (sI (sI (sI (sI (sI (sR w8 30 8 (some (gN (sR w7 30 7 (some (gN (sR w6 30 6 (some (gN (sR w5 30 5 (some (gN (sR w4 30 4 (some (gN (sR w3 30 3 (some (gN (sR w2 30 2 (some (gN (sR w1 30 1 (some (gN (sI w 30 0 0))))))))))))))))))))))))) 30 9 (-1)) 30 10 0) 30 11 0) 30 12 0) 30 13 50) 30 14 0) 30 15 0)))) 30 17 0))))))))))))) 30 24 3)) (Int32.toNatClampNeg 3) 0) (gN (sI (sR w13 30 23 (some (gN (sR w12 30 22 (some (gN (sR w11 30 19 (some (gN (sR w10 30 18 (some (gN (sI (sR w9 30 16 (some (gN (sI (sI (sI (sI (sI (sI (sI (sR w8 30 8 (some (gN (sR w7 30 7 (some (gN (sR w6 30 6 (some (gN (sR w5 30 5 (some (gN (sR w4 30 4 (some (gN (sR w3 30 3 (some (gN (sR w2 30 2 (some (gN (sR w1 30 1 (some (gN (sI w 30 0 0))))))))))))))))))))))))) 30 9 (-1)) 30 10 0) 30 11 0) 30 12 0) 30 13 50) 30 14 0) 30 15 0)))) 30 17 0))))))))))))) 30 24 3)) (Int32.toNatClampNeg 4) 0) (gN (sI (sR w13 30 23 (some (gN (sR w12 30 22 (some (gN (sR w11 30 19 (some (gN (sR w10 30 18 (some (gN (sI (sR w9 30 16 (some (gN (sI (sI (sI (sI (sI (sI (sI (sR w8 30 8 (some (gN (sR w7 30 7 (some (gN (sR w6 30 6 (some (gN (sR w5 30 5 (some (gN (sR w4 30 4 (some (gN (sR w3 30 3 (some (gN (sR w2 30 2 (some (gN (sR w1 30 1 (some (gN (sI w 30 0 0))))))))))))))))))))))))) 30 9 (-1)) 30 10 0) 30 11 0) 30 12 0) 30 13 50) 30 14 0) 30 15 0)))) 30 17 0))))))))))))) 30 24 3)) (Int32.toNatClampNeg 5) 0) (gN (sI (sR w13 30 23 (some (gN (sR w12 30 22 (some (gN (sR w11 30 19 (some (gN (sR w10 30 18 (some (gN (sI (sR w9 30 16 (some (gN (sI (sI (sI (sI (sI (sI (sI (sR w8 30 8 (some (gN (sR w7 30 7 (some (gN (sR w6 30 6 (some (gN (sR w5 30 5 (some (gN (sR w4 30 4 (some (gN (sR w3 30 3 (some (gN (sR w2 30 2 (some (gN (sR w1 30 1 (some (gN (sI w 30 0 0))))))))))))))))))))))))) 30 9 (-1)) 30 10 0) 30 11 0) 30 12 0) 30 13 50) 30 14 0) 30 15 0)))) 30 17 0))))))))))))) 30 24 3)) (Int32.toNatClampNeg 6) 0) (gN (sI (sR w13 30 23 (some (gN (sR w12 30 22 (some (gN (sR w11 30 19 (some (gN (sR w10 30 18 (some (gN (sI (sR w9 30 16 (some (gN (sI (sI (sI (sI (sI (sI (sI (sR w8 30 8 (some (gN (sR w7 30 7 (some (gN (sR w6 30 6 (some (gN (sR w5 30 5 (some (gN (sR w4 30 4 (some (gN (sR w3 30 3 (some (gN (sR w2 30 2 (some (gN (sR w1 30 1 (some (gN (sI w 30 0 0))))))))))))))))))))))))) 30 9 (-1)) 30 10 0) 30 11 0) 30 12 0) 30 13 50) 30 14 0) 30 15 0)))) 30 17 0))))))))))))) 30 24 3)) (Int32.toNatClampNeg 7) 0) 30 25 (some (gN (sI (sR w13 30 23 (some (gN (sR w12 30 22 (some (gN (sR w11 30 19 (some (gN (sR w10 30 18 (some (gN (sI (sR w9 30 16 (some (gN (sI (sI (sI (sI (sI (sI (sI (sR w8 30 8 (some (gN (sR w7 30 7 (some (gN (sR w6 30 6 (some (gN (sR w5 30 5 (some (gN (sR w4 30 4 (some (gN (sR w3 30 3 (some (gN (sR w2 30 2 (some (gN (sR w1 30 1 (some (gN (sI w 30 0 0))))))))))))))))))))))))) 30 9 (-1)) 30 10 0) 30 11 0) 30 12 0) 30 13 50) 30 14 0) 30 15 0)))) 30 17 0))))))))))))) 30 24 3))))))))))))) 10 8 8).bind fun w26 =>
                    (nwB (sR w26 30 29 (some (gN (sR w25 30 28 (some (gN (sR w24 30 27 (some (gN (sR w23 30 26 (some (gN (sR (sI (sI (sI (sI (sI (sI (sI (sI w14 (gN (sI (sR w13 30 23 (some (gN (sR w12 30 22 (some (gN (sR w11 30 19 (some (gN (sR w10 30 18 (some (gN (sI (sR w9 30 16 (some (gN (sI (sI (sI (sI (sI (sI (sI (sR w8 30 8 (some (gN (sR w7 30 7 (some (gN (sR w6 30 6 (some (gN (sR w5 30 5 (some (gN (sR w4 30 4 (some (gN (sR w3 30 3 (some (gN (sR w2 30 2 (some (gN (sR w1 30 1 (some (gN (sI w 30 0 0))))))))))))))))))))))))) 30 9 (-1)) 30 10 0) 30 11 0) 30 12 0) 30 13 50) 30 14 0) 30 15 0)))) 30 17 0))))))))))))) 30 24 3)) (Int32.toNatClampNeg 0) 0) (gN (sI (sR w13 30 23 (some (gN (sR w12 30 22 (some (gN (sR w11 30 19 (some (gN (sR w10 30 18 (some (gN (sI (sR w9 30 16 (some (gN (sI (sI (sI (sI (sI (sI (sI (sR w8 30 8 (some (gN (sR w7 30 7 (some (gN (sR w6 30 6 (some (gN (sR w5 30 5 (some (gN (sR w4 30 4 (some (gN (sR w3 30 3 (some (gN (sR w2 30 2 (some (gN (sR w1 30 1 (some (gN (sI w 30 0 0))))))))))))))))))))))))) 30 9 (-1)) 30 10 0) 30 11 0) 30 12 0) 30 13 50) 30 14 0) 30 15 0)))) 30 17 0))))))))))))) 30 24 3)) (Int32.toNatClampNeg 1) 1) (gN (sI (sR w13 30 23 (some (gN (sR w12 30 22 (some (gN (sR w11 30 19 (some (gN (sR w10 30 18 (some (gN (sI (sR w9 30 16 (some (gN (sI (sI (sI (sI (sI (sI (sI (sR w8 30 8 (some (gN (sR w7 30 7 (some (gN (sR w6 30 6 (some (gN (sR w5 30 5 (some (gN (sR w4 30 4 (some (gN (sR w3 30 3 (some (gN (sR w2 30 2 (some (gN (sR w1 30 1 (some (gN (sI w 30 0 0))))))))))))))))))))))))) 30 9 (-1)) 30 10 0) 30 11 0) 30 12 0) 30 13 50) 30 14 0) 30 15 0)))) 30 17 0))))))))))))) 30 24 3)) (Int32.toNatClampNeg 2) 2) (gN (sI (sR w13 30 23 (some (gN (sR w12 30 22 (some (gN (sR w11 30 19 (some (gN (sR w10 30 18 (some (gN (sI (sR w9 30 16 (some (gN (sI (sI (sI (sI (sI (sI (sI (sR w8 30 8 (some (gN (sR w7 30 7 (some (gN (sR w6 30 6 (some (gN (sR w5 30 5 (some (gN (sR w4 30 4 (some (gN (sR w3 30 3 (some (gN (sR w2 30 2 (some (gN (sR w1 30 1 (some (gN (sI w 30 0 0))))))))))))))))))))))))) 30 9 (-1)) 30 10 0) 30 11 0) 30 12 0) 30 13 50) 30 14 0) 30 15 0)))) 30 17 0))))))))))))) 30 24 3)) (Int32.toNatClampNeg 3) 0) (gN (sI (sR w13 30 23 (some (gN (sR w12 30 22 (some (gN (sR w11 30 19 (some (gN (sR w10 30 18 (some (gN (sI (sR w9 30 16 (some (gN (sI (sI (sI (sI (sI (sI (sI (sR w8 30 8 (some (gN (sR w7 30 7 (some (gN (sR w6 30 6 (some (gN (sR w5 30 5 (some (gN (sR w4 30 4 (some (gN (sR w3 30 3 (some (gN (sR w2 30 2 (some (gN (sR w1 30 1 (some (gN (sI w 30 0 0))))))))))))))))))))))))) 30 9 (-1)) 30 10 0) 30 11 0) 30 12 0) 30 13 50) 30 14 0) 30 15 0)))) 30 17 0))))))))))))) 30 24 3)) (Int32.toNatClampNeg 4) 0) (gN (sI (sR w13 30 23 (some (gN (sR w12 30 22 (some (gN (sR w11 30 19 (some (gN (sR w10 30 18 (some (gN (sI (sR w9 30 16 (some (gN (sI (sI (sI (sI (sI (sI (sI (sR w8 30 8 (some (gN (sR w7 30 7 (some (gN (sR w6 30 6 (some (gN (sR w5 30 5 (some (gN (sR w4 30 4 (some (gN (sR w3 30 3 (some (gN (sR w2 30 2 (some (gN (sR w1 30 1 (some (gN (sI w 30 0 0))))))))))))))))))))))))) 30 9 (-1)) 30 10 0) 30 11 0) 30 12 0) 30 13 50) 30 14 0) 30 15 0)))) 30 17 0))))))))))))) 30 24 3)) (Int32.toNatClampNeg 5) 0) (gN (sI (sR w13 30 23 (some (gN (sR w12 30 22 (some (gN (sR w11 30 19 (some (gN (sR w10 30 18 (some (gN (sI (sR w9 30 16 (some (gN (sI (sI (sI (sI (sI (sI (sI (sR w8 30 8 (some (gN (sR w7 30 7 (some (gN (sR w6 30 6 (some (gN (sR w5 30 5 (some (gN (sR w4 30 4 (some (gN (sR w3 30 3 (some (gN (sR w2 30 2 (some (gN (sR w1 30 1 (some (gN (sI w 30 0 0))))))))))))))))))))))))) 30 9 (-1)) 30 10 0) 30 11 0) 30 12 0) 30 13 50) 30 14 0) 30 15 0)))) 30 17 0))))))))))))) 30 24 3)) (Int32.toNatClampNeg 6) 0) (gN (sI (sR w13 30 23 (some (gN (sR w12 30 22 (some (gN (sR w11 30 19 (some (gN (sR w10 30 18 (some (gN (sI (sR w9 30 16 (some (gN (sI (sI (sI (sI (sI (sI (sI (sR w8 30 8 (some (gN (sR w7 30 7 (some (gN (sR w6 30 6 (some (gN (sR w5 30 5 (some (gN (sR w4 30 4 (some (gN (sR w3 30 3 (some (gN (sR w2 30 2 (some (gN (sR w1 30 1 (some (gN (sI w 30 0 0))))))))))))))))))))))))) 30 9 (-1)) 30 10 0) 30 11 0) 30 12 0) 30 13 50) 30 14 0) 30 15 0)))) 30 17 0))))))))))))) 30 24 3)) (Int32.toNatClampNeg 7) 0) 30 25 (some (gN (sI (sR w13 30 23 (some (gN (sR w12 30 22 (some (gN (sR w11 30 19 (some (gN (sR w10 30 18 (some (gN (sI (sR w9 30 16 (some (gN (sI (sI (sI (sI (sI (sI (sI (sR w8 30 8 (some (gN (sR w7 30 7 (some (gN (sR w6 30 6 (some (gN (sR w5 30 5 (some (gN (sR w4 30 4 (some (gN (sR w3 30 3 (some (gN (sR w2 30 2 (some (gN (sR w1 30 1 (some (gN (sI w 30 0 0))))))))))))))))))))))))) 30 9 (-1)) 30 10 0) 30 11 0) 30 12 0) 30 13 50) 30 14 0) 30 15 0)))) 30 17 0))))))))))))) 30 24 3)))))))))))))))) 10 480 480).bind fun w27 =>
                    (nwB (sR w27 30 30 (some (gN (sR w26 30 29 (some (gN (sR w25 30 28 (some (gN (sR w24 30 27 (some (gN (sR w23 30 26 (some (gN (sR (sI (sI (sI (sI (sI (sI (sI (sI w14 (gN (sI (sR w13 30 23 (some (gN (sR w12 30 22 (some (gN (sR w11 30 19 (some (gN (sR w10 30 18 (some (gN (sI (sR w9 30 16 (some (gN (sI (sI (sI (sI (sI (sI (sI (sR w8 30 8 (some (gN (sR w7 30 7 (some (gN (sR w6 30 6 (some (gN (sR w5 30 5 (some (gN (sR w4 30 4 (some (gN (sR w3 30 3 (some (gN (sR w2 30 2 (some (gN (sR w1 30 1 (some (gN (sI w 30 0 0))))))))))))))))))))))))) 30 9 (-1)) 30 10 0) 30 11 0) 30 12 0) 30 13 50) 30 14 0) 30 15 0)))) 30 17 0))))))))))))) 30 24 3)) (Int32.toNatClampNeg 0) 0) (gN (sI (sR w13 30 23 (some (gN (sR w12 30 22 (some (gN (sR w11 30 19 (some (gN (sR w10 30 18 (some (gN (sI (sR w9 30 16 (some (gN (sI (sI (sI (sI (sI (sI (sI (sR w8 30 8 (some (gN (sR w7 30 7 (some (gN (sR w6 30 6 (some (gN (sR w5 30 5 (some (gN (sR w4 30 4 (some (gN (sR w3 30 3 (some (gN (sR w2 30 2 (some (gN (sR w1 30 1 (some (gN (sI w 30 0 0))))))))))))))))))))))))) 30 9 (-1)) 30 10 0) 30 11 0) 30 12 0) 30 13 50) 30 14 0) 30 15 0)))) 30 17 0))))))))))))) 30 24 3)) (Int32.toNatClampNeg 1) 1) (gN (sI (sR w13 30 23 (some (gN (sR w12 30 22 (some (gN (sR w11 30 19 (some (gN (sR w10 30 18 (some (gN (sI (sR w9 30 16 (some (gN (sI (sI (sI (sI (sI (sI (sI (sR w8 30 8 (some (gN (sR w7 30 7 (some (gN (sR w6 30 6 (some (gN (sR w5 30 5 (some (gN (sR w4 30 4 (some (gN (sR w3 30 3 (some (gN (sR w2 30 2 (some (gN (sR w1 30 1 (some (gN (sI w 30 0 0))))))))))))))))))))))))) 30 9 (-1)) 30 10 0) 30 11 0) 30 12 0) 30 13 50) 30 14 0) 30 15 0)))) 30 17 0))))))))))))) 30 24 3)) (Int32.toNatClampNeg 2) 2) (gN (sI (sR w13 30 23 (some (gN (sR w12 30 22 (some (gN (sR w11 30 19 (some (gN (sR w10 30 18 (some (gN (sI (sR w9 30 16 (some (gN (sI (sI (sI (sI (sI (sI (sI (sR w8 30 8 (some (gN (sR w7 30 7 (some (gN (sR w6 30 6 (some (gN (sR w5 30 5 (some (gN (sR w4 30 4 (some (gN (sR w3 30 3 (some (gN (sR w2 30 2 (some (gN (sR w1 30 1 (some (gN (sI w 30 0 0))))))))))))))))))))))))) 30 9 (-1)) 30 10 0) 30 11 0) 30 12 0) 30 13 50) 30 14 0) 30 15 0)))) 30 17 0))))))))))))) 30 24 3)) (Int32.toNatClampNeg 3) 0) (gN (sI (sR w13 30 23 (some (gN (sR w12 30 22 (some (gN (sR w11 30 19 (some (gN (sR w10 30 18 (some (gN (sI (sR w9 30 16 (some (gN (sI (sI (sI (sI (sI (sI (sI (sR w8 30 8 (some (gN (sR w7 30 7 (some (gN (sR w6 30 6 (some (gN (sR w5 30 5 (some (gN (sR w4 30 4 (some (gN (sR w3 30 3 (some (gN (sR w2 30 2 (some (gN (sR w1 30 1 (some (gN (sI w 30 0 0))))))))))))))))))))))))) 30 9 (-1)) 30 10 0) 30 11 0) 30 12 0) 30 13 50) 30 14 0) 30 15 0)))) 30 17 0))))))))))))) 30 24 3)) (Int32.toNatClampNeg 4) 0) (gN (sI (sR w13 30 23 (some (gN (sR w12 30 22 (some (gN (sR w11 30 19 (some (gN (sR w10 30 18 (some (gN (sI (sR w9 30 16 (some (gN (sI (sI (sI (sI (sI (sI (sI (sR w8 30 8 (some (gN (sR w7 30 7 (some (gN (sR w6 30 6 (some (gN (sR w5 30 5 (some (gN (sR w4 30 4 (some (gN (sR w3 30 3 (some (gN (sR w2 30 2 (some (gN (sR w1 30 1 (some (gN (sI w 30 0 0))))))))))))))))))))))))) 30 9 (-1)) 30 10 0) 30 11 0) 30 12 0) 30 13 50) 30 14 0) 30 15 0)))) 30 17 0))))))))))))) 30 24 3)) (Int32.toNatClampNeg 5) 0) (gN (sI (sR w13 30 23 (some (gN (sR w12 30 22 (some (gN (sR w11 30 19 (some (gN (sR w10 30 18 (some (gN (sI (sR w9 30 16 (some (gN (sI (sI (sI (sI (sI (sI (sI (sR w8 30 8 (some (gN (sR w7 30 7 (some (gN (sR w6 30 6 (some (gN (sR w5 30 5 (some (gN (sR w4 30 4 (some (gN (sR w3 30 3 (some (gN (sR w2 30 2 (some (gN (sR w1 30 1 (some (gN (sI w 30 0 0))))))))))))))))))))))))) 30 9 (-1)) 30 10 0) 30 11 0) 30 12 0) 30 13 50) 30 14 0) 30 15 0)))) 30 17 0))))))))))))) 30 24 3)) (Int32.toNatClampNeg 6) 0) (gN (sI (sR w13 30 23 (some (gN (sR w12 30 22 (some (gN (sR w11 30 19 (some (gN (sR w10 30 18 (some (gN (sI (sR w9 30 16 (some (gN (sI (sI (sI (sI (sI (sI (sI (sR w8 30 8 (some (gN (sR w7 30 7 (some (gN (sR w6 30 6 (some (gN (sR w5 30 5 (some (gN (sR w4 30 4 (some (gN (sR w3 30 3 (some (gN (sR w2 30 2 (some (gN (sR w1 30 1 (some (gN (sI w 30 0 0))))))))))))))))))))))))) 30 9 (-1)) 30 10 0) 30 11 0) 30 12 0) 30 13 50) 30 14 0) 30 15 0)))) 30 17 0))))))))))))) 30 24 3)) (Int32.toNatClampNeg 7) 0) 30 25 (some (gN (sI (sR w13 30 23 (some (gN (sR w12 30 22 (some (gN (sR w11 30 19 (some (gN (sR w10 30 18 (some (gN (sI (sR w9 30 16 (some (gN (sI (sI (sI (sI (sI (sI (sI (sR w8 30 8 (some (gN (sR w7 30 7 (some (gN (sR w6 30 6 (some (gN (sR w5 30 5 (some (gN (sR w4 30 4 (some (gN (sR w3 30 3 (some (gN (sR w2 30 2 (some (gN (sR w1 30 1 (some (gN (sI w 30 0 0))))))))))))))))))))))))) 30 9 (-1)) 30 10 0) 30 11 0) 30 12 0) 30 13 50) 30 14 0) 30 15 0)))) 30 17 0))))))))))))) 30 24 3))))))))))))))))))) 10 480 480).bind fun w28 =>
                    (nwB (sR w28 30 31 (some (gN (sR w27 30 30 (some (gN (sR w26 30 29 (some (gN (sR w25 30 28 (some (gN (sR w24 30 27 (some (gN (sR w23 30 26 (some (gN (sR (sI (sI (sI (sI (sI (sI (sI (sI w14 (gN (sI (sR w13 30 23 (some (gN (sR w12 30 22 (some (gN (sR w11 30 19 (some (gN (sR w10 30 18 (some (gN (sI (sR w9 30 16 (some (gN (sI (sI (sI (sI (sI (sI (sI (sR w8 30 8 (some (gN (sR w7 30 7 (some (gN (sR w6 30 6 (some (gN (sR w5 30 5 (some (gN (sR w4 30 4 (some (gN (sR w3 30 3 (some (gN (sR w2 30 2 (some (gN (sR w1 30 1 (some (gN (sI w 30 0 0))))))))))))))))))))))))) 30 9 (-1)) 30 10 0) 30 11 0) 30 12 0) 30 13 50) 30 14 0) 30 15 0)))) 30 17 0))))))))))))) 30 24 3)) (Int32.toNatClampNeg 0) 0) (gN (sI (sR w13 30 23 (some (gN (sR w12 30 22 (some (gN (sR w11 30 19 (some (gN (sR w10 30 18 (some (gN (sI (sR w9 30 16 (some (gN (sI (sI (sI (sI (sI (sI (sI (sR w8 30 8 (some (gN (sR w7 30 7 (some (gN (sR w6 30 6 (some (gN (sR w5 30 5 (some (gN (sR w4 30 4 (some (gN (sR w3 30 3 (some (gN (sR w2 30 2 (some (gN (sR w1 30 1 (some (gN (sI w 30 0 0))))))))))))))))))))))))) 30 9 (-1)) 30 10 0) 30 11 0) 30 12 0) 30 13 50) 30 14 0) 30 15 0)))) 30 17 0))))))))))))) 30 24 3)) (Int32.toNatClampNeg 1) 1) (gN (sI (sR w13 30 23 (some (gN (sR w12 30 22 (some (gN (sR w11 30 19 (some (gN (sR w10 30 18 (some (gN (sI (sR w9 30 16 (some (gN (sI (sI (sI (sI (sI (sI (sI (sR w8 30 8 (some (gN (sR w7 30 7 (some (gN (sR w6 30 6 (some (gN (sR w5 30 5 (some (gN (sR w4 30 4 (some (gN (sR w3 30 3 (some (gN (sR w2 30 2 (some (gN (sR w1 30 1 (some (gN (sI w 30 0 0))))))))))))))))))))))))) 30 9 (-1)) 30 10 0) 30 11 0) 30 12 0) 30 13 50) 30 14 0) 30 15 0)))) 30 17 0))))))))))))) 30 24 3)) (Int32.toNatClampNeg 2) 2) (gN (sI (sR w13 30 23 (some (gN (sR w12 30 22 (some (gN (sR w11 30 19 (some (gN (sR w10 30 18 (some (gN (sI (sR w9 30 16 (some (gN (sI (sI (sI (sI (sI (sI (sI (sR w8 30 8 (some (gN (sR w7 30 7 (some (gN (sR w6 30 6 (some (gN (sR w5 30 5 (some (gN (sR w4 30 4 (some (gN (sR w3 30 3 (some (gN (sR w2 30 2 (some (gN (sR w1 30 1 (some (gN (sI w 30 0 0))))))))))))))))))))))))) 30 9 (-1)) 30 10 0) 30 11 0) 30 12 0) 30 13 50) 30 14 0) 30 15 0)))) 30 17 0))))))))))))) 30 24 3)) (Int32.toNatClampNeg 3) 0) (gN (sI (sR w13 30 23 (some (gN (sR w12 30 22 (some (gN (sR w11 30 19 (some (gN (sR w10 30 18 (some (gN (sI (sR w9 30 16 (some (gN (sI (sI (sI (sI (sI (sI (sI (sR w8 30 8 (some (gN (sR w7 30 7 (some (gN (sR w6 30 6 (some (gN (sR w5 30 5 (some (gN (sR w4 30 4 (some (gN (sR w3 30 3 (some (gN (sR w2 30 2 (some (gN (sR w1 30 1 (some (gN (sI w 30 0 0))))))))))))))))))))))))) 30 9 (-1)) 30 10 0) 30 11 0) 30 12 0) 30 13 50) 30 14 0) 30 15 0)))) 30 17 0))))))))))))) 30 24 3)) (Int32.toNatClampNeg 4) 0) (gN (sI (sR w13 30 23 (some (gN (sR w12 30 22 (some (gN (sR w11 30 19 (some (gN (sR w10 30 18 (some (gN (sI (sR w9 30 16 (some (gN (sI (sI (sI (sI (sI (sI (sI (sR w8 30 8 (some (gN (sR w7 30 7 (some (gN (sR w6 30 6 (some (gN (sR w5 30 5 (some (gN (sR w4 30 4 (some (gN (sR w3 30 3 (some (gN (sR w2 30 2 (some (gN (sR w1 30 1 (some (gN (sI w 30 0 0))))))))))))))))))))))))) 30 9 (-1)) 30 10 0) 30 11 0) 30 12 0) 30 13 50) 30 14 0) 30 15 0)))) 30 17 0))))))))))))) 30 24 3)) (Int32.toNatClampNeg 5) 0) (gN (sI (sR w13 30 23 (some (gN (sR w12 30 22 (some (gN (sR w11 30 19 (some (gN (sR w10 30 18 (some (gN (sI (sR w9 30 16 (some (gN (sI (sI (sI (sI (sI (sI (sI (sR w8 30 8 (some (gN (sR w7 30 7 (some (gN (sR w6 30 6 (some (gN (sR w5 30 5 (some (gN (sR w4 30 4 (some (gN (sR w3 30 3 (some (gN (sR w2 30 2 (some (gN (sR w1 30 1 (some (gN (sI w 30 0 0))))))))))))))))))))))))) 30 9 (-1)) 30 10 0) 30 11 0) 30 12 0) 30 13 50) 30 14 0) 30 15 0)))) 30 17 0))))))))))))) 30 24 3)) (Int32.toNatClampNeg 6) 0) (gN (sI (sR w13 30 23 (some (gN (sR w12 30 22 (some (gN (sR w11 30 19 (some (gN (sR w10 30 18 (some (gN (sI (sR w9 30 16 (some (gN (sI (sI (sI (sI (sI (sI (sI (sR w8 30 8 (some (gN (sR w7 30 7 (some (gN (sR w6 30 6 (some (gN (sR w5 30 5 (some (gN (sR w4 30 4 (some (gN (sR w3 30 3 (some (gN (sR w2 30 2 (some (gN (sR w1 30 1 (some (gN (sI w 30 0 0))))))))))))))))))))))))) 30 9 (-1)) 30 10 0) 30 11 0) 30 12 0) 30 13 50) 30 14 0) 30 15 0)))) 30 17 0))))))))))))) 30 24 3)) (Int32.toNatClampNeg 7) 0) 30 25 (some (gN (sI (sR w13 30 23 (some (gN (sR w12 30 22 (some (gN (sR w11 30 19 (some (gN (sR w10 30 18 (some (gN (sI (sR w9 30 16 (some (gN (sI (sI (sI (sI (sI (sI (sI (sR w8 30 8 (some (gN (sR w7 30 7 (some (gN (sR w6 30 6 (some (gN (sR w5 30 5 (some (gN (sR w4 30 4 (some (gN (sR w3 30 3 (some (gN (sR w2 30 2 (some (gN (sR w1 30 1 (some (gN (sI w 30 0 0))))))))))))))))))))))))) 30 9 (-1)) 30 10 0) 30 11 0) 30 12 0) 30 13 50) 30 14 0) 30 15 0)))) 30 17 0))))))))))))) 30 24 3)))))))))))))))))))))) 10 480 480).bind fun w29 =>
                    (nwB (sR w29 30 32 (some (gN (sR w28 30 31 (some (gN (sR w27 30 30 (some (gN (sR w26 30 29 (some (gN (sR w25 30 28 (some (gN (sR w24 30 27 (some (gN (sR w23 30 26 (some (gN (sR (sI (sI (sI (sI (sI (sI (sI (sI w14 (gN (sI (sR w13 30 23 (some (gN (sR w12 30 22 (some (gN (sR w11 30 19 (some (gN (sR w10 30 18 (some (gN (sI (sR w9 30 16 (some (gN (sI (sI (sI (sI (sI (sI (sI (sR w8 30 8 (some (gN (sR w7 30 7 (some (gN (sR w6 30 6 (some (gN (sR w5 30 5 (some (gN (sR w4 30 4 (some (gN (sR w3 30 3 (some (gN (sR w2 30 2 (some (gN (sR w1 30 1 (some (gN (sI w 30 0 0))))))))))))))))))))))))) 30 9 (-1)) 30 10 0) 30 11 0) 30 12 0) 30 13 50) 30 14 0) 30 15 0)))) 30 17 0))))))))))))) 30 24 3)) (Int32.toNatClampNeg 0) 0) (gN (sI (sR w13 30 23 (some (gN (sR w12 30 22 (some (gN (sR w11 30 19 (some (gN (sR w10 30 18 (some (gN (sI (sR w9 30 16 (some (gN (sI (sI (sI (sI (sI (sI (sI (sR w8 30 8 (some (gN (sR w7 30 7 (some (gN (sR w6 30 6 (some (gN (sR w5 30 5 (some (gN (sR w4 30 4 (some (gN (sR w3 30 3 (some (gN (sR w2 30 2 (some (gN (sR w1 30 1 (some (gN (sI w 30 0 0))))))))))))))))))))))))) 30 9 (-1)) 30 10 0) 30 11 0) 30 12 0) 30 13 50) 30 14 0) 30 15 0)))) 30 17 0))))))))))))) 30 24 3)) (Int32.toNatClampNeg 1) 1) (gN (sI (sR w13 30 23 (some (gN (sR w12 30 22 (some (gN (sR w11 30 19 (some (gN (sR w10 30 18 (some (gN (sI (sR w9 30 16 (some (gN (sI (sI (sI (sI (sI (sI (sI (sR w8 30 8 (some (gN (sR w7 30 7 (some (gN (sR w6 30 6 (some (gN (sR w5 30 5 (some (gN (sR w4 30 4 (some (gN (sR w3 30 3 (some (gN (sR w2 30 2 (some (gN (sR w1 30 1 (some (gN (sI w 30 0 0))))))))))))))))))))))))) 30 9 (-1)) 30 10 0) 30 11 0) 30 12 0) 30 13 50) 30 14 0) 30 15 0)))) 30 17 0))))))))))))) 30 24 3)) (Int32.toNatClampNeg 2) 2) (gN (sI (sR w13 30 23 (some (gN (sR w12 30 22 (some (gN (sR w11 30 19 (some (gN (sR w10 30 18 (some (gN (sI (sR w9 30 16 (some (gN (sI (sI (sI (sI (sI (sI (sI (sR w8 30 8 (some (gN (sR w7 30 7 (some (gN (sR w6 30 6 (some (gN (sR w5 30 5 (some (gN (sR w4 30 4 (some (gN (sR w3 30 3 (some (gN (sR w2 30 2 (some (gN (sR w1 30 1 (some (gN (sI w 30 0 0))))))))))))))))))))))))) 30 9 (-1)) 30 10 0) 30 11 0) 30 12 0) 30 13 50) 30 14 0) 30 15 0)))) 30 17 0))))))))))))) 30 24 3)) (Int32.toNatClampNeg 3) 0) (gN (sI (sR w13 30 23 (some (gN (sR w12 30 22 (some (gN (sR w11 30 19 (some (gN (sR w10 30 18 (some (gN (sI (sR w9 30 16 (some (gN (sI (sI (sI (sI (sI (sI (sI (sR w8 30 8 (some (gN (sR w7 30 7 (some (gN (sR w6 30 6 (some (gN (sR w5 30 5 (some (gN (sR w4 30 4 (some (gN (sR w3 30 3 (some (gN (sR w2 30 2 (some (gN (sR w1 30 1 (some (gN (sI w 30 0 0))))))))))))))))))))))))) 30 9 (-1)) 30 10 0) 30 11 0) 30 12 0) 30 13 50) 30 14 0) 30 15 0)))) 30 17 0))))))))))))) 30 24 3)) (Int32.toNatClampNeg 4) 0) (gN (sI (sR w13 30 23 (some (gN (sR w12 30 22 (some (gN (sR w11 30 19 (some (gN (sR w10 30 18 (some (gN (sI (sR w9 30 16 (some (gN (sI (sI (sI (sI (sI (sI (sI (sR w8 30 8 (some (gN (sR w7 30 7 (some (gN (sR w6 30 6 (some (gN (sR w5 30 5 (some (gN (sR w4 30 4 (some (gN (sR w3 30 3 (some (gN (sR w2 30 2 (some (gN (sR w1 30 1 (some (gN (sI w 30 0 0))))))))))))))))))))))))) 30 9 (-1)) 30 10 0) 30 11 0) 30 12 0) 30 13 50) 30 14 0) 30 15 0)))) 30 17 0))))))))))))) 30 24 3)) (Int32.toNatClampNeg 5) 0) (gN (sI (sR w13 30 23 (some (gN (sR w12 30 22 (some (gN (sR w11 30 19 (some (gN (sR w10 30 18 (some (gN (sI (sR w9 30 16 (some (gN (sI (sI (sI (sI (sI (sI (sI (sR w8 30 8 (some (gN (sR w7 30 7 (some (gN (sR w6 30 6 (some (gN (sR w5 30 5 (some (gN (sR w4 30 4 (some (gN (sR w3 30 3 (some (gN (sR w2 30 2 (some (gN (sR w1 30 1 (some (gN (sI w 30 0 0))))))))))))))))))))))))) 30 9 (-1)) 30 10 0) 30 11 0) 30 12 0) 30 13 50) 30 14 0) 30 15 0)))) 30 17 0))))))))))))) 30 24 3)) (Int32.toNatClampNeg 6) 0) (gN (sI (sR w13 30 23 (some (gN (sR w12 30 22 (some (gN (sR w11 30 19 (some (gN (sR w10 30 18 (some (gN (sI (sR w9 30 16 (some (gN (sI (sI (sI (sI (sI (sI (sI (sR w8 30 8 (some (gN (sR w7 30 7 (some (gN (sR w6 30 6 (some (gN (sR w5 30 5 (some (gN (sR w4 30 4 (some (gN (sR w3 30 3 (some (gN (sR w2 30 2 (some (gN (sR w1 30 1 (some (gN (sI w 30 0 0))))))))))))))))))))))))) 30 9 (-1)) 30 10 0) 30 11 0) 30 12 0) 30 13 50) 30 14 0) 30 15 0)))) 30 17 0))))))))))))) 30 24 3)) (Int32.toNatClampNeg 7) 0) 30 25 (some (gN (sI (sR w13 30 23 (some (gN (sR w12 30 22 (some (gN (sR w11 30 19 (some (gN (sR w10 30 18 (some (gN (sI (sR w9 30 16 (some (gN (sI (sI (sI (sI (sI (sI (sI (sR w8 30 8 (some (gN (sR w7 30 7 (some (gN (sR w6 30 6 (some (gN (sR w5 30 5 (some (gN (sR w4 30 4 (some (gN (sR w3 30 3 (some (gN (sR w2 30 2 (some (gN (sR w1 30 1 (some (gN (sI w 30 0 0))))))))))))))))))))))))) 30 9 (-1)) 30 10 0) 30 11 0) 30 12 0) 30 13 50) 30 14 0) 30 15 0)))) 30 17 0))))))))))))) 30 24 3))))))))))))))))))))))))) 11 480 480).bind fun w30 =>
                    (nwB (sR w30 30 33 (some (gN (sR w29 30 32 (some (gN (sR w28 30 31 (some (gN (sR w27 30 30 (some (gN (sR w26 30 29 (some (gN (sR w25 30 28 (some (gN (sR w24 30 27 (some (gN (sR w23 30 26 (some (gN (sR (sI (sI (sI (sI (sI (sI (sI (sI w14 (gN (sI (sR w13 30 23 (some (gN (sR w12 30 22 (some (gN (sR w11 30 19 (some (gN (sR w10 30 18 (some (gN (sI (sR w9 30 16 (some (gN (sI (sI (sI (sI (sI (sI (sI (sR w8 30 8 (some (gN (sR w7 30 7 (some (gN (sR w6 30 6 (some (gN (sR w5 30 5 (some (gN (sR w4 30 4 (some (gN (sR w3 30 3 (some (gN (sR w2 30 2 (some (gN (sR w1 30 1 (some (gN (sI w 30 0 0))))))))))))))))))))))))) 30 9 (-1)) 30 10 0) 30 11 0) 30 12 0) 30 13 50) 30 14 0) 30 15 0)))) 30 17 0))))))))))))) 30 24 3)) (Int32.toNatClampNeg 0) 0) (gN (sI (sR w13 30 23 (some (gN (sR w12 30 22 (some (gN (sR w11 30 19 (some (gN (sR w10 30 18 (some (gN (sI (sR w9 30 16 (some (gN (sI (sI (sI (sI (sI (sI (sI (sR w8 30 8 (some (gN (sR w7 30 7 (some (gN (sR w6 30 6 (some (gN (sR w5 30 5 (some (gN (sR w4 30 4 (some (gN (sR w3 30 3 (some (gN (sR w2 30 2 (some (gN (sR w1 30 1 (some (gN (sI w 30 0 0))))))))))))))))))))))))) 30 9 (-1)) 30 10 0) 30 11 0) 30 12 0) 30 13 50) 30 14 0) 30 15 0)))) 30 17 0))))))))))))) 30 24 3)) (Int32.toNatClampNeg 1) 1) (gN (sI (sR w13 30 23 (some (gN (sR w12 30 22 (some (gN (sR w11 30 19 (some (gN (sR w10 30 18 (some (gN (sI (sR w9 30 16 (some (gN (sI (sI (sI (sI (sI (sI (sI (sR w8 30 8 (some (gN (sR w7 30 7 (some (gN (sR w6 30 6 (some (gN (sR w5 30 5 (some (gN (sR w4 30 4 (some (gN (sR w3 30 3 (some (gN (sR w2 30 2 (some (gN (sR w1 30 1 (some (gN (sI w 30 0 0))))))))))))))))))))))))) 30 9 (-1)) 30 10 0) 30 11 0) 30 12 0) 30 13 50) 30 14 0) 30 15 0)))) 30 17 0))))))))))))) 30 24 3)) (Int32.toNatClampNeg 2) 2) (gN (sI (sR w13 30 23 (some (gN (sR w12 30 22 (some (gN (sR w11 30 19 (some (gN (sR w10 30 18 (some (gN (sI (sR w9 30 16 (some (gN (sI (sI (sI (sI (sI (sI (sI (sR w8 30 8 (some (gN (sR w7 30 7 (some (gN (sR w6 30 6 (some (gN (sR w5 30 5 (some (gN (sR w4 30 4 (some (gN (sR w3 30 3 (some (gN (sR w2 30 2 (some (gN (sR w1 30 1 (some (gN (sI w 30 0 0))))))))))))))))))))))))) 30 9 (-1)) 30 10 0) 30 11 0) 30 12 0) 30 13 50) 30 14 0) 30 15 0)))) 30 17 0))))))))))))) 30 24 3)) (Int32.toNatClampNeg 3) 0) (gN (sI (sR w13 30 23 (some (gN (sR w12 30 22 (some (gN (sR w11 30 19 (some (gN (sR w10 30 18 (some (gN (sI (sR w9 30 16 (some (gN (sI (sI (sI (sI (sI (sI (sI (sR w8 30 8 (some (gN (sR w7 30 7 (some (gN (sR w6 30 6 (some (gN (sR w5 30 5 (some (gN (sR w4 30 4 (some (gN (sR w3 30 3 (some (gN (sR w2 30 2 (some (gN (sR w1 30 1 (some (gN (sI w 30 0 0))))))))))))))))))))))))) 30 9 (-1)) 30 10 0) 30 11 0) 30 12 0) 30 13 50) 30 14 0) 30 15 0)))) 30 17 0))))))))))))) 30 24 3)) (Int32.toNatClampNeg 4) 0) (gN (sI (sR w13 30 23 (some (gN (sR w12 30 22 (some (gN (sR w11 30 19 (some (gN (sR w10 30 18 (some (gN (sI (sR w9 30 16 (some (gN (sI (sI (sI (sI (sI (sI (sI (sR w8 30 8 (some (gN (sR w7 30 7 (some (gN (sR w6 30 6 (some (gN (sR w5 30 5 (some (gN (sR w4 30 4 (some (gN (sR w3 30 3 (some (gN (sR w2 30 2 (some (gN (sR w1 30 1 (some (gN (sI w 30 0 0))))))))))))))))))))))))) 30 9 (-1)) 30 10 0) 30 11 0) 30 12 0) 30 13 50) 30 14 0) 30 15 0)))) 30 17 0))))))))))))) 30 24 3)) (Int32.toNatClampNeg 5) 0) (gN (sI (sR w13 30 23 (some (gN (sR w12 30 22 (some (gN (sR w11 30 19 (some (gN (sR w10 30 18 (some (gN (sI (sR w9 30 16 (some (gN (sI (sI (sI (sI (sI (sI (sI (sR w8 30 8 (some (gN (sR w7 30 7 (some (gN (sR w6 30 6 (some (gN (sR w5 30 5 (some (gN (sR w4 30 4 (some (gN (sR w3 30 3 (some (gN (sR w2 30 2 (some (gN (sR w1 30 1 (some (gN (sI w 30 0 0))))))))))))))))))))))))) 30 9 (-1)) 30 10 0) 30 11 0) 30 12 0) 30 13 50) 30 14 0) 30 15 0)))) 30 17 0))))))))))))) 30 24 3)) (Int32.toNatClampNeg 6) 0) (gN (sI (sR w13 30 23 (some (gN (sR w12 30 22 (some (gN (sR w11 30 19 (some (gN (sR w10 30 18 (some (gN (sI (sR w9 30 16 (some (gN (sI (sI (sI (sI (sI (sI (sI (sR w8 30 8 (some (gN (sR w7 30 7 (some (gN (sR w6 30 6 (some (gN (sR w5 30 5 (some (gN (sR w4 30 4 (some (gN (sR w3 30 3 (some (gN (sR w2 30 2 (some (gN (sR w1 30 1 (some (gN (sI w 30 0 0))))))))))))))))))))))))) 30 9 (-1)) 30 10 0) 30 11 0) 30 12 0) 30 13 50) 30 14 0) 30 15 0)))) 30 17 0))))))))))))) 30 24 3)) (Int32.toNatClampNeg 7) 0) 30 25 (some (gN (sI (sR w13 30 23 (some (gN (sR w12 30 22 (some (gN (sR w11 30 19 (some (gN (sR w10 30 18 (some (gN (sI (sR w9 30 16 (some (gN (sI (sI (sI (sI (sI (sI (sI (sR w8 30 8 (some (gN (sR w7 30 7 (some (gN (sR w6 30 6 (some (gN (sR w5 30 5 (some (gN (sR w4 30 4 (some (gN (sR w3 30 3 (some (gN (sR w2 30 2 (some (gN (sR w1 30 1 (some (gN (sI w 30 0 0))))))))))))))))))))))))) 30 9 (-1)) 30 10 0) 30 11 0) 30 12 0) 30 13 50) 30 14 0) 30 15 0)))) 30 17 0))))))))))))) 30 24 3)))))))))))))))))))))))))))) 10 60 60).bind fun w31 =>
                    (nwB (sI (sI (sI (sI (sR w31 30 34 (some (gN (sR w30 30 33 (some (gN (sR w29 30 32 (some (gN (sR w28 30 31 (some (gN (sR w27 30 30 (some (gN (sR w26 30 29 (some (gN (sR w25 30 28 (some (gN (sR w24 30 27 (some (gN (sR w23 30 26 (some (gN (sR (sI (sI (sI (sI (sI (sI (sI (sI w14 (gN (sI (sR w13 30 23 (some (gN (sR w12 30 22 (some (gN (sR w11 30 19 (some (gN (sR w10 30 18 (some (gN (sI (sR w9 30 16 (some (gN (sI (sI (sI (sI (sI (sI (sI (sR w8 30 8 (some (gN (sR w7 30 7 (some (gN (sR w6 30 6 (some (gN (sR w5 30 5 (some (gN (sR w4 30 4 (some (gN (sR w3 30 3 (some (gN (sR w2 30 2 (some (gN (sR w1 30 1 (some (gN (sI w 30 0 0))))))))))))))))))))))))) 30 9 (-1)) 30 10 0) 30 11 0) 30 12 0) 30 13 50) 30 14 0) 30 15 0)))) 30 17 0))))))))))))) 30 24 3)) (Int32.toNatClampNeg 0) 0) (gN (sI (sR w13 30 23 (some (gN (sR w12 30 22 (some (gN (sR w11 30 19 (some (gN (sR w10 30 18 (some (gN (sI (sR w9 30 16 (some (gN (sI (sI (sI (sI (sI (sI (sI (sR w8 30 8 (some (gN (sR w7 30 7 (some (gN (sR w6 30 6 (some (gN (sR w5 30 5 (some (gN (sR w4 30 4 (some (gN (sR w3 30 3 (some (gN (sR w2 30 2 (some (gN (sR w1 30 1 (some (gN (sI w 30 0 0))))))))))))))))))))))))) 30 9 (-1)) 30 10 0) 30 11 0) 30 12 0) 30 13 50) 30 14 0) 30 15 0)))) 30 17 0))))))))))))) 30 24 3)) (Int32.toNatClampNeg 1) 1) (gN (sI (sR w13 30 23 (some (gN (sR w12 30 22 (some (gN (sR w11 30 19 (some (gN (sR w10 30 18 (some (gN (sI (sR w9 30 16 (some (gN (sI (sI (sI (sI (sI (sI (sI (sR w8 30 8 (some (gN (sR w7 30 7 (some (gN (sR w6 30 6 (some (gN (sR w5 30 5 (some (gN (sR w4 30 4 (some (gN (sR w3 30 3 (some (gN (sR w2 30 2 (some (gN (sR w1 30 1 (some (gN (sI w 30 0 0))))))))))))))))))))))))) 30 9 (-1)) 30 10 0) 30 11 0) 30 12 0) 30 13 50) 30 14 0) 30 15 0)))) 30 17 0))))))))))))) 30 24 3)) (Int32.toNatClampNeg 2) 2) (gN (sI (sR w13 30 23 (some (gN (sR w12 30 22 (some (gN (sR w11 30 19 (some (gN (sR w10 30 18 (some (gN (sI (sR w9 30 16 (some (gN (sI (sI (sI (sI (sI (sI (sI (sR w8 30 8 (some (gN (sR w7 30 7 (some (gN (sR w6 30 6 (some (gN (sR w5 30 5 (some (gN (sR w4 30 4 (some (gN (sR w3 30 3 (some (gN (sR w2 30 2 (some (gN (sR w1 30 1 (some (gN (sI w 30 0 0))))))))))))))))))))))))) 30 9 (-1)) 30 10 0) 30 11 0) 30 12 0) 30 13 50) 30 14 0) 30 15 0)))) 30 17 0))))))))))))) 30 24 3)) (Int32.toNatClampNeg 3) 0) (gN (sI (sR w13 30 23 (some (gN (sR w12 30 22 (some (gN (sR w11 30 19 (some (gN (sR w10 30 18 (some (gN (sI (sR w9 30 16 (some (gN (sI (sI (sI (sI (sI (sI (sI (sR w8 30 8 (some (gN (sR w7 30 7 (some (gN (sR w6 30 6 (some (gN (sR w5 30 5 (some (gN (sR w4 30 4 (some (gN (sR w3 30 3 (some (gN (sR w2 30 2 (some (gN (sR w1 30 1 (some (gN (sI w 30 0 0))))))))))))))))))))))))) 30 9 (-1)) 30 10 0) 30 11 0) 30 12 0) 30 13 50) 30 14 0) 30 15 0)))) 30 17 0))))))))))))) 30 24 3)) (Int32.toNatClampNeg 4) 0) (gN (sI (sR w13 30 23 (some (gN (sR w12 30 22 (some (gN (sR w11 30 19 (some (gN (sR w10 30 18 (some (gN (sI (sR w9 30 16 (some (gN (sI (sI (sI (sI (sI (sI (sI (sR w8 30 8 (some (gN (sR w7 30 7 (some (gN (sR w6 30 6 (some (gN (sR w5 30 5 (some (gN (sR w4 30 4 (some (gN (sR w3 30 3 (some (gN (sR w2 30 2 (some (gN (sR w1 30 1 (some (gN (sI w 30 0 0))))))))))))))))))))))))) 30 9 (-1)) 30 10 0) 30 11 0) 30 12 0) 30 13 50) 30 14 0) 30 15 0)))) 30 17 0))))))))))))) 30 24 3)) (Int32.toNatClampNeg 5) 0) (gN (sI (sR w13 30 23 (some (gN (sR w12 30 22 (some (gN (sR w11 30 19 (some (gN (sR w10 30 18 (some (gN (sI (sR w9 30 16 (some (gN (sI (sI (sI (sI (sI (sI (sI (sR w8 30 8 (some (gN (sR w7 30 7 (some (gN (sR w6 30 6 (some (gN (sR w5 30 5 (some (gN (sR w4 30 4 (some (gN (sR w3 30 3 (some (gN (sR w2 30 2 (some (gN (sR w1 30 1 (some (gN (sI w 30 0 0))))))))))))))))))))))))) 30 9 (-1)) 30 10 0) 30 11 0) 30 12 0) 30 13 50) 30 14 0) 30 15 0)))) 30 17 0))))))))))))) 30 24 3)) (Int32.toNatClampNeg 6) 0) (gN (sI (sR w13 30 23 (some (gN (sR w12 30 22 (some (gN (sR w11 30 19 (some (gN (sR w10 30 18 (some (gN (sI (sR w9 30 16 (some (gN (sI (sI (sI (sI (sI (sI (sI (sR w8 30 8 (some (gN (sR w7 30 7 (some (gN (sR w6 30 6 (some (gN (sR w5 30 5 (some (gN (sR w4 30 4 (some (gN (sR w3 30 3 (some (gN (sR w2 30 2 (some (gN (sR w1 30 1 (some (gN (sI w 30 0 0))))))))))))))))))))))))) 30 9 (-1)) 30 10 0) 30 11 0) 30 12 0) 30 13 50) 30 14 0) 30 15 0)))) 30 17 0))))))))))))) 30 24 3)) (Int32.toNatClampNeg 7) 0) 30 25 (some (gN (sI (sR w13 30 23 (some (gN (sR w12 30 22 (some (gN (sR w11 30 19 (some (gN (sR w10 30 18 (some (gN (sI (sR w9 30 16 (some (gN (sI (sI (sI (sI (sI (sI (sI (sR w8 30 8 (some (gN (sR w7 30 7 (some (gN (sR w6 30 6 (some (gN (sR w5 30 5 (some (gN (sR w4 30 4 (some (gN (sR w3 30 3 (some (gN (sR w2 30 2 (some (gN (sR w1 30 1 (some (gN (sI w 30 0 0))))))))))))))))))))))))) 30 9 (-1)) 30 10 0) 30 11 0) 30 12 0) 30 13 50) 30 14 0) 30 15 0)))) 30 17 0))))))))))))) 30 24 3))))))))))))))))))))))))))))))) 30 35 0) 30 36 0) 30 37 0) 30 38 0) 11 4 4).bind fun w32 =>
                    (nwB (sR w32 30 39 (some (gN (sI (sI (sI (sI (sR w31 30 34 (some (gN (sR w30 30 33 (some (gN (sR w29 30 32 (some (gN (sR w28 30 31 (some (gN (sR w27 30 30 (some (gN (sR w26 30 29 (some (gN (sR w25 30 28 (some (gN (sR w24 30 27 (some (gN (sR w23 30 26 (some (gN (sR (sI (sI (sI (sI (sI (sI (sI (sI w14 (gN (sI (sR w13 30 23 (some (gN (sR w12 30 22 (some (gN (sR w11 30 19 (some (gN (sR w10 30 18 (some (gN (sI (sR w9 30 16 (some (gN (sI (sI (sI (sI (sI (sI (sI (sR w8 30 8 (some (gN (sR w7 30 7 (some (gN (sR w6 30 6 (some (gN (sR w5 30 5 (some (gN (sR w4 30 4 (some (gN (sR w3 30 3 (some (gN (sR w2 30 2 (some (gN (sR w1 30 1 (some (gN (sI w 30 0 0))))))))))))))))))))))))) 30 9 (-1)) 30 10 0) 30 11 0) 30 12 0) 30 13 50) 30 14 0) 30 15 0)))) 30 17 0))))))))))))) 30 24 3)) (Int32.toNatClampNeg 0) 0) (gN (sI (sR w13 30 23 (some (gN (sR w12 30 22 (some (gN (sR w11 30 19 (some (gN (sR w10 30 18 (some (gN (sI (sR w9 30 16 (some (gN (sI (sI (sI (sI (sI (sI (sI (sR w8 30 8 (some (gN (sR w7 30 7 (some (gN (sR w6 30 6 (some (gN (sR w5 30 5 (some (gN (sR w4 30 4 (some (gN (sR w3 30 3 (some (gN (sR w2 30 2 (some (gN (sR w1 30 1 (some (gN (sI w 30 0 0))))))))))))))))))))))))) 30 9 (-1)) 30 10 0) 30 11 0) 30 12 0) 30 13 50) 30 14 0) 30 15 0)))) 30 17 0))))))))))))) 30 24 3)) (Int32.toNatClampNeg 1) 1) (gN (sI (sR w13 30 23 (some (gN (sR w12 30 22 (some (gN (sR w11 30 19 (some (gN (sR w10 30 18 (some (gN (sI (sR w9 30 16 (some (gN (sI (sI (sI (sI (sI (sI (sI (sR w8 30 8 (some (gN (sR w7 30 7 (some (gN (sR w6 30 6 (some (gN (sR w5 30 5 (some (gN (sR w4 30 4 (some (gN (sR w3 30 3 (some (gN (sR w2 30 2 (some (gN (sR w1 30 1 (some (gN (sI w 30 0 0))))))))))))))))))))))))) 30 9 (-1)) 30 10 0) 30 11 0) 30 12 0) 30 13 50) 30 14 0) 30 15 0)))) 30 17 0))))))))))))) 30 24 3)) (Int32.toNatClampNeg 2) 2) (gN (sI (sR w13 30 23 (some (gN (sR w12 30 22 (some (gN (sR w11 30 19 (some (gN (sR w10 30 18 (some (gN (sI (sR w9 30 16 (some (gN (sI (sI (sI (sI (sI (sI (sI (sR w8 30 8 (some (gN (sR w7 30 7 (some (gN (sR w6 30 6 (some (gN (sR w5 30 5 (some (gN (sR w4 30 4 (some (gN (sR w3 30 3 (some (gN (sR w2 30 2 (some (gN (sR w1 30 1 (some (gN (sI w 30 0 0))))))))))))))))))))))))) 30 9 (-1)) 30 10 0) 30 11 0) 30 12 0) 30 13 50) 30 14 0) 30 15 0)))) 30 17 0))))))))))))) 30 24 3)) (Int32.toNatClampNeg 3) 0) (gN (sI (sR w13 30 23 (some (gN (sR w12 30 22 (some (gN (sR w11 30 19 (some (gN (sR w10 30 18 (some (gN (sI (sR w9 30 16 (some (gN (sI (sI (sI (sI (sI (sI (sI (sR w8 30 8 (some (gN (sR w7 30 7 (some (gN (sR w6 30 6 (some (gN (sR w5 30 5 (some (gN (sR w4 30 4 (some (gN (sR w3 30 3 (some (gN (sR w2 30 2 (some (gN (sR w1 30 1 (some (gN (sI w 30 0 0))))))))))))))))))))))))) 30 9 (-1)) 30 10 0) 30 11 0) 30 12 0) 30 13 50) 30 14 0) 30 15 0)))) 30 17 0))))))))))))) 30 24 3)) (Int32.toNatClampNeg 4) 0) (gN (sI (sR w13 30 23 (some (gN (sR w12 30 22 (some (gN (sR w11 30 19 (some (gN (sR w10 30 18 (some (gN (sI (sR w9 30 16 (some (gN (sI (sI (sI (sI (sI (sI (sI (sR w8 30 8 (some (gN (sR w7 30 7 (some (gN (sR w6 30 6 (some (gN (sR w5 30 5 (some (gN (sR w4 30 4 (some (gN (sR w3 30 3 (some (gN (sR w2 30 2 (some (gN (sR w1 30 1 (some (gN (sI w 30 0 0))))))))))))))))))))))))) 30 9 (-1)) 30 10 0) 30 11 0) 30 12 0) 30 13 50) 30 14 0) 30 15 0)))) 30 17 0))))))))))))) 30 24 3)) (Int32.toNatClampNeg 5) 0) (gN (sI (sR w13 30 23 (some (gN (sR w12 30 22 (some (gN (sR w11 30 19 (some (gN (sR w10 30 18 (some (gN (sI (sR w9 30 16 (some (gN (sI (sI (sI (sI (sI (sI (sI (sR w8 30 8 (some (gN (sR w7 30 7 (some (gN (sR w6 30 6 (some (gN (sR w5 30 5 (some (gN (sR w4 30 4 (some (gN (sR w3 30 3 (some (gN (sR w2 30 2 (some (gN (sR w1 30 1 (some (gN (sI w 30 0 0))))))))))))))))))))))))) 30 9 (-1)) 30 10 0) 30 11 0) 30 12 0) 30 13 50) 30 14 0) 30 15 0)))) 30 17 0))))))))))))) 30 24 3)) (Int32.toNatClampNeg 6) 0) (gN (sI (sR w13 30 23 (some (gN (sR w12 30 22 (some (gN (sR w11 30 19 (some (gN (sR w10 30 18 (some (gN (sI (sR w9 30 16 (some (gN (sI (sI (sI (sI (sI (sI (sI (sR w8 30 8 (some (gN (sR w7 30 7 (some (gN (sR w6 30 6 (some (gN (sR w5 30 5 (some (gN (sR w4 30 4 (some (gN (sR w3 30 3 (some (gN (sR w2 30 2 (some (gN (sR w1 30 1 (some (gN (sI w 30 0 0))))))))))))))))))))))))) 30 9 (-1)) 30 10 0) 30 11 0) 30 12 0) 30 13 50) 30 14 0) 30 15 0)))) 30 17 0))))))))))))) 30 24 3)) (Int32.toNatClampNeg 7) 0) 30 25 (some (gN (sI (sR w13 30 23 (some (gN (sR w12 30 22 (some (gN (sR w11 30 19 (some (gN (sR w10 30 18 (some (gN (sI (sR w9 30 16 (some (gN (sI (sI (sI (sI (sI (sI (sI (sR w8 30 8 (some (gN (sR w7 30 7 (some (gN (sR w6 30 6 (some (gN (sR w5 30 5 (some (gN (sR w4 30 4 (some (gN (sR w3 30 3 (some (gN (sR w2 30 2 (some (gN (sR w1 30 1 (some (gN (sI w 30 0 0))))))))))))))))))))))))) 30 9 (-1)) 30 10 0) 30 11 0) 30 12 0) 30 13 50) 30 14 0) 30 15 0)))) 30 17 0))))))))))))) 30 24 3))))))))))))))))))))))))))))))) 30 35 0) 30 36 0) 30 37 0) 30 38 0)))) 10 4 4).bind fun w33 =>
                    (nwB (sR w33 30 40 (some (gN (sR w32 30 39 (some (gN (sI (sI (sI (sI (sR w31 30 34 (some (gN (sR w30 30 33 (some (gN (sR w29 30 32 (some (gN (sR w28 30 31 (some (gN (sR w27 30 30 (some (gN (sR w26 30 29 (some (gN (sR w25 30 28 (some (gN (sR w24 30 27 (some (gN (sR w23 30 26 (some (gN (sR (sI (sI (sI (sI (sI (sI (sI (sI w14 (gN (sI (sR w13 30 23 (some (gN (sR w12 30 22 (some (gN (sR w11 30 19 (some (gN (sR w10 30 18 (some (gN (sI (sR w9 30 16 (some (gN (sI (sI (sI (sI (sI (sI (sI (sR w8 30 8 (some (gN (sR w7 30 7 (some (gN (sR w6 30 6 (some (gN (sR w5 30 5 (some (gN (sR w4 30 4 (some (gN (sR w3 30 3 (some (gN (sR w2 30 2 (some (gN (sR w1 30 1 (some (gN (sI w 30 0 0))))))))))))))))))))))))) 30 9 (-1)) 30 10 0) 30 11 0) 30 12 0) 30 13 50) 30 14 0) 30 15 0)))) 30 17 0))))))))))))) 30 24 3)) (Int32.toNatClampNeg 0) 0) (gN (sI (sR w13 30 23 (some (gN (sR w12 30 22 (some (gN (sR w11 30 19 (some (gN (sR w10 30 18 (some (gN (sI (sR w9 30 16 (some (gN (sI (sI (sI (sI (sI (sI (sI (sR w8 30 8 (some (gN (sR w7 30 7 (some (gN (sR w6 30 6 (some (gN (sR w5 30 5 (some (gN (sR w4 30 4 (some (gN (sR w3 30 3 (some (gN (sR w2 30 2 (some (gN (sR w1 30 1 (some (gN (sI w 30 0 0))))))))))))))))))))))))) 30 9 (-1)) 30 10 0) 30 11 0) 30 12 0) 30 13 50) 30 14 0) 30 15 0)))) 30 17 0))))))))))))) 30 24 3)) (Int32.toNatClampNeg 1) 1) (gN (sI (sR w13 30 23 (some (gN (sR w12 30 22 (some (gN (sR w11 30 19 (some (gN (sR w10 30 18 (some (gN (sI (sR w9 30 16 (some (gN (sI (sI (sI (sI (sI (sI (sI (sR w8 30 8 (some (gN (sR w7 30 7 (some (gN (sR w6 30 6 (some (gN (sR w5 30 5 (some (gN (sR w4 30 4 (some (gN (sR w3 30 3 (some (gN (sR w2 30 2 (some (gN (sR w1 30 1 (some (gN (sI w 30 0 0))))))))))))))))))))))))) 30 9 (-1)) 30 10 0) 30 11 0) 30 12 0) 30 13 50) 30 14 0) 30 15 0)))) 30 17 0))))))))))))) 30 24 3)) (Int32.toNatClampNeg 2) 2) (gN (sI (sR w13 30 23 (some (gN (sR w12 30 22 (some (gN (sR w11 30 19 (some (gN (sR w10 30 18 (some (gN (sI (sR w9 30 16 (some (gN (sI (sI (sI (sI (sI (sI (sI (sR w8 30 8 (some (gN (sR w7 30 7 (some (gN (sR w6 30 6 (some (gN (sR w5 30 5 (some (gN (sR w4 30 4 (some (gN (sR w3 30 3 (some (gN (sR w2 30 2 (some (gN (sR w1 30 1 (some (gN (sI w 30 0 0))))))))))))))))))))))))) 30 9 (-1)) 30 10 0) 30 11 0) 30 12 0) 30 13 50) 30 14 0) 30 15 0)))) 30 17 0))))))))))))) 30 24 3)) (Int32.toNatClampNeg 3) 0) (gN (sI (sR w13 30 23 (some (gN (sR w12 30 22 (some (gN (sR w11 30 19 (some (gN (sR w10 30 18 (some (gN (sI (sR w9 30 16 (some (gN (sI (sI (sI (sI (sI (sI (sI (sR w8 30 8 (some (gN (sR w7 30 7 (some (gN (sR w6 30 6 (some (gN (sR w5 30 5 (some (gN (sR w4 30 4 (some (gN (sR w3 30 3 (some (gN (sR w2 30 2 (some (gN (sR w1 30 1 (some (gN (sI w 30 0 0))))))))))))))))))))))))) 30 9 (-1)) 30 10 0) 30 11 0) 30 12 0) 30 13 50) 30 14 0) 30 15 0)))) 30 17 0))))))))))))) 30 24 3)) (Int32.toNatClampNeg 4) 0) (gN (sI (sR w13 30 23 (some (gN (sR w12 30 22 (some (gN (sR w11 30 19 (some (gN (sR w10 30 18 (some (gN (sI (sR w9 30 16 (some (gN (sI (sI (sI (sI (sI (sI (sI (sR w8 30 8 (some (gN (sR w7 30 7 (some (gN (sR w6 30 6 (some (gN (sR w5 30 5 (some (gN (sR w4 30 4 (some (gN (sR w3 30 3 (some (gN (sR w2 30 2 (some (gN (sR w1 30 1 (some (gN (sI w 30 0 0))))))))))))))))))))))))) 30 9 (-1)) 30 10 0) 30 11 0) 30 12 0) 30 13 50) 30 14 0) 30 15 0)))) 30 17 0))))))))))))) 30 24 3)) (Int32.toNatClampNeg 5) 0) (gN (sI (sR w13 30 23 (some (gN (sR w12 30 22 (some (gN (sR w11 30 19 (some (gN (sR w10 30 18 (some (gN (sI (sR w9 30 16 (some (gN (sI (sI (sI (sI (sI (sI (sI (sR w8 30 8 (some (gN (sR w7 30 7 (some (gN (sR w6 30 6 (some (gN (sR w5 30 5 (some (gN (sR w4 30 4 (some (gN (sR w3 30 3 (some (gN (sR w2 30 2 (some (gN (sR w1 30 1 (some (gN (sI w 30 0 0))))))))))))))))))))))))) 30 9 (-1)) 30 10 0) 30 11 0) 30 12 0) 30 13 50) 30 14 0) 30 15 0)))) 30 17 0))))))))))))) 30 24 3)) (Int32.toNatClampNeg 6) 0) (gN (sI (sR w13 30 23 (some (gN (sR w12 30 22 (some (gN (sR w11 30 19 (some (gN (sR w10 30 18 (some (gN (sI (sR w9 30 16 (some (gN (sI (sI (sI (sI (sI (sI (sI (sR w8 30 8 (some (gN (sR w7 30 7 (some (gN (sR w6 30 6 (some (gN (sR w5 30 5 (some (gN (sR w4 30 4 (some (gN (sR w3 30 3 (some (gN (sR w2 30 2 (some (gN (sR w1 30 1 (some (gN (sI w 30 0 0))))))))))))))))))))))))) 30 9 (-1)) 30 10 0) 30 11 0) 30 12 0) 30 13 50) 30 14 0) 30 15 0)))) 30 17 0))))))))))))) 30 24 3)) (Int32.toNatClampNeg 7) 0) 30 25 (some (gN (sI (sR w13 30 23 (some (gN (sR w12 30 22 (some (gN (sR w11 30 19 (some (gN (sR w10 30 18 (some (gN (sI (sR w9 30 16 (some (gN (sI (sI (sI (sI (sI (sI (sI (sR w8 30 8 (some (gN (sR w7 30 7 (some (gN (sR w6 30 6 (some (gN (sR w5 30 5 (some (gN (sR w4 30 4 (some (gN (sR w3 30 3 (some (gN (sR w2 30 2 (some (gN (sR w1 30 1 (some (gN (sI w 30 0 0))))))))))))))))))))))))) 30 9 (-1)) 30 10 0) 30 11 0) 30 12 0) 30 13 50) 30 14 0) 30 15 0)))) 30 17 0))))))))))))) 30 24 3))))))))))))))))))))))))))))))) 30 35 0) 30 36 0) 30 37 0) 30 38 0))))))) 10 4 4).bind fun w34 =>
                    (nwB (sI (sR w34 30 41 (some (gN (sR w33 30 40 (some (gN (sR w32 30 39 (some (gN (sI (sI (sI (sI (sR w31 30 34 (some (gN (sR w30 30 33 (some (gN (sR w29 30 32 (some (gN (sR w28 30 31 (some (gN (sR w27 30 30 (some (gN (sR w26 30 29 (some (gN (sR w25 30 28 (some (gN (sR w24 30 27 (some (gN (sR w23 30 26 (some (gN (sR (sI (sI (sI (sI (sI (sI (sI (sI w14 (gN (sI (sR w13 30 23 (some (gN (sR w12 30 22 (some (gN (sR w11 30 19 (some (gN (sR w10 30 18 (some (gN (sI (sR w9 30 16 (some (gN (sI (sI (sI (sI (sI (sI (sI (sR w8 30 8 (some (gN (sR w7 30 7 (some (gN (sR w6 30 6 (some (gN (sR w5 30 5 (some (gN (sR w4 30 4 (some (gN (sR w3 30 3 (some (gN (sR w2 30 2 (some (gN (sR w1 30 1 (some (gN (sI w 30 0 0))))))))))))))))))))))))) 30 9 (-1)) 30 10 0) 30 11 0) 30 12 0) 30 13 50) 30 14 0) 30 15 0)))) 30 17 0))))))))))))) 30 24 3)) (Int32.toNatClampNeg 0) 0) (gN (sI (sR w13 30 23 (some (gN (sR w12 30 22 (some (gN (sR w11 30 19 (some (gN (sR w10 30 18 (some (gN (sI (sR w9 30 16 (some (gN (sI (sI (sI (sI (sI (sI (sI (sR w8 30 8 (some (gN (sR w7 30 7 (some (gN (sR w6 30 6 (some (gN (sR w5 30 5 (some (gN (sR w4 30 4 (some (gN (sR w3 30 3 (some (gN (sR w2 30 2 (some (gN (sR w1 30 1 (some (gN (sI w 30 0 0))))))))))))))))))))))))) 30 9 (-1)) 30 10 0) 30 11 0) 30 12 0) 30 13 50) 30 14 0) 30 15 0)))) 30 17 0))))))))))))) 30 24 3)) (Int32.toNatClampNeg 1) 1) (gN (sI (sR w13 30 23 (some (gN (sR w12 30 22 (some (gN (sR w11 30 19 (some (gN (sR w10 30 18 (some (gN (sI (sR w9 30 16 (some (gN (sI (sI (sI (sI (sI (sI (sI (sR w8 30 8 (some (gN (sR w7 30 7 (some (gN (sR w6 30 6 (some (gN (sR w5 30 5 (some (gN (sR w4 30 4 (some (gN (sR w3 30 3 (some (gN (sR w2 30 2 (some (gN (sR w1 30 1 (some (gN (sI w 30 0 0))))))))))))))))))))))))) 30 9 (-1)) 30 10 0) 30 11 0) 30 12 0) 30 13 50) 30 14 0) 30 15 0)))) 30 17 0))))))))))))) 30 24 3)) (Int32.toNatClampNeg 2) 2) (gN (sI (sR w13 30 23 (some (gN (sR w12 30 22 (some (gN (sR w11 30 19 (some (gN (sR w10 30 18 (some (gN (sI (sR w9 30 16 (some (gN (sI (sI (sI (sI (sI (sI (sI (sR w8 30 8 (some (gN (sR w7 30 7 (some (gN (sR w6 30 6 (some (gN (sR w5 30 5 (some (gN (sR w4 30 4 (some (gN (sR w3 30 3 (some (gN (sR w2 30 2 (some (gN (sR w1 30 1 (some (gN (sI w 30 0 0))))))))))))))))))))))))) 30 9 (-1)) 30 10 0) 30 11 0) 30 12 0) 30 13 50) 30 14 0) 30 15 0)))) 30 17 0))))))))))))) 30 24 3)) (Int32.toNatClampNeg 3) 0) (gN (sI (sR w13 30 23 (some (gN (sR w12 30 22 (some (gN (sR w11 30 19 (some (gN (sR w10 30 18 (some (gN (sI (sR w9 30 16 (some (gN (sI (sI (sI (sI (sI (sI (sI (sR w8 30 8 (some (gN (sR w7 30 7 (some (gN (sR w6 30 6 (some (gN (sR w5 30 5 (some (gN (sR w4 30 4 (some (gN (sR w3 30 3 (some (gN (sR w2 30 2 (some (gN (sR w1 30 1 (some (gN (sI w 30 0 0))))))))))))))))))))))))) 30 9 (-1)) 30 10 0) 30 11 0) 30 12 0) 30 13 50) 30 14 0) 30 15 0)))) 30 17 0))))))))))))) 30 24 3)) (Int32.toNatClampNeg 4) 0) (gN (sI (sR w13 30 23 (some (gN (sR w12 30 22 (some (gN (sR w11 30 19 (some (gN (sR w10 30 18 (some (gN (sI (sR w9 30 16 (some (gN (sI (sI (sI (sI (sI (sI (sI (sR w8 30 8 (some (gN (sR w7 30 7 (some (gN (sR w6 30 6 (some (gN (sR w5 30 5 (some (gN (sR w4 30 4 (some (gN (sR w3 30 3 (some (gN (sR w2 30 2 (some (gN (sR w1 30 1 (some (gN (sI w 30 0 0))))))))))))))))))))))))) 30 9 (-1)) 30 10 0) 30 11 0) 30 12 0) 30 13 50) 30 14 0) 30 15 0)))) 30 17 0))))))))))))) 30 24 3)) (Int32.toNatClampNeg 5) 0) (gN (sI (sR w13 30 23 (some (gN (sR w12 30 22 (some (gN (sR w11 30 19 (some (gN (sR w10 30 18 (some (gN (sI (sR w9 30 16 (some (gN (sI (sI (sI (sI (sI (sI (sI (sR w8 30 8 (some (gN (sR w7 30 7 (some (gN (sR w6 30 6 (some (gN (sR w5 30 5 (some (gN (sR w4 30 4 (some (gN (sR w3 30 3 (some (gN (sR w2 30 2 (some (gN (sR w1 30 1 (some (gN (sI w 30 0 0))))))))))))))))))))))))) 30 9 (-1)) 30 10 0) 30 11 0) 30 12 0) 30 13 50) 30 14 0) 30 15 0)))) 30 17 0))))))))))))) 30 24 3)) (Int32.toNatClampNeg 6) 0) (gN (sI (sR w13 30 23 (some (gN (sR w12 30 22 (some (gN (sR w11 30 19 (some (gN (sR w10 30 18 (some (gN (sI (sR w9 30 16 (some (gN (sI (sI (sI (sI (sI (sI (sI (sR w8 30 8 (some (gN (sR w7 30 7 (some (gN (sR w6 30 6 (some (gN (sR w5 30 5 (some (gN (sR w4 30 4 (some (gN (sR w3 30 3 (some (gN (sR w2 30 2 (some (gN (sR w1 30 1 (some (gN (sI w 30 0 0))))))))))))))))))))))))) 30 9 (-1)) 30 10 0) 30 11 0) 30 12 0) 30 13 50) 30 14 0) 30 15 0)))) 30 17 0))))))))))))) 30 24 3)) (Int32.toNatClampNeg 7) 0) 30 25 (some (gN (sI (sR w13 30 23 (some (gN (sR w12 30 22 (some (gN (sR w11 30 19 (some (gN (sR w10 30 18 (some (gN (sI (sR w9 30 16 (some (gN (sI (sI (sI (sI (sI (sI (sI (sR w8 30 8 (some (gN (sR w7 30 7 (some (gN (sR w6 30 6 (some (gN (sR w5 30 5 (some (gN (sR w4 30 4 (some (gN (sR w3 30 3 (some (gN (sR w2 30 2 (some (gN (sR w1 30 1 (some (gN (sI w 30 0 0))))))))))))))))))))))))) 30 9 (-1)) 30 10 0) 30 11 0) 30 12 0) 30 13 50) 30 14 0) 30 15 0)))) 30 17 0))))))))))))) 30 24 3))))))))))))))))))))))))))))))) 30 35 0) 30 36 0) 30 37 0) 30 38 0)))))))))) 30 42 0) 10 500 500).bind fun w35 =>
                    (nwB (sR w35 30 43 (some (gN (sI (sR w34 30 41 (some (gN (sR w33 30 40 (some (gN (sR w32 30 39 (some (gN (sI (sI (sI (sI (sR w31 30 34 (some (gN (sR w30 30 33 (some (gN (sR w29 30 32 (some (gN (sR w28 30 31 (some (gN (sR w27 30 30 (some (gN (sR w26 30 29 (some (gN (sR w25 30 28 (some (gN (sR w24 30 27 (some (gN (sR w23 30 26 (some (gN (sR (sI (sI (sI (sI (sI (sI (sI (sI w14 (gN (sI (sR w13 30 23 (some (gN (sR w12 30 22 (some (gN (sR w11 30 19 (some (gN (sR w10 30 18 (some (gN (sI (sR w9 30 16 (some (gN (sI (sI (sI (sI (sI (sI (sI (sR w8 30 8 (some (gN (sR w7 30 7 (some (gN (sR w6 30 6 (some (gN (sR w5 30 5 (some (gN (sR w4 30 4 (some (gN (sR w3 30 3 (some (gN (sR w2 30 2 (some (gN (sR w1 30 1 (some (gN (sI w 30 0 0))))))))))))))))))))))))) 30 9 (-1)) 30 10 0) 30 11 0) 30 12 0) 30 13 50) 30 14 0) 30 15 0)))) 30 17 0))))))))))))) 30 24 3)) (Int32.toNatClampNeg 0) 0) (gN (sI (sR w13 30 23 (some (gN (sR w12 30 22 (some (gN (sR w11 30 19 (some (gN (sR w10 30 18 (some (gN (sI (sR w9 30 16 (some (gN (sI (sI (sI (sI (sI (sI (sI (sR w8 30 8 (some (gN (sR w7 30 7 (some (gN (sR w6 30 6 (some (gN (sR w5 30 5 (some (gN (sR w4 30 4 (some (gN (sR w3 30 3 (some (gN (sR w2 30 2 (some (gN (sR w1 30 1 (some (gN (sI w 30 0 0))))))))))))))))))))))))) 30 9 (-1)) 30 10 0) 30 11 0) 30 12 0) 30 13 50) 30 14 0) 30 15 0)))) 30 17 0))))))))))))) 30 24 3)) (Int32.toNatClampNeg 1) 1) (gN (sI (sR w13 30 23 (some (gN (sR w12 30 22 (some (gN (sR w11 30 19 (some (gN (sR w10 30 18 (some (gN (sI (sR w9 30 16 (some (gN (sI (sI (sI (sI (sI (sI (sI (sR w8 30 8 (some (gN (sR w7 30 7 (some (gN (sR w6 30 6 (some (gN (sR w5 30 5 (some (gN (sR w4 30 4 (some (gN (sR w3 30 3 (some (gN (sR w2 30 2 (some (gN (sR w1 30 1 (some (gN (sI w 30 0 0))))))))))))))))))))))))) 30 9 (-1)) 30 10 0) 30 11 0) 30 12 0) 30 13 50) 30 14 0) 30 15 0)))) 30 17 0))))))))))))) 30 24 3)) (Int32.toNatClampNeg 2) 2) (gN (sI (sR w13 30 23 (some (gN (sR w12 30 22 (some (gN (sR w11 30 19 (some (gN (sR w10 30 18 (some (gN (sI (sR w9 30 16 (some (gN (sI (sI (sI (sI (sI (sI (sI (sR w8 30 8 (some (gN (sR w7 30 7 (some (gN (sR w6 30 6 (some (gN (sR w5 30 5 (some (gN (sR w4 30 4 (some (gN (sR w3 30 3 (some (gN (sR w2 30 2 (some (gN (sR w1 30 1 (some (gN (sI w 30 0 0))))))))))))))))))))))))) 30 9 (-1)) 30 10 0) 30 11 0) 30 12 0) 30 13 50) 30 14 0) 30 15 0)))) 30 17 0))))))))))))) 30 24 3)) (Int32.toNatClampNeg 3) 0) (gN (sI (sR w13 30 23 (some (gN (sR w12 30 22 (some (gN (sR w11 30 19 (some (gN (sR w10 30 18 (some (gN (sI (sR w9 30 16 (some (gN (sI (sI (sI (sI (sI (sI (sI (sR w8 30 8 (some (gN (sR w7 30 7 (some (gN (sR w6 30 6 (some (gN (sR w5 30 5 (some (gN (sR w4 30 4 (some (gN (sR w3 30 3 (some (gN (sR w2 30 2 (some (gN (sR w1 30 1 (some (gN (sI w 30 0 0))))))))))))))))))))))))) 30 9 (-1)) 30 10 0) 30 11 0) 30 12 0) 30 13 50) 30 14 0) 30 15 0)))) 30 17 0))))))))))))) 30 24 3)) (Int32.toNatClampNeg 4) 0) (gN (sI (sR w13 30 23 (some (gN (sR w12 30 22 (some (gN (sR w11 30 19 (some (gN (sR w10 30 18 (some (gN (sI (sR w9 30 16 (some (gN (sI (sI (sI (sI (sI (sI (sI (sR w8 30 8 (some (gN (sR w7 30 7 (some (gN (sR w6 30 6 (some (gN (sR w5 30 5 (some (gN (sR w4 30 4 (some (gN (sR w3 30 3 (some (gN (sR w2 30 2 (some (gN (sR w1 30 1 (some (gN (sI w 30 0 0))))))))))))))))))))))))) 30 9 (-1)) 30 10 0) 30 11 0) 30 12 0) 30 13 50) 30 14 0) 30 15 0)))) 30 17 0))))))))))))) 30 24 3)) (Int32.toNatClampNeg 5) 0) (gN (sI (sR w13 30 23 (some (gN (sR w12 30 22 (some (gN (sR w11 30 19 (some (gN (sR w10 30 18 (some (gN (sI (sR w9 30 16 (some (gN (sI (sI (sI (sI (sI (sI (sI (sR w8 30 8 (some (gN (sR w7 30 7 (some (gN (sR w6 30 6 (some (gN (sR w5 30 5 (some (gN (sR w4 30 4 (some (gN (sR w3 30 3 (some (gN (sR w2 30 2 (some (gN (sR w1 30 1 (some (gN (sI w 30 0 0))))))))))))))))))))))))) 30 9 (-1)) 30 10 0) 30 11 0) 30 12 0) 30 13 50) 30 14 0) 30 15 0)))) 30 17 0))))))))))))) 30 24 3)) (Int32.toNatClampNeg 6) 0) (gN (sI (sR w13 30 23 (some (gN (sR w12 30 22 (some (gN (sR w11 30 19 (some (gN (sR w10 30 18 (some (gN (sI (sR w9 30 16 (some (gN (sI (sI (sI (sI (sI (sI (sI (sR w8 30 8 (some (gN (sR w7 30 7 (some (gN (sR w6 30 6 (some (gN (sR w5 30 5 (some (gN (sR w4 30 4 (some (gN (sR w3 30 3 (some (gN (sR w2 30 2 (some (gN (sR w1 30 1 (some (gN (sI w 30 0 0))))))))))))))))))))))))) 30 9 (-1)) 30 10 0) 30 11 0) 30 12 0) 30 13 50) 30 14 0) 30 15 0)))) 30 17 0))))))))))))) 30 24 3)) (Int32.toNatClampNeg 7) 0) 30 25 (some (gN (sI (sR w13 30 23 (some (gN (sR w12 30 22 (some (gN (sR w11 30 19 (some (gN (sR w10 30 18 (some (gN (sI (sR w9 30 16 (some (gN (sI (sI (sI (sI (sI (sI (sI (sR w8 30 8 (some (gN (sR w7 30 7 (some (gN (sR w6 30 6 (some (gN (sR w5 30 5 (some (gN (sR w4 30 4 (some (gN (sR w3 30 3 (some (gN (sR w2 30 2 (some (gN (sR w1 30 1 (some (gN (sI w 30 0 0))))))))))))))))))))))))) 30 9 (-1)) 30 10 0) 30 11 0) 30 12 0) 30 13 50) 30 14 0) 30 15 0)))) 30 17 0))))))))))))) 30 24 3))))))))))))))))))))))))))))))) 30 35 0) 30 36 0) 30 37 0) 30 38 0)))))))))) 30 42 0)))) 10 500 500).bind fun w36 =>
                    (nwB (sR w36 30 44 (some (gN (sR w35 30 43 (some (gN (sI (sR w34 30 41 (some (gN (sR w33 30 40 (some (gN (sR w32 30 39 (some (gN (sI (sI (sI (sI (sR w31 30 34 (some (gN (sR w30 30 33 (some (gN (sR w29 30 32 (some (gN (sR w28 30 31 (some (gN (sR w27 30 30 (some (gN (sR w26 30 29 (some (gN (sR w25 30 28 (some (gN (sR w24 30 27 (some (gN (sR w23 30 26 (some (gN (sR (sI (sI (sI (sI (sI (sI (sI (sI w14 (gN (sI (sR w13 30 23 (some (gN (sR w12 30 22 (some (gN (sR w11 30 19 (some (gN (sR w10 30 18 (some (gN (sI (sR w9 30 16 (some (gN (sI (sI (sI (sI (sI (sI (sI (sR w8 30 8 (some (gN (sR w7 30 7 (some (gN (sR w6 30 6 (some (gN (sR w5 30 5 (some (gN (sR w4 30 4 (some (gN (sR w3 30 3 (some (gN (sR w2 30 2 (some (gN (sR w1 30 1 (some (gN (sI w 30 0 0))))))))))))))))))))))))) 30 9 (-1)) 30 10 0) 30 11 0) 30 12 0) 30 13 50) 30 14 0) 30 15 0)))) 30 17 0))))))))))))) 30 24 3)) (Int32.toNatClampNeg 0) 0) (gN (sI (sR w13 30 23 (some (gN (sR w12 30 22 (some (gN (sR w11 30 19 (some (gN (sR w10 30 18 (some (gN (sI (sR w9 30 16 (some (gN (sI (sI (sI (sI (sI (sI (sI (sR w8 30 8 (some (gN (sR w7 30 7 (some (gN (sR w6 30 6 (some (gN (sR w5 30 5 (some (gN (sR w4 30 4 (some (gN (sR w3 30 3 (some (gN (sR w2 30 2 (some (gN (sR w1 30 1 (some (gN (sI w 30 0 0))))))))))))))))))))))))) 30 9 (-1)) 30 10 0) 30 11 0) 30 12 0) 30 13 50) 30 14 0) 30 15 0)))) 30 17 0))))))))))))) 30 24 3)) (Int32.toNatClampNeg 1) 1) (gN (sI (sR w13 30 23 (some (gN (sR w12 30 22 (some (gN (sR w11 30 19 (some (gN (sR w10 30 18 (some (gN (sI (sR w9 30 16 (some (gN (sI (sI (sI (sI (sI (sI (sI (sR w8 30 8 (some (gN (sR w7 30 7 (some (gN (sR w6 30 6 (some (gN (sR w5 30 5 (some (gN (sR w4 30 4 (some (gN (sR w3 30 3 (some (gN (sR w2 30 2 (some (gN (sR w1 30 1 (some (gN (sI w 30 0 0))))))))))))))))))))))))) 30 9 (-1)) 30 10 0) 30 11 0) 30 12 0) 30 13 50) 30 14 0) 30 15 0)))) 30 17 0))))))))))))) 30 24 3)) (Int32.toNatClampNeg 2) 2) (gN (sI (sR w13 30 23 (some (gN (sR w12 30 22 (some (gN (sR w11 30 19 (some (gN (sR w10 30 18 (some (gN (sI (sR w9 30 16 (some (gN (sI (sI (sI (sI (sI (sI (sI (sR w8 30 8 (some (gN (sR w7 30 7 (some (gN (sR w6 30 6 (some (gN (sR w5 30 5 (some (gN (sR w4 30 4 (some (gN (sR w3 30 3 (some (gN (sR w2 30 2 (some (gN (sR w1 30 1 (some (gN (sI w 30 0 0))))))))))))))))))))))))) 30 9 (-1)) 30 10 0) 30 11 0) 30 12 0) 30 13 50) 30 14 0) 30 15 0)))) 30 17 0))))))))))))) 30 24 3)) (Int32.toNatClampNeg 3) 0) (gN (sI (sR w13 30 23 (some (gN (sR w12 30 22 (some (gN (sR w11 30 19 (some (gN (sR w10 30 18 (some (gN (sI (sR w9 30 16 (some (gN (sI (sI (sI (sI (sI (sI (sI (sR w8 30 8 (some (gN (sR w7 30 7 (some (gN (sR w6 30 6 (some (gN (sR w5 30 5 (some (gN (sR w4 30 4 (some (gN (sR w3 30 3 (some (gN (sR w2 30 2 (some (gN (sR w1 30 1 (some (gN (sI w 30 0 0))))))))))))))))))))))))) 30 9 (-1)) 30 10 0) 30 11 0) 30 12 0) 30 13 50) 30 14 0) 30 15 0)))) 30 17 0))))))))))))) 30 24 3)) (Int32.toNatClampNeg 4) 0) (gN (sI (sR w13 30 23 (some (gN (sR w12 30 22 (some (gN (sR w11 30 19 (some (gN (sR w10 30 18 (some (gN (sI (sR w9 30 16 (some (gN (sI (sI (sI (sI (sI (sI (sI (sR w8 30 8 (some (gN (sR w7 30 7 (some (gN (sR w6 30 6 (some (gN (sR w5 30 5 (some (gN (sR w4 30 4 (some (gN (sR w3 30 3 (some (gN (sR w2 30 2 (some (gN (sR w1 30 1 (some (gN (sI w 30 0 0))))))))))))))))))))))))) 30 9 (-1)) 30 10 0) 30 11 0) 30 12 0) 30 13 50) 30 14 0) 30 15 0)))) 30 17 0))))))))))))) 30 24 3)) (Int32.toNatClampNeg 5) 0) (gN (sI (sR w13 30 23 (some (gN (sR w12 30 22 (some (gN (sR w11 30 19 (some (gN (sR w10 30 18 (some (gN (sI (sR w9 30 16 (some (gN (sI (sI (sI (sI (sI (sI (sI (sR w8 30 8 (some (gN (sR w7 30 7 (some (gN (sR w6 30 6 (some (gN (sR w5 30 5 (some (gN (sR w4 30 4 (some (gN (sR w3 30 3 (some (gN (sR w2 30 2 (some (gN (sR w1 30 1 (some (gN (sI w 30 0 0))))))))))))))))))))))))) 30 9 (-1)) 30 10 0) 30 11 0) 30 12 0) 30 13 50) 30 14 0) 30 15 0)))) 30 17 0))))))))))))) 30 24 3)) (Int32.toNatClampNeg 6) 0) (gN (sI (sR w13 30 23 (some (gN (sR w12 30 22 (some (gN (sR w11 30 19 (some (gN (sR w10 30 18 (some (gN (sI (sR w9 30 16 (some (gN (sI (sI (sI (sI (sI (sI (sI (sR w8 30 8 (some (gN (sR w7 30 7 (some (gN (sR w6 30 6 (some (gN (sR w5 30 5 (some (gN (sR w4 30 4 (some (gN (sR w3 30 3 (some (gN (sR w2 30 2 (some (gN (sR w1 30 1 (some (gN (sI w 30 0 0))))))))))))))))))))))))) 30 9 (-1)) 30 10 0) 30 11 0) 30 12 0) 30 13 50) 30 14 0) 30 15 0)))) 30 17 0))))))))))))) 30 24 3)) (Int32.toNatClampNeg 7) 0) 30 25 (some (gN (sI (sR w13 30 23 (some (gN (sR w12 30 22 (some (gN (sR w11 30 19 (some (gN (sR w10 30 18 (some (gN (sI (sR w9 30 16 (some (gN (sI (sI (sI (sI (sI (sI (sI (sR w8 30 8 (some (gN (sR w7 30 7 (some (gN (sR w6 30 6 (some (gN (sR w5 30 5 (some (gN (sR w4 30 4 (some (gN (sR w3 30 3 (some (gN (sR w2 30 2 (some (gN (sR w1 30 1 (some (gN (sI w 30 0 0))))))))))))))))))))))))) 30 9 (-1)) 30 10 0) 30 11 0) 30 12 0) 30 13 50) 30 14 0) 30 15 0)))) 30 17 0))))))))))))) 30 24 3))))))))))))))))))))))))))))))) 30 35 0) 30 36 0) 30 37 0) 30 38 0)))))))))) 30 42 0))))))) 10 500 500).bind fun w37 =>
                    (nwB (sR w37 30 45 (some (gN (sR w36 30 44 (some (gN (sR w35 30 43 (some (gN (sI (sR w34 30 41 (some (gN (sR w33 30 40 (some (gN (sR w32 30 39 (some (gN (sI (sI (sI (sI (sR w31 30 34 (some (gN (sR w30 30 33 (some (gN (sR w29 30 32 (some (gN (sR w28 30 31 (some (gN (sR w27 30 30 (some (gN (sR w26 30 29 (some (gN (sR w25 30 28 (some (gN (sR w24 30 27 (some (gN (sR w23 30 26 (some (gN (sR (sI (sI (sI (sI (sI (sI (sI (sI w14 (gN (sI (sR w13 30 23 (some (gN (sR w12 30 22 (some (gN (sR w11 30 19 (some (gN (sR w10 30 18 (some (gN (sI (sR w9 30 16 (some (gN (sI (sI (sI (sI (sI (sI (sI (sR w8 30 8 (some (gN (sR w7 30 7 (some (gN (sR w6 30 6 (some (gN (sR w5 30 5 (some (gN (sR w4 30 4 (some (gN (sR w3 30 3 (some (gN (sR w2 30 2 (some (gN (sR w1 30 1 (some (gN (sI w 30 0 0))))))))))))))))))))))))) 30 9 (-1)) 30 10 0) 30 11 0) 30 12 0) 30 13 50) 30 14 0) 30 15 0)))) 30 17 0))))))))))))) 30 24 3)) (Int32.toNatClampNeg 0) 0) (gN (sI (sR w13 30 23 (some (gN (sR w12 30 22 (some (gN (sR w11 30 19 (some (gN (sR w10 30 18 (some (gN (sI (sR w9 30 16 (some (gN (sI (sI (sI (sI (sI (sI (sI (sR w8 30 8 (some (gN (sR w7 30 7 (some (gN (sR w6 30 6 (some (gN (sR w5 30 5 (some (gN (sR w4 30 4 (some (gN (sR w3 30 3 (some (gN (sR w2 30 2 (some (gN (sR w1 30 1 (some (gN (sI w 30 0 0))))))))))))))))))))))))) 30 9 (-1)) 30 10 0) 30 11 0) 30 12 0) 30 13 50) 30 14 0) 30 15 0)))) 30 17 0))))))))))))) 30 24 3)) (Int32.toNatClampNeg 1) 1) (gN (sI (sR w13 30 23 (some (gN (sR w12 30 22 (some (gN (sR w11 30 19 (some (gN (sR w10 30 18 (some (gN (sI (sR w9 30 16 (some (gN (sI (sI (sI (sI (sI (sI (sI (sR w8 30 8 (some (gN (sR w7 30 7 (some (gN (sR w6 30 6 (some (gN (sR w5 30 5 (some (gN (sR w4 30 4 (some (gN (sR w3 30 3 (some (gN (sR w2 30 2 (some (gN (sR w1 30 1 (some (gN (sI w 30 0 0))))))))))))))))))))))))) 30 9 (-1)) 30 10 0) 30 11 0) 30 12 0) 30 13 50) 30 14 0) 30 15 0)))) 30 17 0))))))))))))) 30 24 3)) (Int32.toNatClampNeg 2) 2) (gN (sI (sR w13 30 23 (some (gN (sR w12 30 22 (some (gN (sR w11 30 19 (some (gN (sR w10 30 18 (some (gN (sI (sR w9 30 16 (some (gN (sI (sI (sI (sI (sI (sI (sI (sR w8 30 8 (some (gN (sR w7 30 7 (some (gN (sR w6 30 6 (some (gN (sR w5 30 5 (some (gN (sR w4 30 4 (some (gN (sR w3 30 3 (some (gN (sR w2 30 2 (some (gN (sR w1 30 1 (some (gN (sI w 30 0 0))))))))))))))))))))))))) 30 9 (-1)) 30 10 0) 30 11 0) 30 12 0) 30 13 50) 30 14 0) 30 15 0)))) 30 17 0))))))))))))) 30 24 3)) (Int32.toNatClampNeg 3) 0) (gN (sI (sR w13 30 23 (some (gN (sR w12 30 22 (some (gN (sR w11 30 19 (some (gN (sR w10 30 18 (some (gN (sI (sR w9 30 16 (some (gN (sI (sI (sI (sI (sI (sI (sI (sR w8 30 8 (some (gN (sR w7 30 7 (some (gN (sR w6 30 6 (some (gN (sR w5 30 5 (some (gN (sR w4 30 4 (some (gN (sR w3 30 3 (some (gN (sR w2 30 2 (some (gN (sR w1 30 1 (some (gN (sI w 30 0 0))))))))))))))))))))))))) 30 9 (-1)) 30 10 0) 30 11 0) 30 12 0) 30 13 50) 30 14 0) 30 15 0)))) 30 17 0))))))))))))) 30 24 3)) (Int32.toNatClampNeg 4) 0) (gN (sI (sR w13 30 23 (some (gN (sR w12 30 22 (some (gN (sR w11 30 19 (some (gN (sR w10 30 18 (some (gN (sI (sR w9 30 16 (some (gN (sI (sI (sI (sI (sI (sI (sI (sR w8 30 8 (some (gN (sR w7 30 7 (some (gN (sR w6 30 6 (some (gN (sR w5 30 5 (some (gN (sR w4 30 4 (some (gN (sR w3 30 3 (some (gN (sR w2 30 2 (some (gN (sR w1 30 1 (some (gN (sI w 30 0 0))))))))))))))))))))))))) 30 9 (-1)) 30 10 0) 30 11 0) 30 12 0) 30 13 50) 30 14 0) 30 15 0)))) 30 17 0))))))))))))) 30 24 3)) (Int32.toNatClampNeg 5) 0) (gN (sI (sR w13 30 23 (some (gN (sR w12 30 22 (some (gN (sR w11 30 19 (some (gN (sR w10 30 18 (some (gN (sI (sR w9 30 16 (some (gN (sI (sI (sI (sI (sI (sI (sI (sR w8 30 8 (some (gN (sR w7 30 7 (some (gN (sR w6 30 6 (some (gN (sR w5 30 5 (some (gN (sR w4 30 4 (some (gN (sR w3 30 3 (some (gN (sR w2 30 2 (some (gN (sR w1 30 1 (some (gN (sI w 30 0 0))))))))))))))))))))))))) 30 9 (-1)) 30 10 0) 30 11 0) 30 12 0) 30 13 50) 30 14 0) 30 15 0)))) 30 17 0))))))))))))) 30 24 3)) (Int32.toNatClampNeg 6) 0) (gN (sI (sR w13 30 23 (some (gN (sR w12 30 22 (some (gN (sR w11 30 19 (some (gN (sR w10 30 18 (some (gN (sI (sR w9 30 16 (some (gN (sI (sI (sI (sI (sI (sI (sI (sR w8 30 8 (some (gN (sR w7 30 7 (some (gN (sR w6 30 6 (some (gN (sR w5 30 5 (some (gN (sR w4 30 4 (some (gN (sR w3 30 3 (some (gN (sR w2 30 2 (some (gN (sR w1 30 1 (some (gN (sI w 30 0 0))))))))))))))))))))))))) 30 9 (-1)) 30 10 0) 30 11 0) 30 12 0) 30 13 50) 30 14 0) 30 15 0)))) 30 17 0))))))))))))) 30 24 3)) (Int32.toNatClampNeg 7) 0) 30 25 (some (gN (sI (sR w13 30 23 (some (gN (sR w12 30 22 (some (gN (sR w11 30 19 (some (gN (sR w10 30 18 (some (gN (sI (sR w9 30 16 (some (gN (sI (sI (sI (sI (sI (sI (sI (sR w8 30 8 (some (gN (sR w7 30 7 (some (gN (sR w6 30 6 (some (gN (sR w5 30 5 (some (gN (sR w4 30 4 (some (gN (sR w3 30 3 (some (gN (sR w2 30 2 (some (gN (sR w1 30 1 (some (gN (sI w 30 0 0))))))))))))))))))))))))) 30 9 (-1)) 30 10 0) 30 11 0) 30 12 0) 30 13 50) 30 14 0) 30 15 0)))) 30 17 0))))))))))))) 30 24 3))))))))))))))))))))))))))))))) 30 35 0) 30 36 0) 30 37 0) 30 38 0)))))))))) 30 42 0)))))))))) 10 500 500).bind fun w38 =>
                    (nwB (sR w38 30 46 (some (gN (sR w37 30 45 (some (gN (sR w36 30 44 (some (gN (sR w35 30 43 (some (gN (sI (sR w34 30 41 (some (gN (sR w33 30 40 (some (gN (sR w32 30 39 (some (gN (sI (sI (sI (sI (sR w31 30 34 (some (gN (sR w30 30 33 (some (gN (sR w29 30 32 (some (gN (sR w28 30 31 (some (gN (sR w27 30 30 (some (gN (sR w26 30 29 (some (gN (sR w25 30 28 (some (gN (sR w24 30 27 (some (gN (sR w23 30 26 (some (gN (sR (sI (sI (sI (sI (sI (sI (sI (sI w14 (gN (sI (sR w13 30 23 (some (gN (sR w12 30 22 (some (gN (sR w11 30 19 (some (gN (sR w10 30 18 (some (gN (sI (sR w9 30 16 (some (gN (sI (sI (sI (sI (sI (sI (sI (sR w8 30 8 (some (gN (sR w7 30 7 (some (gN (sR w6 30 6 (some (gN (sR w5 30 5 (some (gN (sR w4 30 4 (some (gN (sR w3 30 3 (some (gN (sR w2 30 2 (some (gN (sR w1 30 1 (some (gN (sI w 30 0 0))))))))))))))))))))))))) 30 9 (-1)) 30 10 0) 30 11 0) 30 12 0) 30 13 50) 30 14 0) 30 15 0)))) 30 17 0))))))))))))) 30 24 3)) (Int32.toNatClampNeg 0) 0) (gN (sI (sR w13 30 23 (some (gN (sR w12 30 22 (some (gN (sR w11 30 19 (some (gN (sR w10 30 18 (some (gN (sI (sR w9 30 16 (some (gN (sI (sI (sI (sI (sI (sI (sI (sR w8 30 8 (some (gN (sR w7 30 7 (some (gN (sR w6 30 6 (some (gN (sR w5 30 5 (some (gN (sR w4 30 4 (some (gN (sR w3 30 3 (some (gN (sR w2 30 2 (some (gN (sR w1 30 1 (some (gN (sI w 30 0 0))))))))))))))))))))))))) 30 9 (-1)) 30 10 0) 30 11 0) 30 12 0) 30 13 50) 30 14 0) 30 15 0)))) 30 17 0))))))))))))) 30 24 3)) (Int32.toNatClampNeg 1) 1) (gN (sI (sR w13 30 23 (some (gN (sR w12 30 22 (some (gN (sR w11 30 19 (some (gN (sR w10 30 18 (some (gN (sI (sR w9 30 16 (some (gN (sI (sI (sI (sI (sI (sI (sI (sR w8 30 8 (some (gN (sR w7 30 7 (some (gN (sR w6 30 6 (some (gN (sR w5 30 5 (some (gN (sR w4 30 4 (some (gN (sR w3 30 3 (some (gN (sR w2 30 2 (some (gN (sR w1 30 1 (some (gN (sI w 30 0 0))))))))))))))))))))))))) 30 9 (-1)) 30 10 0) 30 11 0) 30 12 0) 30 13 50) 30 14 0) 30 15 0)))) 30 17 0))))))))))))) 30 24 3)) (Int32.toNatClampNeg 2) 2) (gN (sI (sR w13 30 23 (some (gN (sR w12 30 22 (some (gN (sR w11 30 19 (some (gN (sR w10 30 18 (some (gN (sI (sR w9 30 16 (some (gN (sI (sI (sI (sI (sI (sI (sI (sR w8 30 8 (some (gN (sR w7 30 7 (some (gN (sR w6 30 6 (some (gN (sR w5 30 5 (some (gN (sR w4 30 4 (some (gN (sR w3 30 3 (some (gN (sR w2 30 2 (some (gN (sR w1 30 1 (some (gN (sI w 30 0 0))))))))))))))))))))))))) 30 9 (-1)) 30 10 0) 30 11 0) 30 12 0) 30 13 50) 30 14 0) 30 15 0)))) 30 17 0))))))))))))) 30 24 3)) (Int32.toNatClampNeg 3) 0) (gN (sI (sR w13 30 23 (some (gN (sR w12 30 22 (some (gN (sR w11 30 19 (some (gN (sR w10 30 18 (some (gN (sI (sR w9 30 16 (some (gN (sI (sI (sI (sI (sI (sI (sI (sR w8 30 8 (some (gN (sR w7 30 7 (some (gN (sR w6 30 6 (some (gN (sR w5 30 5 (some (gN (sR w4 30 4 (some (gN (sR w3 30 3 (some (gN (sR w2 30 2 (some (gN (sR w1 30 1 (some (gN (sI w 30 0 0))))))))))))))))))))))))) 30 9 (-1)) 30 10 0) 30 11 0) 30 12 0) 30 13 50) 30 14 0) 30 15 0)))) 30 17 0))))))))))))) 30 24 3)) (Int32.toNatClampNeg 4) 0) (gN (sI (sR w13 30 23 (some (gN (sR w12 30 22 (some (gN (sR w11 30 19 (some (gN (sR w10 30 18 (some (gN (sI (sR w9 30 16 (some (gN (sI (sI (sI (sI (sI (sI (sI (sR w8 30 8 (some (gN (sR w7 30 7 (some (gN (sR w6 30 6 (some (gN (sR w5 30 5 (some (gN (sR w4 30 4 (some (gN (sR w3 30 3 (some (gN (sR w2 30 2 (some (gN (sR w1 30 1 (some (gN (sI w 30 0 0))))))))))))))))))))))))) 30 9 (-1)) 30 10 0) 30 11 0) 30 12 0) 30 13 50) 30 14 0) 30 15 0)))) 30 17 0))))))))))))) 30 24 3)) (Int32.toNatClampNeg 5) 0) (gN (sI (sR w13 30 23 (some (gN (sR w12 30 22 (some (gN (sR w11 30 19 (some (gN (sR w10 30 18 (some (gN (sI (sR w9 30 16 (some (gN (sI (sI (sI (sI (sI (sI (sI (sR w8 30 8 (some (gN (sR w7 30 7 (some (gN (sR w6 30 6 (some (gN (sR w5 30 5 (some (gN (sR w4 30 4 (some (gN (sR w3 30 3 (some (gN (sR w2 30 2 (some (gN (sR w1 30 1 (some (gN (sI w 30 0 0))))))))))))))))))))))))) 30 9 (-1)) 30 10 0) 30 11 0) 30 12 0) 30 13 50) 30 14 0) 30 15 0)))) 30 17 0))))))))))))) 30 24 3)) (Int32.toNatClampNeg 6) 0) (gN (sI (sR w13 30 23 (some (gN (sR w12 30 22 (some (gN (sR w11 30 19 (some (gN (sR w10 30 18 (some (gN (sI (sR w9 30 16 (some (gN (sI (sI (sI (sI (sI (sI (sI (sR w8 30 8 (some (gN (sR w7 30 7 (some (gN (sR w6 30 6 (some (gN (sR w5 30 5 (some (gN (sR w4 30 4 (some (gN (sR w3 30 3 (some (gN (sR w2 30 2 (some (gN (sR w1 30 1 (some (gN (sI w 30 0 0))))))))))))))))))))))))) 30 9 (-1)) 30 10 0) 30 11 0) 30 12 0) 30 13 50) 30 14 0) 30 15 0)))) 30 17 0))))))))))))) 30 24 3)) (Int32.toNatClampNeg 7) 0) 30 25 (some (gN (sI (sR w13 30 23 (some (gN (sR w12 30 22 (some (gN (sR w11 30 19 (some (gN (sR w10 30 18 (some (gN (sI (sR w9 30 16 (some (gN (sI (sI (sI (sI (sI (sI (sI (sR w8 30 8 (some (gN (sR w7 30 7 (some (gN (sR w6 30 6 (some (gN (sR w5 30 5 (some (gN (sR w4 30 4 (some (gN (sR w3 30 3 (some (gN (sR w2 30 2 (some (gN (sR w1 30 1 (some (gN (sI w 30 0 0))))))))))))))))))))))))) 30 9 (-1)) 30 10 0) 30 11 0) 30 12 0) 30 13 50) 30 14 0) 30 15 0)))) 30 17 0))))))))))))) 30 24 3))))))))))))))))))))))))))))))) 30 35 0) 30 36 0) 30 37 0) 30 38 0)))))))))) 30 42 0))))))))))))) 10 500 500).bind fun w39 =>
                    (nwB (sR w39 30 47 (some (gN (sR w38 30 46 (some (gN (sR w37 30 45 (some (gN (sR w36 30 44 (some (gN (sR w35 30 43 (some (gN (sI (sR w34 30 41 (some (gN (sR w33 30 40 (some (gN (sR w32 30 39 (some (gN (sI (sI (sI (sI (sR w31 30 34 (some (gN (sR w30 30 33 (some (gN (sR w29 30 32 (some (gN (sR w28 30 31 (some (gN (sR w27 30 30 (some (gN (sR w26 30 29 (some (gN (sR w25 30 28 (some (gN (sR w24 30 27 (some (gN (sR w23 30 26 (some (gN (sR (sI (sI (sI (sI (sI (sI (sI (sI w14 (gN (sI (sR w13 30 23 (some (gN (sR w12 30 22 (some (gN (sR w11 30 19 (some (gN (sR w10 30 18 (some (gN (sI (sR w9 30 16 (some (gN (sI (sI (sI (sI (sI (sI (sI (sR w8 30 8 (some (gN (sR w7 30 7 (some (gN (sR w6 30 6 (some (gN (sR w5 30 5 (some (gN (sR w4 30 4 (some (gN (sR w3 30 3 (some (gN (sR w2 30 2 (some (gN (sR w1 30 1 (some (gN (sI w 30 0 0))))))))))))))))))))))))) 30 9 (-1)) 30 10 0) 30 11 0) 30 12 0) 30 13 50) 30 14 0) 30 15 0)))) 30 17 0))))))))))))) 30 24 3)) (Int32.toNatClampNeg 0) 0) (gN (sI (sR w13 30 23 (some (gN (sR w12 30 22 (some (gN (sR w11 30 19 (some (gN (sR w10 30 18 (some (gN (sI (sR w9 30 16 (some (gN (sI (sI (sI (sI (sI (sI (sI (sR w8 30 8 (some (gN (sR w7 30 7 (some (gN (sR w6 30 6 (some (gN (sR w5 30 5 (some (gN (sR w4 30 4 (some (gN (sR w3 30 3 (some (gN (sR w2 30 2 (some (gN (sR w1 30 1 (some (gN (sI w 30 0 0))))))))))))))))))))))))) 30 9 (-1)) 30 10 0) 30 11 0) 30 12 0) 30 13 50) 30 14 0) 30 15 0)))) 30 17 0))))))))))))) 30 24 3)) (Int32.toNatClampNeg 1) 1) (gN (sI (sR w13 30 23 (some (gN (sR w12 30 22 (some (gN (sR w11 30 19 (some (gN (sR w10 30 18 (some (gN (sI (sR w9 30 16 (some (gN (sI (sI (sI (sI (sI (sI (sI (sR w8 30 8 (some (gN (sR w7 30 7 (some (gN (sR w6 30 6 (some (gN (sR w5 30 5 (some (gN (sR w4 30 4 (some (gN (sR w3 30 3 (some (gN (sR w2 30 2 (some (gN (sR w1 30 1 (some (gN (sI w 30 0 0))))))))))))))))))))))))) 30 9 (-1)) 30 10 0) 30 11 0) 30 12 0) 30 13 50) 30 14 0) 30 15 0)))) 30 17 0))))))))))))) 30 24 3)) (Int32.toNatClampNeg 2) 2) (gN (sI (sR w13 30 23 (some (gN (sR w12 30 22 (some (gN (sR w11 30 19 (some (gN (sR w10 30 18 (some (gN (sI (sR w9 30 16 (some (gN (sI (sI (sI (sI (sI (sI (sI (sR w8 30 8 (some (gN (sR w7 30 7 (some (gN (sR w6 30 6 (some (gN (sR w5 30 5 (some (gN (sR w4 30 4 (some (gN (sR w3 30 3 (some (gN (sR w2 30 2 (some (gN (sR w1 30 1 (some (gN (sI w 30 0 0))))))))))))))))))))))))) 30 9 (-1)) 30 10 0) 30 11 0) 30 12 0) 30 13 50) 30 14 0) 30 15 0)))) 30 17 0))))))))))))) 30 24 3)) (Int32.toNatClampNeg 3) 0) (gN (sI (sR w13 30 23 (some (gN (sR w12 30 22 (some (gN (sR w11 30 19 (some (gN (sR w10 30 18 (some (gN (sI (sR w9 30 16 (some (gN (sI (sI (sI (sI (sI (sI (sI (sR w8 30 8 (some (gN (sR w7 30 7 (some (gN (sR w6 30 6 (some (gN (sR w5 30 5 (some (gN (sR w4 30 4 (some (gN (sR w3 30 3 (some (gN (sR w2 30 2 (some (gN (sR w1 30 1 (some (gN (sI w 30 0 0))))))))))))))))))))))))) 30 9 (-1)) 30 10 0) 30 11 0) 30 12 0) 30 13 50) 30 14 0) 30 15 0)))) 30 17 0))))))))))))) 30 24 3)) (Int32.toNatClampNeg 4) 0) (gN (sI (sR w13 30 23 (some (gN (sR w12 30 22 (some (gN (sR w11 30 19 (some (gN (sR w10 30 18 (some (gN (sI (sR w9 30 16 (some (gN (sI (sI (sI (sI (sI (sI (sI (sR w8 30 8 (some (gN (sR w7 30 7 (some (gN (sR w6 30 6 (some (gN (sR w5 30 5 (some (gN (sR w4 30 4 (some (gN (sR w3 30 3 (some (gN (sR w2 30 2 (some (gN (sR w1 30 1 (some (gN (sI w 30 0 0))))))))))))))))))))))))) 30 9 (-1)) 30 10 0) 30 11 0) 30 12 0) 30 13 50) 30 14 0) 30 15 0)))) 30 17 0))))))))))))) 30 24 3)) (Int32.toNatClampNeg 5) 0) (gN (sI (sR w13 30 23 (some (gN (sR w12 30 22 (some (gN (sR w11 30 19 (some (gN (sR w10 30 18 (some (gN (sI (sR w9 30 16 (some (gN (sI (sI (sI (sI (sI (sI (sI (sR w8 30 8 (some (gN (sR w7 30 7 (some (gN (sR w6 30 6 (some (gN (sR w5 30 5 (some (gN (sR w4 30 4 (some (gN (sR w3 30 3 (some (gN (sR w2 30 2 (some (gN (sR w1 30 1 (some (gN (sI w 30 0 0))))))))))))))))))))))))) 30 9 (-1)) 30 10 0) 30 11 0) 30 12 0) 30 13 50) 30 14 0) 30 15 0)))) 30 17 0))))))))))))) 30 24 3)) (Int32.toNatClampNeg 6) 0) (gN (sI (sR w13 30 23 (some (gN (sR w12 30 22 (some (gN (sR w11 30 19 (some (gN (sR w10 30 18 (some (gN (sI (sR w9 30 16 (some (gN (sI (sI (sI (sI (sI (sI (sI (sR w8 30 8 (some (gN (sR w7 30 7 (some (gN (sR w6 30 6 (some (gN (sR w5 30 5 (some (gN (sR w4 30 4 (some (gN (sR w3 30 3 (some (gN (sR w2 30 2 (some (gN (sR w1 30 1 (some (gN (sI w 30 0 0))))))))))))))))))))))))) 30 9 (-1)) 30 10 0) 30 11 0) 30 12 0) 30 13 50) 30 14 0) 30 15 0)))) 30 17 0))))))))))))) 30 24 3)) (Int32.toNatClampNeg 7) 0) 30 25 (some (gN (sI (sR w13 30 23 (some (gN (sR w12 30 22 (some (gN (sR w11 30 19 (some (gN (sR w10 30 18 (some (gN (sI (sR w9 30 16 (some (gN (sI (sI (sI (sI (sI (sI (sI (sR w8 30 8 (some (gN (sR w7 30 7 (some (gN (sR w6 30 6 (some (gN (sR w5 30 5 (some (gN (sR w4 30 4 (some (gN (sR w3 30 3 (some (gN (sR w2 30 2 (some (gN (sR w1 30 1 (some (gN (sI w 30 0 0))))))))))))))))))))))))) 30 9 (-1)) 30 10 0) 30 11 0) 30 12 0) 30 13 50) 30 14 0) 30 15 0)))) 30 17 0))))))))))))) 30 24 3))))))))))))))))))))))))))))))) 30 35 0) 30 36 0) 30 37 0) 30 38 0)))))))))) 30 42 0)))))))))))))))) 10 500 500).bind fun w40 =>
                    (nwB (sR w40 30 48 (some (gN (sR w39 30 47 (some (gN (sR w38 30 46 (some (gN (sR w37 30 45 (some (gN (sR w36 30 44 (some (gN (sR w35 30 43 (some (gN (sI (sR w34 30 41 (some (gN (sR w33 30 40 (some (gN (sR w32 30 39 (some (gN (sI (sI (sI (sI (sR w31 30 34 (some (gN (sR w30 30 33 (some (gN (sR w29 30 32 (some (gN (sR w28 30 31 (some (gN (sR w27 30 30 (some (gN (sR w26 30 29 (some (gN (sR w25 30 28 (some (gN (sR w24 30 27 (some (gN (sR w23 30 26 (some (gN (sR (sI (sI (sI (sI (sI (sI (sI (sI w14 (gN (sI (sR w13 30 23 (some (gN (sR w12 30 22 (some (gN (sR w11 30 19 (some (gN (sR w10 30 18 (some (gN (sI (sR w9 30 16 (some (gN (sI (sI (sI (sI (sI (sI (sI (sR w8 30 8 (some (gN (sR w7 30 7 (some (gN (sR w6 30 6 (some (gN (sR w5 30 5 (some (gN (sR w4 30 4 (some (gN (sR w3 30 3 (some (gN (sR w2 30 2 (some (gN (sR w1 30 1 (some (gN (sI w 30 0 0))))))))))))))))))))))))) 30 9 (-1)) 30 10 0) 30 11 0) 30 12 0) 30 13 50) 30 14 0) 30 15 0)))) 30 17 0))))))))))))) 30 24 3)) (Int32.toNatClampNeg 0) 0) (gN (sI (sR w13 30 23 (some (gN (sR w12 30 22 (some (gN (sR w11 30 19 (some (gN (sR w10 30 18 (some (gN (sI (sR w9 30 16 (some (gN (sI (sI (sI (sI (sI (sI (sI (sR w8 30 8 (some (gN (sR w7 30 7 (some (gN (sR w6 30 6 (some (gN (sR w5 30 5 (some (gN (sR w4 30 4 (some (gN (sR w3 30 3 (some (gN (sR w2 30 2 (some (gN (sR w1 30 1 (some (gN (sI w 30 0 0))))))))))))))))))))))))) 30 9 (-1)) 30 10 0) 30 11 0) 30 12 0) 30 13 50) 30 14 0) 30 15 0)))) 30 17 0))))))))))))) 30 24 3)) (Int32.toNatClampNeg 1) 1) (gN (sI (sR w13 30 23 (some (gN (sR w12 30 22 (some (gN (sR w11 30 19 (some (gN (sR w10 30 18 (some (gN (sI (sR w9 30 16 (some (gN (sI (sI (sI (sI (sI (sI (sI (sR w8 30 8 (some (gN (sR w7 30 7 (some (gN (sR w6 30 6 (some (gN (sR w5 30 5 (some (gN (sR w4 30 4 (some (gN (sR w3 30 3 (some (gN (sR w2 30 2 (some (gN (sR w1 30 1 (some (gN (sI w 30 0 0))))))))))))))))))))))))) 30 9 (-1)) 30 10 0) 30 11 0) 30 12 0) 30 13 50) 30 14 0) 30 15 0)))) 30 17 0))))))))))))) 30 24 3)) (Int32.toNatClampNeg 2) 2) (gN (sI (sR w13 30 23 (some (gN (sR w12 30 22 (some (gN (sR w11 30 19 (some (gN (sR w10 30 18 (some (gN (sI (sR w9 30 16 (some (gN (sI (sI (sI (sI (sI (sI (sI (sR w8 30 8 (some (gN (sR w7 30 7 (some (gN (sR w6 30 6 (some (gN (sR w5 30 5 (some (gN (sR w4 30 4 (some (gN (sR w3 30 3 (some (gN (sR w2 30 2 (some (gN (sR w1 30 1 (some (gN (sI w 30 0 0))))))))))))))))))))))))) 30 9 (-1)) 30 10 0) 30 11 0) 30 12 0) 30 13 50) 30 14 0) 30 15 0)))) 30 17 0))))))))))))) 30 24 3)) (Int32.toNatClampNeg 3) 0) (gN (sI (sR w13 30 23 (some (gN (sR w12 30 22 (some (gN (sR w11 30 19 (some (gN (sR w10 30 18 (some (gN (sI (sR w9 30 16 (some (gN (sI (sI (sI (sI (sI (sI (sI (sR w8 30 8 (some (gN (sR w7 30 7 (some (gN (sR w6 30 6 (some (gN (sR w5 30 5 (some (gN (sR w4 30 4 (some (gN (sR w3 30 3 (some (gN (sR w2 30 2 (some (gN (sR w1 30 1 (some (gN (sI w 30 0 0))))))))))))))))))))))))) 30 9 (-1)) 30 10 0) 30 11 0) 30 12 0) 30 13 50) 30 14 0) 30 15 0)))) 30 17 0))))))))))))) 30 24 3)) (Int32.toNatClampNeg 4) 0) (gN (sI (sR w13 30 23 (some (gN (sR w12 30 22 (some (gN (sR w11 30 19 (some (gN (sR w10 30 18 (some (gN (sI (sR w9 30 16 (some (gN (sI (sI (sI (sI (sI (sI (sI (sR w8 30 8 (some (gN (sR w7 30 7 (some (gN (sR w6 30 6 (some (gN (sR w5 30 5 (some (gN (sR w4 30 4 (some (gN (sR w3 30 3 (some (gN (sR w2 30 2 (some (gN (sR w1 30 1 (some (gN (sI w 30 0 0))))))))))))))))))))))))) 30 9 (-1)) 30 10 0) 30 11 0) 30 12 0) 30 13 50) 30 14 0) 30 15 0)))) 30 17 0))))))))))))) 30 24 3)) (Int32.toNatClampNeg 5) 0) (gN (sI (sR w13 30 23 (some (gN (sR w12 30 22 (some (gN (sR w11 30 19 (some (gN (sR w10 30 18 (some (gN (sI (sR w9 30 16 (some (gN (sI (sI (sI (sI (sI (sI (sI (sR w8 30 8 (some (gN (sR w7 30 7 (some (gN (sR w6 30 6 (some (gN (sR w5 30 5 (some (gN (sR w4 30 4 (some (gN (sR w3 30 3 (some (gN (sR w2 30 2 (some (gN (sR w1 30 1 (some (gN (sI w 30 0 0))))))))))))))))))))))))) 30 9 (-1)) 30 10 0) 30 11 0) 30 12 0) 30 13 50) 30 14 0) 30 15 0)))) 30 17 0))))))))))))) 30 24 3)) (Int32.toNatClampNeg 6) 0) (gN (sI (sR w13 30 23 (some (gN (sR w12 30 22 (some (gN (sR w11 30 19 (some (gN (sR w10 30 18 (some (gN (sI (sR w9 30 16 (some (gN (sI (sI (sI (sI (sI (sI (sI (sR w8 30 8 (some (gN (sR w7 30 7 (some (gN (sR w6 30 6 (some (gN (sR w5 30 5 (some (gN (sR w4 30 4 (some (gN (sR w3 30 3 (some (gN (sR w2 30 2 (some (gN (sR w1 30 1 (some (gN (sI w 30 0 0))))))))))))))))))))))))) 30 9 (-1)) 30 10 0) 30 11 0) 30 12 0) 30 13 50) 30 14 0) 30 15 0)))) 30 17 0))))))))))))) 30 24 3)) (Int32.toNatClampNeg 7) 0) 30 25 (some (gN (sI (sR w13 30 23 (some (gN (sR w12 30 22 (some (gN (sR w11 30 19 (some (gN (sR w10 30 18 (some (gN (sI (sR w9 30 16 (some (gN (sI (sI (sI (sI (sI (sI (sI (sR w8 30 8 (some (gN (sR w7 30 7 (some (gN (sR w6 30 6 (some (gN (sR w5 30 5 (some (gN (sR w4 30 4 (some (gN (sR w3 30 3 (some (gN (sR w2 30 2 (some (gN (sR w1 30 1 (some (gN (sI w 30 0 0))))))))))))))))))))))))) 30 9 (-1)) 30 10 0) 30 11 0) 30 12 0) 30 13 50) 30 14 0) 30 15 0)))) 30 17 0))))))))))))) 30 24 3))))))))))))))))))))))))))))))) 30 35 0) 30 36 0) 30 37 0) 30 38 0)))))))))) 30 42 0))))))))))))))))))) 10 500 500).bind fun w41 =>
                    (nwB (sR w41 30 49 (some (gN (sR w40 30 48 (some (gN (sR w39 30 47 (some (gN (sR w38 30 46 (some (gN (sR w37 30 45 (some (gN (sR w36 30 44 (some (gN (sR w35 30 43 (some (gN (sI (sR w34 30 41 (some (gN (sR w33 30 40 (some (gN (sR w32 30 39 (some (gN (sI (sI (sI (sI (sR w31 30 34 (some (gN (sR w30 30 33 (some (gN (sR w29 30 32 (some (gN (sR w28 30 31 (some (gN (sR w27 30 30 (some (gN (sR w26 30 29 (some (gN (sR w25 30 28 (some (gN (sR w24 30 27 (some (gN (sR w23 30 26 (some (gN (sR (sI (sI (sI (sI (sI (sI (sI (sI w14 (gN (sI (sR w13 30 23 (some (gN (sR w12 30 22 (some (gN (sR w11 30 19 (some (gN (sR w10 30 18 (some (gN (sI (sR w9 30 16 (some (gN (sI (sI (sI (sI (sI (sI (sI (sR w8 30 8 (some (gN (sR w7 30 7 (some (gN (sR w6 30 6 (some (gN (sR w5 30 5 (some (gN (sR w4 30 4 (some (gN (sR w3 30 3 (some (gN (sR w2 30 2 (some (gN (sR w1 30 1 (some (gN (sI w 30 0 0))))))))))))))))))))))))) 30 9 (-1)) 30 10 0) 30 11 0) 30 12 0) 30 13 50) 30 14 0) 30 15 0)))) 30 17 0))))))))))))) 30 24 3)) (Int32.toNatClampNeg 0) 0) (gN (sI (sR w13 30 23 (some (gN (sR w12 30 22 (some (gN (sR w11 30 19 (some (gN (sR w10 30 18 (some (gN (sI (sR w9 30 16 (some (gN (sI (sI (sI (sI (sI (sI (sI (sR w8 30 8 (some (gN (sR w7 30 7 (some (gN (sR w6 30 6 (some (gN (sR w5 30 5 (some (gN (sR w4 30 4 (some (gN (sR w3 30 3 (some (gN (sR w2 30 2 (some (gN (sR w1 30 1 (some (gN (sI w 30 0 0))))))))))))))))))))))))) 30 9 (-1)) 30 10 0) 30 11 0) 30 12 0) 30 13 50) 30 14 0) 30 15 0)))) 30 17 0))))))))))))) 30 24 3)) (Int32.toNatClampNeg 1) 1) (gN (sI (sR w13 30 23 (some (gN (sR w12 30 22 (some (gN (sR w11 30 19 (some (gN (sR w10 30 18 (some (gN (sI (sR w9 30 16 (some (gN (sI (sI (sI (sI (sI (sI (sI (sR w8 30 8 (some (gN (sR w7 30 7 (some (gN (sR w6 30 6 (some (gN (sR w5 30 5 (some (gN (sR w4 30 4 (some (gN (sR w3 30 3 (some (gN (sR w2 30 2 (some (gN (sR w1 30 1 (some (gN (sI w 30 0 0))))))))))))))))))))))))) 30 9 (-1)) 30 10 0) 30 11 0) 30 12 0) 30 13 50) 30 14 0) 30 15 0)))) 30 17 0))))))))))))) 30 24 3)) (Int32.toNatClampNeg 2) 2) (gN (sI (sR w13 30 23 (some (gN (sR w12 30 22 (some (gN (sR w11 30 19 (some (gN (sR w10 30 18 (some (gN (sI (sR w9 30 16 (some (gN (sI (sI (sI (sI (sI (sI (sI (sR w8 30 8 (some (gN (sR w7 30 7 (some (gN (sR w6 30 6 (some (gN (sR w5 30 5 (some (gN (sR w4 30 4 (some (gN (sR w3 30 3 (some (gN (sR w2 30 2 (some (gN (sR w1 30 1 (some (gN (sI w 30 0 0))))))))))))))))))))))))) 30 9 (-1)) 30 10 0) 30 11 0) 30 12 0) 30 13 50) 30 14 0) 30 15 0)))) 30 17 0))))))))))))) 30 24 3)) (Int32.toNatClampNeg 3) 0) (gN (sI (sR w13 30 23 (some (gN (sR w12 30 22 (some (gN (sR w11 30 19 (some (gN (sR w10 30 18 (some (gN (sI (sR w9 30 16 (some (gN (sI (sI (sI (sI (sI (sI (sI (sR w8 30 8 (some (gN (sR w7 30 7 (some (gN (sR w6 30 6 (some (gN (sR w5 30 5 (some (gN (sR w4 30 4 (some (gN (sR w3 30 3 (some (gN (sR w2 30 2 (some (gN (sR w1 30 1 (some (gN (sI w 30 0 0))))))))))))))))))))))))) 30 9 (-1)) 30 10 0) 30 11 0) 30 12 0) 30 13 50) 30 14 0) 30 15 0)))) 30 17 0))))))))))))) 30 24 3)) (Int32.toNatClampNeg 4) 0) (gN (sI (sR w13 30 23 (some (gN (sR w12 30 22 (some (gN (sR w11 30 19 (some (gN (sR w10 30 18 (some (gN (sI (sR w9 30 16 (some (gN (sI (sI (sI (sI (sI (sI (sI (sR w8 30 8 (some (gN (sR w7 30 7 (some (gN (sR w6 30 6 (some (gN (sR w5 30 5 (some (gN (sR w4 30 4 (some (gN (sR w3 30 3 (some (gN (sR w2 30 2 (some (gN (sR w1 30 1 (some (gN (sI w 30 0 0))))))))))))))))))))))))) 30 9 (-1)) 30 10 0) 30 11 0) 30 12 0) 30 13 50) 30 14 0) 30 15 0)))) 30 17 0))))))))))))) 30 24 3)) (Int32.toNatClampNeg 5) 0) (gN (sI (sR w13 30 23 (some (gN (sR w12 30 22 (some (gN (sR w11 30 19 (some (gN (sR w10 30 18 (some (gN (sI (sR w9 30 16 (some (gN (sI (sI (sI (sI (sI (sI (sI (sR w8 30 8 (some (gN (sR w7 30 7 (some (gN (sR w6 30 6 (some (gN (sR w5 30 5 (some (gN (sR w4 30 4 (some (gN (sR w3 30 3 (some (gN (sR w2 30 2 (some (gN (sR w1 30 1 (some (gN (sI w 30 0 0))))))))))))))))))))))))) 30 9 (-1)) 30 10 0) 30 11 0) 30 12 0) 30 13 50) 30 14 0) 30 15 0)))) 30 17 0))))))))))))) 30 24 3)) (Int32.toNatClampNeg 6) 0) (gN (sI (sR w13 30 23 (some (gN (sR w12 30 22 (some (gN (sR w11 30 19 (some (gN (sR w10 30 18 (some (gN (sI (sR w9 30 16 (some (gN (sI (sI (sI (sI (sI (sI (sI (sR w8 30 8 (some (gN (sR w7 30 7 (some (gN (sR w6 30 6 (some (gN (sR w5 30 5 (some (gN (sR w4 30 4 (some (gN (sR w3 30 3 (some (gN (sR w2 30 2 (some (gN (sR w1 30 1 (some (gN (sI w 30 0 0))))))))))))))))))))))))) 30 9 (-1)) 30 10 0) 30 11 0) 30 12 0) 30 13 50) 30 14 0) 30 15 0)))) 30 17 0))))))))))))) 30 24 3)) (Int32.toNatClampNeg 7) 0) 30 25 (some (gN (sI (sR w13 30 23 (some (gN (sR w12 30 22 (some (gN (sR w11 30 19 (some (gN (sR w10 30 18 (some (gN (sI (sR w9 30 16 (some (gN (sI (sI (sI (sI (sI (sI (sI (sR w8 30 8 (some (gN (sR w7 30 7 (some (gN (sR w6 30 6 (some (gN (sR w5 30 5 (some (gN (sR w4 30 4 (some (gN (sR w3 30 3 (some (gN (sR w2 30 2 (some (gN (sR w1 30 1 (some (gN (sI w 30 0 0))))))))))))))))))))))))) 30 9 (-1)) 30 10 0) 30 11 0) 30 12 0) 30 13 50) 30 14 0) 30 15 0)))) 30 17 0))))))))))))) 30 24 3))))))))))))))))))))))))))))))) 30 35 0) 30 36 0) 30 37 0) 30 38 0)))))))))) 30 42 0)))))))))))))))))))))) 10 7 7).bind fun w42 =>
                    (nwB (sR w42 30 50 (some (gN (sR w41 30 49 (some (gN (sR w40 30 48 (some (gN (sR w39 30 47 (some (gN (sR w38 30 46 (some (gN (sR w37 30 45 (some (gN (sR w36 30 44 (some (gN (sR w35 30 43 (some (gN (sI (sR w34 30 41 (some (gN (sR w33 30 40 (some (gN (sR w32 30 39 (some (gN (sI (sI (sI (sI (sR w31 30 34 (some (gN (sR w30 30 33 (some (gN (sR w29 30 32 (some (gN (sR w28 30 31 (some (gN (sR w27 30 30 (some (gN (sR w26 30 29 (some (gN (sR w25 30 28 (some (gN (sR w24 30 27 (some (gN (sR w23 30 26 (some (gN (sR (sI (sI (sI (sI (sI (sI (sI (sI w14 (gN (sI (sR w13 30 23 (some (gN (sR w12 30 22 (some (gN (sR w11 30 19 (some (gN (sR w10 30 18 (some (gN (sI (sR w9 30 16 (some (gN (sI (sI (sI (sI (sI (sI (sI (sR w8 30 8 (some (gN (sR w7 30 7 (some (gN (sR w6 30 6 (some (gN (sR w5 30 5 (some (gN (sR w4 30 4 (some (gN (sR w3 30 3 (some (gN (sR w2 30 2 (some (gN (sR w1 30 1 (some (gN (sI w 30 0 0))))))))))))))))))))))))) 30 9 (-1)) 30 10 0) 30 11 0) 30 12 0) 30 13 50) 30 14 0) 30 15 0)))) 30 17 0))))))))))))) 30 24 3)) (Int32.toNatClampNeg 0) 0) (gN (sI (sR w13 30 23 (some (gN (sR w12 30 22 (some (gN (sR w11 30 19 (some (gN (sR w10 30 18 (some (gN (sI (sR w9 30 16 (some (gN (sI (sI (sI (sI (sI (sI (sI (sR w8 30 8 (some (gN (sR w7 30 7 (some (gN (sR w6 30 6 (some (gN (sR w5 30 5 (some (gN (sR w4 30 4 (some (gN (sR w3 30 3 (some (gN (sR w2 30 2 (some (gN (sR w1 30 1 (some (gN (sI w 30 0 0))))))))))))))))))))))))) 30 9 (-1)) 30 10 0) 30 11 0) 30 12 0) 30 13 50) 30 14 0) 30 15 0)))) 30 17 0))))))))))))) 30 24 3)) (Int32.toNatClampNeg 1) 1) (gN (sI (sR w13 30 23 (some (gN (sR w12 30 22 (some (gN (sR w11 30 19 (some (gN (sR w10 30 18 (some (gN (sI (sR w9 30 16 (some (gN (sI (sI (sI (sI (sI (sI (sI (sR w8 30 8 (some (gN (sR w7 30 7 (some (gN (sR w6 30 6 (some (gN (sR w5 30 5 (some (gN (sR w4 30 4 (some (gN (sR w3 30 3 (some (gN (sR w2 30 2 (some (gN (sR w1 30 1 (some (gN (sI w 30 0 0))))))))))))))))))))))))) 30 9 (-1)) 30 10 0) 30 11 0) 30 12 0) 30 13 50) 30 14 0) 30 15 0)))) 30 17 0))))))))))))) 30 24 3)) (Int32.toNatClampNeg 2) 2) (gN (sI (sR w13 30 23 (some (gN (sR w12 30 22 (some (gN (sR w11 30 19 (some (gN (sR w10 30 18 (some (gN (sI (sR w9 30 16 (some (gN (sI (sI (sI (sI (sI (sI (sI (sR w8 30 8 (some (gN (sR w7 30 7 (some (gN (sR w6 30 6 (some (gN (sR w5 30 5 (some (gN (sR w4 30 4 (some (gN (sR w3 30 3 (some (gN (sR w2 30 2 (some (gN (sR w1 30 1 (some (gN (sI w 30 0 0))))))))))))))))))))))))) 30 9 (-1)) 30 10 0) 30 11 0) 30 12 0) 30 13 50) 30 14 0) 30 15 0)))) 30 17 0))))))))))))) 30 24 3)) (Int32.toNatClampNeg 3) 0) (gN (sI (sR w13 30 23 (some (gN (sR w12 30 22 (some (gN (sR w11 30 19 (some (gN (sR w10 30 18 (some (gN (sI (sR w9 30 16 (some (gN (sI (sI (sI (sI (sI (sI (sI (sR w8 30 8 (some (gN (sR w7 30 7 (some (gN (sR w6 30 6 (some (gN (sR w5 30 5 (some (gN (sR w4 30 4 (some (gN (sR w3 30 3 (some (gN (sR w2 30 2 (some (gN (sR w1 30 1 (some (gN (sI w 30 0 0))))))))))))))))))))))))) 30 9 (-1)) 30 10 0) 30 11 0) 30 12 0) 30 13 50) 30 14 0) 30 15 0)))) 30 17 0))))))))))))) 30 24 3)) (Int32.toNatClampNeg 4) 0) (gN (sI (sR w13 30 23 (some (gN (sR w12 30 22 (some (gN (sR w11 30 19 (some (gN (sR w10 30 18 (some (gN (sI (sR w9 30 16 (some (gN (sI (sI (sI (sI (sI (sI (sI (sR w8 30 8 (some (gN (sR w7 30 7 (some (gN (sR w6 30 6 (some (gN (sR w5 30 5 (some (gN (sR w4 30 4 (some (gN (sR w3 30 3 (some (gN (sR w2 30 2 (some (gN (sR w1 30 1 (some (gN (sI w 30 0 0))))))))))))))))))))))))) 30 9 (-1)) 30 10 0) 30 11 0) 30 12 0) 30 13 50) 30 14 0) 30 15 0)))) 30 17 0))))))))))))) 30 24 3)) (Int32.toNatClampNeg 5) 0) (gN (sI (sR w13 30 23 (some (gN (sR w12 30 22 (some (gN (sR w11 30 19 (some (gN (sR w10 30 18 (some (gN (sI (sR w9 30 16 (some (gN (sI (sI (sI (sI (sI (sI (sI (sR w8 30 8 (some (gN (sR w7 30 7 (some (gN (sR w6 30 6 (some (gN (sR w5 30 5 (some (gN (sR w4 30 4 (some (gN (sR w3 30 3 (some (gN (sR w2 30 2 (some (gN (sR w1 30 1 (some (gN (sI w 30 0 0))))))))))))))))))))))))) 30 9 (-1)) 30 10 0) 30 11 0) 30 12 0) 30 13 50) 30 14 0) 30 15 0)))) 30 17 0))))))))))))) 30 24 3)) (Int32.toNatClampNeg 6) 0) (gN (sI (sR w13 30 23 (some (gN (sR w12 30 22 (some (gN (sR w11 30 19 (some (gN (sR w10 30 18 (some (gN (sI (sR w9 30 16 (some (gN (sI (sI (sI (sI (sI (sI (sI (sR w8 30 8 (some (gN (sR w7 30 7 (some (gN (sR w6 30 6 (some (gN (sR w5 30 5 (some (gN (sR w4 30 4 (some (gN (sR w3 30 3 (some (gN (sR w2 30 2 (some (gN (sR w1 30 1 (some (gN (sI w 30 0 0))))))))))))))))))))))))) 30 9 (-1)) 30 10 0) 30 11 0) 30 12 0) 30 13 50) 30 14 0) 30 15 0)))) 30 17 0))))))))))))) 30 24 3)) (Int32.toNatClampNeg 7) 0) 30 25 (some (gN (sI (sR w13 30 23 (some (gN (sR w12 30 22 (some (gN (sR w11 30 19 (some (gN (sR w10 30 18 (some (gN (sI (sR w9 30 16 (some (gN (sI (sI (sI (sI (sI (sI (sI (sR w8 30 8 (some (gN (sR w7 30 7 (some (gN (sR w6 30 6 (some (gN (sR w5 30 5 (some (gN (sR w4 30 4 (some (gN (sR w3 30 3 (some (gN (sR w2 30 2 (some (gN (sR w1 30 1 (some (gN (sI w 30 0 0))))))))))))))))))))))))) 30 9 (-1)) 30 10 0) 30 11 0) 30 12 0) 30 13 50) 30 14 0) 30 15 0)))) 30 17 0))))))))))))) 30 24 3))))))))))))))))))))))))))))))) 30 35 0) 30 36 0) 30 37 0) 30 38 0)))))))))) 30 42 0))))))))))))))))))))))))) 11 500 500).bind fun w43 =>
                    some (sR w43 30 51 (some (gN (sR w42 30 50 (some (gN (sR w41 30 49 (some (gN (sR w40 30 48 (some (gN (sR w39 30 47 (some (gN (sR w38 30 46 (some (gN (sR w37 30 45 (some (gN (sR w36 30 44 (some (gN (sR w35 30 43 (some (gN (sI (sR w34 30 41 (some (gN (sR w33 30 40 (some (gN (sR w32 30 39 (some (gN (sI (sI (sI (sI (sR w31 30 34 (some (gN (sR w30 30 33 (some (gN (sR w29 30 32 (some (gN (sR w28 30 31 (some (gN (sR w27 30 30 (some (gN (sR w26 30 29 (some (gN (sR w25 30 28 (some (gN (sR w24 30 27 (some (gN (sR w23 30 26 (some (gN (sR (sI (sI (sI (sI (sI (sI (sI (sI w14 (gN (sI (sR w13 30 23 (some (gN (sR w12 30 22 (some (gN (sR w11 30 19 (some (gN (sR w10 30 18 (some (gN (sI (sR w9 30 16 (some (gN (sI (sI (sI (sI (sI (sI (sI (sR w8 30 8 (some (gN (sR w7 30 7 (some (gN (sR w6 30 6 (some (gN (sR w5 30 5 (some (gN (sR w4 30 4 (some (gN (sR w3 30 3 (some (gN (sR w2 30 2 (some (gN (sR w1 30 1 (some (gN (sI w 30 0 0))))))))))))))))))))))))) 30 9 (-1)) 30 10 0) 30 11 0) 30 12 0) 30 13 50) 30 14 0) 30 15 0)))) 30 17 0))))))))))))) 30 24 3)) (Int32.toNatClampNeg 0) 0) (gN (sI (sR w13 30 23 (some (gN (sR w12 30 22 (some (gN (sR w11 30 19 (some (gN (sR w10 30 18 (some (gN (sI (sR w9 30 16 (some (gN (sI (sI (sI (sI (sI (sI (sI (sR w8 30 8 (some (gN (sR w7 30 7 (some (gN (sR w6 30 6 (some (gN (sR w5 30 5 (some (gN (sR w4 30 4 (some (gN (sR w3 30 3 (some (gN (sR w2 30 2 (some (gN (sR w1 30 1 (some (gN (sI w 30 0 0))))))))))))))))))))))))) 30 9 (-1)) 30 10 0) 30 11 0) 30 12 0) 30 13 50) 30 14 0) 30 15 0)))) 30 17 0))))))))))))) 30 24 3)) (Int32.toNatClampNeg 1) 1) (gN (sI (sR w13 30 23 (some (gN (sR w12 30 22 (some (gN (sR w11 30 19 (some (gN (sR w10 30 18 (some (gN (sI (sR w9 30 16 (some (gN (sI (sI (sI (sI (sI (sI (sI (sR w8 30 8 (some (gN (sR w7 30 7 (some (gN (sR w6 30 6 (some (gN (sR w5 30 5 (some (gN (sR w4 30 4 (some (gN (sR w3 30 3 (some (gN (sR w2 30 2 (some (gN (sR w1 30 1 (some (gN (sI w 30 0 0))))))))))))))))))))))))) 30 9 (-1)) 30 10 0) 30 11 0) 30 12 0) 30 13 50) 30 14 0) 30 15 0)))) 30 17 0))))))))))))) 30 24 3)) (Int32.toNatClampNeg 2) 2) (gN (sI (sR w13 30 23 (some (gN (sR w12 30 22 (some (gN (sR w11 30 19 (some (gN (sR w10 30 18 (some (gN (sI (sR w9 30 16 (some (gN (sI (sI (sI (sI (sI (sI (sI (sR w8 30 8 (some (gN (sR w7 30 7 (some (gN (sR w6 30 6 (some (gN (sR w5 30 5 (some (gN (sR w4 30 4 (some (gN (sR w3 30 3 (some (gN (sR w2 30 2 (some (gN (sR w1 30 1 (some (gN (sI w 30 0 0))))))))))))))))))))))))) 30 9 (-1)) 30 10 0) 30 11 0) 30 12 0) 30 13 50) 30 14 0) 30 15 0)))) 30 17 0))))))))))))) 30 24 3)) (Int32.toNatClampNeg 3) 0) (gN (sI (sR w13 30 23 (some (gN (sR w12 30 22 (some (gN (sR w11 30 19 (some (gN (sR w10 30 18 (some (gN (sI (sR w9 30 16 (some (gN (sI (sI (sI (sI (sI (sI (sI (sR w8 30 8 (some (gN (sR w7 30 7 (some (gN (sR w6 30 6 (some (gN (sR w5 30 5 (some (gN (sR w4 30 4 (some (gN (sR w3 30 3 (some (gN (sR w2 30 2 (some (gN (sR w1 30 1 (some (gN (sI w 30 0 0))))))))))))))))))))))))) 30 9 (-1)) 30 10 0) 30 11 0) 30 12 0) 30 13 50) 30 14 0) 30 15 0)))) 30 17 0))))))))))))) 30 24 3)) (Int32.toNatClampNeg 4) 0) (gN (sI (sR w13 30 23 (some (gN (sR w12 30 22 (some (gN (sR w11 30 19 (some (gN (sR w10 30 18 (some (gN (sI (sR w9 30 16 (some (gN (sI (sI (sI (sI (sI (sI (sI (sR w8 30 8 (some (gN (sR w7 30 7 (some (gN (sR w6 30 6 (some (gN (sR w5 30 5 (some (gN (sR w4 30 4 (some (gN (sR w3 30 3 (some (gN (sR w2 30 2 (some (gN (sR w1 30 1 (some (gN (sI w 30 0 0))))))))))))))))))))))))) 30 9 (-1)) 30 10 0) 30 11 0) 30 12 0) 30 13 50) 30 14 0) 30 15 0)))) 30 17 0))))))))))))) 30 24 3)) (Int32.toNatClampNeg 5) 0) (gN (sI (sR w13 30 23 (some (gN (sR w12 30 22 (some (gN (sR w11 30 19 (some (gN (sR w10 30 18 (some (gN (sI (sR w9 30 16 (some (gN (sI (sI (sI (sI (sI (sI (sI (sR w8 30 8 (some (gN (sR w7 30 7 (some (gN (sR w6 30 6 (some (gN (sR w5 30 5 (some (gN (sR w4 30 4 (some (gN (sR w3 30 3 (some (gN (sR w2 30 2 (some (gN (sR w1 30 1 (some (gN (sI w 30 0 0))))))))))))))))))))))))) 30 9 (-1)) 30 10 0) 30 11 0) 30 12 0) 30 13 50) 30 14 0) 30 15 0)))) 30 17 0))))))))))))) 30 24 3)) (Int32.toNatClampNeg 6) 0) (gN (sI (sR w13 30 23 (some (gN (sR w12 30 22 (some (gN (sR w11 30 19 (some (gN (sR w10 30 18 (some (gN (sI (sR w9 30 16 (some (gN (sI (sI (sI (sI (sI (sI (sI (sR w8 30 8 (some (gN (sR w7 30 7 (some (gN (sR w6 30 6 (some (gN (sR w5 30 5 (some (gN (sR w4 30 4 (some (gN (sR w3 30 3 (some (gN (sR w2 30 2 (some (gN (sR w1 30 1 (some (gN (sI w 30 0 0))))))))))))))))))))))))) 30 9 (-1)) 30 10 0) 30 11 0) 30 12 0) 30 13 50) 30 14 0) 30 15 0)))) 30 17 0))))))))))))) 30 24 3)) (Int32.toNatClampNeg 7) 0) 30 25 (some (gN (sI (sR w13 30 23 (some (gN (sR w12 30 22 (some (gN (sR w11 30 19 (some (gN (sR w10 30 18 (some (gN (sI (sR w9 30 16 (some (gN (sI (sI (sI (sI (sI (sI (sI (sR w8 30 8 (some (gN (sR w7 30 7 (some (gN (sR w6 30 6 (some (gN (sR w5 30 5 (some (gN (sR w4 30 4 (some (gN (sR w3 30 3 (some (gN (sR w2 30 2 (some (gN (sR w1 30 1 (some (gN (sI w 30 0 0))))))))))))))))))))))))) 30 9 (-1)) 30 10 0) 30 11 0) 30 12 0) 30 13 50) 30 14 0) 30 15 0)))) 30 17 0))))))))))))) 30 24 3))))))))))))))))))))))))))))))) 30 35 0) 30 36 0) 30 37 0) 30 38 0)))))))))) 30 42 0))))))))))))))))))))))))))), ())
                  else none
                else none
              else none
            else none
          else none
        else none
      else none
    else none
theorem sim0_X3_init {G : Gx} (hG : GW G) {l : Launch} (hl : l.stackTraces = false) (d : Nat) (w : Wd) : Mt G false l yX3_init (ws_ yX3_init cX3_init 1 (none)) d (rrV G pU) [aR 3 (some 30)] w (f_X3_init d w) := by
  refine Mt.of (own := "IntervalTreeModel") hG hl (by decide +kernel) rfl rfl ?_
  intro M hM hr hnm hxt hnd K
  subst hM
  cases d with
  | zero => exact j_none
  | succ d =>
    refine j_aload_n K dX3_init_0 rfl ?_
    refine j_objI K dX3_init_1 q1255 q122 q123 (by omega) rfl rfl ?_
    refine j_aload_n K dX3_init_4 rfl ?_
    refine j_iconstZ K dX3_init_5 rfl (Or.inl rfl) ?_
    refine j_putI (k := 0) K dX3_init_6 rfl rfl q1256 rfl (Or.inl rfl) rfl rfl rfl rfl ?_
    refine j_aload_n K dX3_init_9 rfl ?_
    refine j_sipush (x := 500) K dX3_init_10 (by decide +kernel) ?_
    refine j_newaB (kd := 10) (N := 500) (ty := .int) K dX3_init_13 rfl rfl (fun _ _ h => h) rfl q286 (by decide +kernel) (by decide +kernel) rfl (fun _ => rfl) (fun w1 => ?_)
    refine j_putR (k := 1) K dX3_init_15 rfl rfl q1257 rfl (Or.inr ⟨rfl, hnm, rfl⟩) rfl (Or.inr ⟨_, rfl⟩) rfl (by decide) rfl (fun h => by cases h) rfl ?_
    refine j_aload_n K dX3_init_18 rfl ?_
    refine j_sipush (x := 500) K dX3_init_19 (by decide +kernel) ?_
    refine j_newaB (kd := 10) (N := 500) (ty := .int) K dX3_init_22 rfl rfl (fun _ _ h => h) rfl q286 (by decide +kernel) (by decide +kernel) rfl (fun _ => rfl) (fun w2 => ?_)
    refine j_putR (k := 2) K dX3_init_24 rfl rfl q1258 rfl (Or.inr ⟨rfl, hnm, rfl⟩) rfl (Or.inr ⟨_, rfl⟩) rfl (by decide) rfl (fun h => by cases h) rfl ?_
    refine j_aload_n K dX3_init_27 rfl ?_
    refine j_sipush (x := 500) K dX3_init_28 (by decide +kernel) ?_
    refine j_newaB (kd := 10) (N := 500) (ty := .int) K dX3_init_31 rfl rfl (fun _ _ h => h) rfl q286 (by decide +kernel) (by decide +kernel) rfl (fun _ => rfl) (fun w3 => ?_)
    refine j_putR (k := 3) K dX3_init_33 rfl rfl q1259 rfl (Or.inr ⟨rfl, hnm, rfl⟩) rfl (Or.inr ⟨_, rfl⟩) rfl (by decide) rfl (fun h => by cases h) rfl ?_
    refine j_aload_n K dX3_init_36 rfl ?_
    refine j_sipush (x := 500) K dX3_init_37 (by decide +kernel) ?_
    refine j_newaB (kd := 10) (N := 500) (ty := .int) K dX3_init_40 rfl rfl (fun _ _ h => h) rfl q286 (by decide +kernel) (by decide +kernel) rfl (fun _ => rfl) (fun w4 => ?_)
    refine j_putR (k := 4) K dX3_init_42 rfl rfl q1260 rfl (Or.inr ⟨rfl, hnm, rfl⟩) rfl (Or.inr ⟨_, rfl⟩) rfl (by decide) rfl (fun h => by cases h) rfl ?_
    refine j_aload_n K dX3_init_45 rfl ?_
    refine j_sipush (x := 500) K dX3_init_46 (by decide +kernel) ?_
    refine j_newaB (kd := 10) (N := 500) (ty := .int) K dX3_init_49 rfl rfl (fun _ _ h => h) rfl q286 (by decide +kernel) (by decide +kernel) rfl (fun _ => rfl) (fun w5 => ?_)
    refine j_putR (k := 5) K dX3_init_51 rfl rfl q1261 rfl (Or.inr ⟨rfl, hnm, rfl⟩) rfl (Or.inr ⟨_, rfl⟩) rfl (by decide) rfl (fun h => by cases h) rfl ?_
    refine j_aload_n K dX3_init_54 rfl ?_
    refine j_sipush (x := 500) K dX3_init_55 (by decide +kernel) ?_
    refine j_newaB (kd := 10) (N := 500) (ty := .int) K dX3_init_58 rfl rfl (fun _ _ h => h) rfl q286 (by decide +kernel) (by decide +kernel) rfl (fun _ => rfl) (fun w6 => ?_)
    refine j_putR (k := 6) K dX3_init_60 rfl rfl q1262 rfl (Or.inr ⟨rfl, hnm, rfl⟩) rfl (Or.inr ⟨_, rfl⟩) rfl (by decide) rfl (fun h => by cases h) rfl ?_
    refine j_aload_n K dX3_init_63 rfl ?_
    refine j_sipush (x := 500) K dX3_init_64 (by decide +kernel) ?_
    refine j_newaB (kd := 10) (N := 500) (ty := .int) K dX3_init_67 rfl rfl (fun _ _ h => h) rfl q286 (by decide +kernel) (by decide +kernel) rfl (fun _ => rfl) (fun w7 => ?_)
    refine j_putR (k := 7) K dX3_init_69 rfl rfl q1263 rfl (Or.inr ⟨rfl, hnm, rfl⟩) rfl (Or.inr ⟨_, rfl⟩) rfl (by decide) rfl (fun h => by cases h) rfl ?_
    refine j_aload_n K dX3_init_72 rfl ?_
    refine j_sipush (x := 500) K dX3_init_73 (by decide +kernel) ?_
    refine j_newaB (kd := 11) (N := 500) (ty := .boolean) K dX3_init_76 rfl rfl (fun _ _ h => h) rfl q288 (by decide +kernel) (by decide +kernel) rfl (fun _ => rfl) (fun w8 => ?_)
    refine j_putR (k := 8) K dX3_init_78 rfl rfl q1264 rfl (Or.inr ⟨rfl, hnm, rfl⟩) rfl (Or.inr ⟨_, rfl⟩) rfl (by decide) rfl (fun h => by cases h) rfl ?_
    refine j_aload_n K dX3_init_81 rfl ?_
    refine j_iconst (x := (-1)) K dX3_init_82 rfl ?_
    refine j_putI (k := 9) K dX3_init_83 rfl rfl q1265 rfl (Or.inl rfl) rfl rfl rfl rfl ?_
    refine j_aload_n K dX3_init_86 rfl ?_
    refine j_iconstZ K dX3_init_87 rfl (Or.inl rfl) ?_
    refine j_putI (k := 10) K dX3_init_88 rfl rfl q1266 rfl (Or.inl rfl) rfl rfl rfl rfl ?_
    refine j_aload_n K dX3_init_91 rfl ?_
    refine j_iconstZ K dX3_init_92 rfl (Or.inl rfl) ?_
    refine j_putI (k := 11) K dX3_init_93 rfl rfl q1267 rfl (Or.inl rfl) rfl rfl rfl rfl ?_
    refine j_aload_n K dX3_init_96 rfl ?_
    refine j_iconstZ K dX3_init_97 rfl (Or.inl rfl) ?_
    refine j_putI (k := 12) K dX3_init_98 rfl rfl q1268 rfl (Or.inl rfl) rfl rfl rfl rfl ?_
    refine j_aload_n K dX3_init_101 rfl ?_
    refine j_bipush (x := 50) K dX3_init_102 (by decide +kernel) ?_
    refine j_putI (k := 13) K dX3_init_104 rfl rfl q1269 rfl (Or.inl rfl) rfl rfl rfl rfl ?_
    refine j_aload_n K dX3_init_107 rfl ?_
    refine j_iconstZ K dX3_init_108 rfl (Or.inl rfl) ?_
    refine j_putI (k := 14) K dX3_init_109 rfl rfl q1270 rfl (Or.inl rfl) rfl rfl rfl rfl ?_
    refine j_aload_n K dX3_init_112 rfl ?_
    refine j_iconstZ K dX3_init_113 rfl (Or.inl rfl) ?_
    refine j_putI (k := 15) K dX3_init_114 rfl rfl q1271 rfl (Or.inl rfl) rfl rfl rfl rfl ?_
    refine j_aload_n K dX3_init_117 rfl ?_
    refine j_sipush (x := 500) K dX3_init_118 (by decide +kernel) ?_
    refine j_newaB (kd := 10) (N := 500) (ty := .int) K dX3_init_121 rfl rfl (fun _ _ h => h) rfl q286 (by decide +kernel) (by decide +kernel) rfl (fun _ => rfl) (fun w9 => ?_)
    refine j_putR (k := 16) K dX3_init_123 rfl rfl q1272 rfl (Or.inr ⟨rfl, hnm, rfl⟩) rfl (Or.inr ⟨_, rfl⟩) rfl (by decide) rfl (fun h => by cases h) rfl ?_
    refine j_aload_n K dX3_init_126 rfl ?_
    refine j_iconstZ K dX3_init_127 rfl (Or.inl rfl) ?_
    refine j_putI (k := 17) K dX3_init_128 rfl rfl q1273 rfl (Or.inl rfl) rfl rfl rfl rfl ?_
    refine j_aload_n K dX3_init_131 rfl ?_
    refine j_sipush (x := 500) K dX3_init_132 (by decide +kernel) ?_
    refine j_newaB (kd := 10) (N := 500) (ty := .int) K dX3_init_135 rfl rfl (fun _ _ h => h) rfl q286 (by decide +kernel) (by decide +kernel) rfl (fun _ => rfl) (fun w10 => ?_)
    refine j_putR (k := 18) K dX3_init_137 rfl rfl q1274 rfl (Or.inr ⟨rfl, hnm, rfl⟩) rfl (Or.inr ⟨_, rfl⟩) rfl (by decide) rfl (fun h => by cases h) rfl ?_
    refine j_aload_n K dX3_init_140 rfl ?_
    refine j_sipush (x := 500) K dX3_init_141 (by decide +kernel) ?_
    refine j_newaB (kd := 10) (N := 500) (ty := .int) K dX3_init_144 rfl rfl (fun _ _ h => h) rfl q286 (by decide +kernel) (by decide +kernel) rfl (fun _ => rfl) (fun w11 => ?_)
    refine j_putR (k := 19) K dX3_init_146 rfl rfl q1275 rfl (Or.inr ⟨rfl, hnm, rfl⟩) rfl (Or.inr ⟨_, rfl⟩) rfl (by decide) rfl (fun h => by cases h) rfl ?_
    refine j_aload_n K dX3_init_149 rfl ?_
    refine j_sipush (x := 2002) K dX3_init_150 (by decide +kernel) ?_
    refine j_newaB (kd := 10) (N := 2002) (ty := .int) K dX3_init_153 rfl rfl (fun _ _ h => h) rfl q286 (by decide +kernel) (by decide +kernel) rfl (fun _ => rfl) (fun w12 => ?_)
    refine j_putR (k := 22) K dX3_init_155 rfl rfl q1278 rfl (Or.inr ⟨rfl, hnm, rfl⟩) rfl (Or.inr ⟨_, rfl⟩) rfl (by decide) rfl (fun h => by cases h) rfl ?_
    refine j_aload_n K dX3_init_158 rfl ?_
    refine j_sipush (x := 501) K dX3_init_159 (by decide +kernel) ?_
    refine j_newaB (kd := 10) (N := 501) (ty := .int) K dX3_init_162 rfl rfl (fun _ _ h => h) rfl q286 (by decide +kernel) (by decide +kernel) rfl (fun _ => rfl) (fun w13 => ?_)
    refine j_putR (k := 23) K dX3_init_164 rfl rfl q1279 rfl (Or.inr ⟨rfl, hnm, rfl⟩) rfl (Or.inr ⟨_, rfl⟩) rfl (by decide) rfl (fun h => by cases h) rfl ?_
    refine j_aload_n K dX3_init_167 rfl ?_
    refine j_iconst (x := 3) K dX3_init_168 rfl ?_
    refine j_putI (k := 24) K dX3_init_169 rfl rfl q1280 rfl (Or.inl rfl) rfl rfl rfl rfl ?_
    refine j_aload_n K dX3_init_172 rfl ?_
    refine j_bipush (x := 8) K dX3_init_173 (by decide +kernel) ?_
    refine j_newaB (kd := 10) (N := 8) (ty := .int) K dX3_init_175 rfl rfl (fun _ _ h => h) rfl q286 (by decide +kernel) (by decide +kernel) rfl (fun _ => rfl) (fun w14 => ?_)
    refine j_dup K dX3_init_177 rfl ?_
    refine j_iconstZ K dX3_init_178 rfl (Or.inl rfl) ?_
    refine j_iconstZ K dX3_init_179 rfl (Or.inl rfl) ?_
    refine j_ib (fun hi15 => ?_)
    refine j_ias K dX3_init_180 rfl gLen hi15 ?_
    refine j_dup K dX3_init_181 rfl ?_
    refine j_iconstZ K dX3_init_182 rfl (Or.inr rfl) ?_
    refine j_iconstZ K dX3_init_183 rfl (Or.inr rfl) ?_
    refine j_ib (fun hi16 => ?_)
    refine j_ias K dX3_init_184 rfl gLen hi16 ?_
    refine j_dup K dX3_init_185 rfl ?_
    refine j_iconst (x := 2) K dX3_init_186 rfl ?_
    refine j_iconst (x := 2) K dX3_init_187 rfl ?_
    refine j_ib (fun hi17 => ?_)
    refine j_ias K dX3_init_188 rfl gLen hi17 ?_
    refine j_dup K dX3_init_189 rfl ?_
    refine j_iconst (x := 3) K dX3_init_190 rfl ?_
    refine j_iconstZ K dX3_init_191 rfl (Or.inl rfl) ?_
    refine j_ib (fun hi18 => ?_)
    refine j_ias K dX3_init_192 rfl gLen hi18 ?_
    refine j_dup K dX3_init_193 rfl ?_
    refine j_iconst (x := 4) K dX3_init_194 rfl ?_
    refine j_iconstZ K dX3_init_195 rfl (Or.inl rfl) ?_
    refine j_ib (fun hi19 => ?_)
    refine j_ias K dX3_init_196 rfl gLen hi19 ?_
    refine j_dup K dX3_init_197 rfl ?_
    refine j_iconst (x := 5) K dX3_init_198 rfl ?_
    refine j_iconstZ K dX3_init_199 rfl (Or.inl rfl) ?_
    refine j_ib (fun hi20 => ?_)
    refine j_ias K dX3_init_200 rfl gLen hi20 ?_
    refine j_dup K dX3_init_201 rfl ?_
    refine j_bipush (x := 6) K dX3_init_202 (by decide +kernel) ?_
    refine j_iconstZ K dX3_init_204 rfl (Or.inl rfl) ?_
    refine j_ib (fun hi21 => ?_)
    refine j_ias K dX3_init_205 rfl gLen hi21 ?_
    refine j_dup K dX3_init_206 rfl ?_
    refine j_bipush (x := 7) K dX3_init_207 (by decide +kernel) ?_
    refine j_iconstZ K dX3_init_209 rfl (Or.inl rfl) ?_
    refine j_ib (fun hi22 => ?_)
    refine j_ias K dX3_init_210 rfl gLen hi22 ?_
    refine j_putR (k := 25) K dX3_init_211 rfl rfl q1281 rfl (Or.inr ⟨rfl, hnm, rfl⟩) rfl (Or.inr ⟨_, rfl⟩) rfl (by decide) rfl (fun h => by cases h) rfl ?_
    refine j_aload_n K dX3_init_214 rfl ?_
    refine j_bipush (x := 8) K dX3_init_215 (by decide +kernel) ?_
    refine j_newaB (kd := 10) (N := 8) (ty := .int) K dX3_init_217 rfl rfl (fun _ _ h => h) rfl q286 (by decide +kernel) (by decide +kernel) rfl (fun _ => rfl) (fun w23 => ?_)
    refine j_putR (k := 26) K dX3_init_219 rfl rfl q1282 rfl (Or.inr ⟨rfl, hnm, rfl⟩) rfl (Or.inr ⟨_, rfl⟩) rfl (by decide) rfl (fun h => by cases h) rfl ?_
    refine j_aload_n K dX3_init_222 rfl ?_
    refine j_bipush (x := 8) K dX3_init_223 (by decide +kernel) ?_
    refine j_newaB (kd := 10) (N := 8) (ty := .int) K dX3_init_225 rfl rfl (fun _ _ h => h) rfl q286 (by decide +kernel) (by decide +kernel) rfl (fun _ => rfl) (fun w24 => ?_)
    refine j_putR (k := 27) K dX3_init_227 rfl rfl q1283 rfl (Or.inr ⟨rfl, hnm, rfl⟩) rfl (Or.inr ⟨_, rfl⟩) rfl (by decide) rfl (fun h => by cases h) rfl ?_
    refine j_aload_n K dX3_init_230 rfl ?_
    refine j_bipush (x := 8) K dX3_init_231 (by decide +kernel) ?_
    refine j_newaB (kd := 10) (N := 8) (ty := .int) K dX3_init_233 rfl rfl (fun _ _ h => h) rfl q286 (by decide +kernel) (by decide +kernel) rfl (fun _ => rfl) (fun w25 => ?_)
    refine j_putR (k := 28) K dX3_init_235 rfl rfl q1284 rfl (Or.inr ⟨rfl, hnm, rfl⟩) rfl (Or.inr ⟨_, rfl⟩) rfl (by decide) rfl (fun h => by cases h) rfl ?_
    refine j_aload_n K dX3_init_238 rfl ?_
    refine j_bipush (x := 8) K dX3_init_239 (by decide +kernel) ?_
    refine j_newaB (kd := 10) (N := 8) (ty := .int) K dX3_init_241 rfl rfl (fun _ _ h => h) rfl q286 (by decide +kernel) (by decide +kernel) rfl (fun _ => rfl) (fun w26 => ?_)
    refine j_putR (k := 29) K dX3_init_243 rfl rfl q1285 rfl (Or.inr ⟨rfl, hnm, rfl⟩) rfl (Or.inr ⟨_, rfl⟩) rfl (by decide) rfl (fun h => by cases h) rfl ?_
    refine j_aload_n K dX3_init_246 rfl ?_
    refine j_sipush (x := 480) K dX3_init_247 (by decide +kernel) ?_
    refine j_newaB (kd := 10) (N := 480) (ty := .int) K dX3_init_250 rfl rfl (fun _ _ h => h) rfl q286 (by decide +kernel) (by decide +kernel) rfl (fun _ => rfl) (fun w27 => ?_)
    refine j_putR (k := 30) K dX3_init_252 rfl rfl q1286 rfl (Or.inr ⟨rfl, hnm, rfl⟩) rfl (Or.inr ⟨_, rfl⟩) rfl (by decide) rfl (fun h => by cases h) rfl ?_
    refine j_aload_n K dX3_init_255 rfl ?_
    refine j_sipush (x := 480) K dX3_init_256 (by decide +kernel) ?_
    refine j_newaB (kd := 10) (N := 480) (ty := .int) K dX3_init_259 rfl rfl (fun _ _ h => h) rfl q286 (by decide +kernel) (by decide +kernel) rfl (fun _ => rfl) (fun w28 => ?_)
    refine j_putR (k := 31) K dX3_init_261 rfl rfl q1287 rfl (Or.inr ⟨rfl, hnm, rfl⟩) rfl (Or.inr ⟨_, rfl⟩) rfl (by decide) rfl (fun h => by cases h) rfl ?_
    refine j_aload_n K dX3_init_264 rfl ?_
    refine j_sipush (x := 480) K dX3_init_265 (by decide +kernel) ?_
    refine j_newaB (kd := 10) (N := 480) (ty := .int) K dX3_init_268 rfl rfl (fun _ _ h => h) rfl q286 (by decide +kernel) (by decide +kernel) rfl (fun _ => rfl) (fun w29 => ?_)
    refine j_putR (k := 32) K dX3_init_270 rfl rfl q1288 rfl (Or.inr ⟨rfl, hnm, rfl⟩) rfl (Or.inr ⟨_, rfl⟩) rfl (by decide) rfl (fun h => by cases h) rfl ?_
    refine j_aload_n K dX3_init_273 rfl ?_
    refine j_sipush (x := 480) K dX3_init_274 (by decide +kernel) ?_
    refine j_newaB (kd := 11) (N := 480) (ty := .boolean) K dX3_init_277 rfl rfl (fun _ _ h => h) rfl q288 (by decide +kernel) (by decide +kernel) rfl (fun _ => rfl) (fun w30 => ?_)
    refine j_putR (k := 33) K dX3_init_279 rfl rfl q1289 rfl (Or.inr ⟨rfl, hnm, rfl⟩) rfl (Or.inr ⟨_, rfl⟩) rfl (by decide) rfl (fun h => by cases h) rfl ?_
    refine j_aload_n K dX3_init_282 rfl ?_
    refine j_bipush (x := 60) K dX3_init_283 (by decide +kernel) ?_
    refine j_newaB (kd := 10) (N := 60) (ty := .int) K dX3_init_285 rfl rfl (fun _ _ h => h) rfl q286 (by decide +kernel) (by decide +kernel) rfl (fun _ => rfl) (fun w31 => ?_)
    refine j_putR (k := 34) K dX3_init_287 rfl rfl q1290 rfl (Or.inr ⟨rfl, hnm, rfl⟩) rfl (Or.inr ⟨_, rfl⟩) rfl (by decide) rfl (fun h => by cases h) rfl ?_
    refine j_aload_n K dX3_init_290 rfl ?_
    refine j_iconstZ K dX3_init_291 rfl (Or.inl rfl) ?_
    refine j_putI (k := 35) K dX3_init_292 rfl rfl q1291 rfl (Or.inl rfl) rfl rfl rfl rfl ?_
    refine j_aload_n K dX3_init_295 rfl ?_
    refine j_iconstZ K dX3_init_296 rfl (Or.inl rfl) ?_
    refine j_putI (k := 36) K dX3_init_297 rfl rfl q1292 rfl (Or.inl rfl) rfl rfl rfl rfl ?_
    refine j_aload_n K dX3_init_300 rfl ?_
    refine j_iconstZ K dX3_init_301 rfl (Or.inl rfl) ?_
    refine j_putI (k := 37) K dX3_init_302 rfl rfl q1293 rfl (Or.inl rfl) rfl rfl rfl rfl ?_
    refine j_aload_n K dX3_init_305 rfl ?_
    refine j_iconstZ K dX3_init_306 rfl (Or.inl rfl) ?_
    refine j_putZ (k := 38) K dX3_init_307 rfl rfl q1294 rfl (Or.inl rfl) rfl rfl rfl ?_
    refine j_aload_n K dX3_init_310 rfl ?_
    refine j_iconst (x := 4) K dX3_init_311 rfl ?_
    refine j_newaB (kd := 11) (N := 4) (ty := .boolean) K dX3_init_312 rfl rfl (fun _ _ h => h) rfl q288 (by decide +kernel) (by decide +kernel) rfl (fun _ => rfl) (fun w32 => ?_)
    refine j_putR (k := 39) K dX3_init_314 rfl rfl q1295 rfl (Or.inr ⟨rfl, hnm, rfl⟩) rfl (Or.inr ⟨_, rfl⟩) rfl (by decide) rfl (fun h => by cases h) rfl ?_
    refine j_aload_n K dX3_init_317 rfl ?_
    refine j_iconst (x := 4) K dX3_init_318 rfl ?_
    refine j_newaB (kd := 10) (N := 4) (ty := .int) K dX3_init_319 rfl rfl (fun _ _ h => h) rfl q286 (by decide +kernel) (by decide +kernel) rfl (fun _ => rfl) (fun w33 => ?_)
    refine j_putR (k := 40) K dX3_init_321 rfl rfl q1296 rfl (Or.inr ⟨rfl, hnm, rfl⟩) rfl (Or.inr ⟨_, rfl⟩) rfl (by decide) rfl (fun h => by cases h) rfl ?_
    refine j_aload_n K dX3_init_324 rfl ?_
    refine j_iconst (x := 4) K dX3_init_325 rfl ?_
    refine j_newaB (kd := 10) (N := 4) (ty := .int) K dX3_init_326 rfl rfl (fun _ _ h => h) rfl q286 (by decide +kernel) (by decide +kernel) rfl (fun _ => rfl) (fun w34 => ?_)
    refine j_putR (k := 41) K dX3_init_328 rfl rfl q1297 rfl (Or.inr ⟨rfl, hnm, rfl⟩) rfl (Or.inr ⟨_, rfl⟩) rfl (by decide) rfl (fun h => by cases h) rfl ?_
    refine j_aload_n K dX3_init_331 rfl ?_
    refine j_iconstZ K dX3_init_332 rfl (Or.inl rfl) ?_
    refine j_putZ (k := 42) K dX3_init_333 rfl rfl q1298 rfl (Or.inl rfl) rfl rfl rfl ?_
    refine j_aload_n K dX3_init_336 rfl ?_
    refine j_sipush (x := 500) K dX3_init_337 (by decide +kernel) ?_
    refine j_newaB (kd := 10) (N := 500) (ty := .int) K dX3_init_340 rfl rfl (fun _ _ h => h) rfl q286 (by decide +kernel) (by decide +kernel) rfl (fun _ => rfl) (fun w35 => ?_)
    refine j_putR (k := 43) K dX3_init_342 rfl rfl q1299 rfl (Or.inr ⟨rfl, hnm, rfl⟩) rfl (Or.inr ⟨_, rfl⟩) rfl (by decide) rfl (fun h => by cases h) rfl ?_
    refine j_aload_n K dX3_init_345 rfl ?_
    refine j_sipush (x := 500) K dX3_init_346 (by decide +kernel) ?_
    refine j_newaB (kd := 10) (N := 500) (ty := .int) K dX3_init_349 rfl rfl (fun _ _ h => h) rfl q286 (by decide +kernel) (by decide +kernel) rfl (fun _ => rfl) (fun w36 => ?_)
    refine j_putR (k := 44) K dX3_init_351 rfl rfl q1300 rfl (Or.inr ⟨rfl, hnm, rfl⟩) rfl (Or.inr ⟨_, rfl⟩) rfl (by decide) rfl (fun h => by cases h) rfl ?_
    refine j_aload_n K dX3_init_354 rfl ?_
    refine j_sipush (x := 500) K dX3_init_355 (by decide +kernel) ?_
    refine j_newaB (kd := 10) (N := 500) (ty := .int) K dX3_init_358 rfl rfl (fun _ _ h => h) rfl q286 (by decide +kernel) (by decide +kernel) rfl (fun _ => rfl) (fun w37 => ?_)
    refine j_putR (k := 45) K dX3_init_360 rfl rfl q1301 rfl (Or.inr ⟨rfl, hnm, rfl⟩) rfl (Or.inr ⟨_, rfl⟩) rfl (by decide) rfl (fun h => by cases h) rfl ?_
    refine j_aload_n K dX3_init_363 rfl ?_
    refine j_sipush (x := 500) K dX3_init_364 (by decide +kernel) ?_
    refine j_newaB (kd := 10) (N := 500) (ty := .int) K dX3_init_367 rfl rfl (fun _ _ h => h) rfl q286 (by decide +kernel) (by decide +kernel) rfl (fun _ => rfl) (fun w38 => ?_)
    refine j_putR (k := 46) K dX3_init_369 rfl rfl q1302 rfl (Or.inr ⟨rfl, hnm, rfl⟩) rfl (Or.inr ⟨_, rfl⟩) rfl (by decide) rfl (fun h => by cases h) rfl ?_
    refine j_aload_n K dX3_init_372 rfl ?_
    refine j_sipush (x := 500) K dX3_init_373 (by decide +kernel) ?_
    refine j_newaB (kd := 10) (N := 500) (ty := .int) K dX3_init_376 rfl rfl (fun _ _ h => h) rfl q286 (by decide +kernel) (by decide +kernel) rfl (fun _ => rfl) (fun w39 => ?_)
    refine j_putR (k := 47) K dX3_init_378 rfl rfl q1303 rfl (Or.inr ⟨rfl, hnm, rfl⟩) rfl (Or.inr ⟨_, rfl⟩) rfl (by decide) rfl (fun h => by cases h) rfl ?_
    refine j_aload_n K dX3_init_381 rfl ?_
    refine j_sipush (x := 500) K dX3_init_382 (by decide +kernel) ?_
    refine j_newaB (kd := 10) (N := 500) (ty := .int) K dX3_init_385 rfl rfl (fun _ _ h => h) rfl q286 (by decide +kernel) (by decide +kernel) rfl (fun _ => rfl) (fun w40 => ?_)
    refine j_putR (k := 48) K dX3_init_387 rfl rfl q1304 rfl (Or.inr ⟨rfl, hnm, rfl⟩) rfl (Or.inr ⟨_, rfl⟩) rfl (by decide) rfl (fun h => by cases h) rfl ?_
    refine j_aload_n K dX3_init_390 rfl ?_
    refine j_sipush (x := 500) K dX3_init_391 (by decide +kernel) ?_
    refine j_newaB (kd := 10) (N := 500) (ty := .int) K dX3_init_394 rfl rfl (fun _ _ h => h) rfl q286 (by decide +kernel) (by decide +kernel) rfl (fun _ => rfl) (fun w41 => ?_)
    refine j_putR (k := 49) K dX3_init_396 rfl rfl q1305 rfl (Or.inr ⟨rfl, hnm, rfl⟩) rfl (Or.inr ⟨_, rfl⟩) rfl (by decide) rfl (fun h => by cases h) rfl ?_
    refine j_aload_n K dX3_init_399 rfl ?_
    refine j_bipush (x := 7) K dX3_init_400 (by decide +kernel) ?_
    refine j_newaB (kd := 10) (N := 7) (ty := .int) K dX3_init_402 rfl rfl (fun _ _ h => h) rfl q286 (by decide +kernel) (by decide +kernel) rfl (fun _ => rfl) (fun w42 => ?_)
    refine j_putR (k := 50) K dX3_init_404 rfl rfl q1306 rfl (Or.inr ⟨rfl, hnm, rfl⟩) rfl (Or.inr ⟨_, rfl⟩) rfl (by decide) rfl (fun h => by cases h) rfl ?_
    refine j_aload_n K dX3_init_407 rfl ?_
    refine j_sipush (x := 500) K dX3_init_408 (by decide +kernel) ?_
    refine j_newaB (kd := 11) (N := 500) (ty := .boolean) K dX3_init_411 rfl rfl (fun _ _ h => h) rfl q288 (by decide +kernel) (by decide +kernel) rfl (fun _ => rfl) (fun w43 => ?_)
    refine j_putR (k := 51) K dX3_init_413 rfl rfl q1307 rfl (Or.inr ⟨rfl, hnm, rfl⟩) rfl (Or.inr ⟨_, rfl⟩) rfl (by decide) rfl (fun h => by cases h) rfl ?_
    exact j_vret K hr dX3_init_416

theorem pm_X3_in : yX3_in.cls = RX3 ∧ yX3_in.cls ≠ "java/lang/invoke/MethodHandle" ∧ yX3_in.cls ≠ "java/lang/invoke/VarHandle" ∧ (parseMethodDescriptor yX3_in.desc).map (fun d => d.parameters.length) = some 3 := by decide +kernel
def f_X3_in (d : Nat) (p1 : Int32) (p2 : Int32) (p3 : Int32) (w : Wd) : Option (Wd × Int32) :=
  match d with
  | 0 => none
  | d + 1 =>
    if p1 < p2 then
      some (w, 0)
    else
      if p3 < p1 then
        some (w, 0)
      else
        some (w, 1)
theorem sim_X3_in {G : Gx} (hG : GW G) {l : Launch} (hl : l.stackTraces = false) (d : Nat) (p1 : Int32) (p2 : Int32) (p3 : Int32) (w : Wd) (fp1 : Bool) (fp2 : Bool) (fp3 : Bool) : Mt G true l yX3_in (ws_ yX3_in cX3_in 3 (some .boolean)) d (rrV G pZ) [aB fp1 p1, aB fp2 p2, aB fp3 p3] w (f_X3_in d p1 p2 p3 w) := by
  refine Mt.of (own := "IntervalTreeModel") hG hl (by decide +kernel) rfl rfl ?_
  intro M hM hr hnm hxt hnd K
  subst hM
  cases d with
  | zero => exact j_none
  | succ d =>
    refine j_iload_n K dX3_in_0 rfl ?_
    refine j_iload_n K dX3_in_1 rfl ?_
    refine j_icmp_lt 14 K dX3_in_2 (by decide) ?_ ?_
    · refine j_iconstZ K dX3_in_14 rfl (Or.inl rfl) ?_
      exact j_zret K hr dX3_in_15
    · refine j_iload_n K dX3_in_5 rfl ?_
      refine j_iload_n K dX3_in_6 rfl ?_
      refine j_icmp_gt 14 K dX3_in_7 (by decide) ?_ ?_
      · refine j_iconstZ K dX3_in_14 rfl (Or.inl rfl) ?_
        exact j_zret K hr dX3_in_15
      · refine j_iconstZ K dX3_in_10 rfl (Or.inr rfl) ?_
        refine j_goto 15 K dX3_in_11 (by decide) ?_
        exact j_zret K hr dX3_in_15

theorem pm_X3_fails : yX3_fails.cls = RX3 ∧ yX3_fails.cls ≠ "java/lang/invoke/MethodHandle" ∧ yX3_fails.cls ≠ "java/lang/invoke/VarHandle" ∧ (parseMethodDescriptor yX3_fails.desc).map (fun d => d.parameters.length) = some 1 := by decide +kernel
def f_X3_fails (d : Nat) (p1 : Int32) (w : Wd) : Option (Wd × Int32) :=
  match d with
  | 0 => none
  | d + 1 =>
    some (sI w 30 0 p1, 0)
theorem sim_X3_fails {G : Gx} (hG : GW G) {l : Launch} (hl : l.stackTraces = false) (d : Nat) (p1 : Int32) (w : Wd) (fp1 : Bool) : Mt G true l yX3_fails (ws_ yX3_fails cX3_fails 2 (some .int)) d (rrV G pI) [aR 3 (some 30), aB fp1 p1] w (f_X3_fails d p1 w) := by
  refine Mt.of (own := "IntervalTreeModel") hG hl (by decide +kernel) rfl rfl ?_
  intro M hM hr hnm hxt hnd K
  subst hM
  cases d with
  | zero => exact j_none
  | succ d =>
    refine j_aload_n K dX3_fails_0 rfl ?_
    refine j_iload_n K dX3_fails_1 rfl ?_
    refine j_putI (k := 0) K dX3_fails_2 rfl rfl q1256 rfl (Or.inl rfl) rfl rfl rfl rfl ?_
    refine j_iconstZ K dX3_fails_5 rfl (Or.inl rfl) ?_
    exact j_iret K hr dX3_fails_6

theorem pm_X3_isLess : yX3_isLess.cls = RX3 ∧ yX3_isLess.cls ≠ "java/lang/invoke/MethodHandle" ∧ yX3_isLess.cls ≠ "java/lang/invoke/VarHandle" ∧ (parseMethodDescriptor yX3_isLess.desc).map (fun d => d.parameters.length) = some 2 := by decide +kernel
def f_X3_isLess (d : Nat) (p1 : Int32) (p2 : Int32) (w : Wd) : Option (Wd × Int32) :=
  match d with
  | 0 => none
  | d + 1 =>
    if ib p1 500 = true then
      if ib p2 500 = true then
        if (gI w 31 p1.toNatClampNeg) = (gI w 31 p2.toNatClampNeg) then
          if (gI w 32 p1.toNatClampNeg) = (gI w 32 p2.toNatClampNeg) then
            if p2 ≤ p1 then
              some (w, 0)
            else
              some (w, 1)
          else
            if (gI w 32 p2.toNatClampNeg) ≤ (gI w 32 p1.toNatClampNeg) then
              some (w, 0)
            else
              some (w, 1)
        else
          if (gI w 31 p2.toNatClampNeg) ≤ (gI w 31 p1.toNatClampNeg) then
            some (w, 0)
          else
            some (w, 1)
      else none
    else none
theorem sim_X3_isLess {G : Gx} (hG : GW G) {l : Launch} (hl : l.stackTraces = false) (d : Nat) (p1 : Int32) (p2 : Int32) (w : Wd) (fp1 : Bool) (fp2 : Bool) : Mt G true l yX3_isLess (ws_ yX3_isLess cX3_isLess 3 (some .boolean)) d (rrV G pZ) [aR 3 (some 30), aB fp1 p1, aB fp2 p2] w (f_X3_isLess d p1 p2 w) := by
  refine Mt.of (own := "IntervalTreeModel") hG hl (by decide +kernel) rfl rfl ?_
  intro M hM hr hnm hxt hnd K
  subst hM
  cases d with
  | zero => exact j_none
  | succ d =>
    refine j_aload_n K dX3_isLess_0 rfl ?_
    refine j_getA (k := 1) 15 K dX3_isLess_1 rfl rfl rfl q1257 rfl rfl (by decide) rfl rfl rfl ?_
    refine j_iload_n K dX3_isLess_4 rfl ?_
    refine j_ib (fun hi1 => ?_)
    refine j_ial K dX3_isLess_5 rfl (fxLen 15 rfl rfl) hi1 ?_
    refine j_aload_n K dX3_isLess_6 rfl ?_
    refine j_getA (k := 1) 15 K dX3_isLess_7 rfl rfl rfl q1257 rfl rfl (by decide) rfl rfl rfl ?_
    refine j_iload_n K dX3_isLess_10 rfl ?_
    refine j_ib (fun hi2 => ?_)
    refine j_ial K dX3_isLess_11 rfl (fxLen 15 rfl rfl) hi2 ?_
    refine j_icmp_eq 36 K dX3_isLess_12 (by decide) ?_ ?_
    · refine j_aload_n K dX3_isLess_36 rfl ?_
      refine j_getA (k := 2) 16 K dX3_isLess_37 rfl rfl rfl q1258 rfl rfl (by decide) rfl rfl rfl ?_
      refine j_iload_n K dX3_isLess_40 rfl ?_
      refine j_ial K dX3_isLess_41 rfl (fxLen 16 rfl rfl) hi1 ?_
      refine j_aload_n K dX3_isLess_42 rfl ?_
      refine j_getA (k := 2) 16 K dX3_isLess_43 rfl rfl rfl q1258 rfl rfl (by decide) rfl rfl rfl ?_
      refine j_iload_n K dX3_isLess_46 rfl ?_
      refine j_ial K dX3_isLess_47 rfl (fxLen 16 rfl rfl) hi2 ?_
      refine j_icmp_eq 72 K dX3_isLess_48 (by decide) ?_ ?_
      · refine j_iload_n K dX3_isLess_72 rfl ?_
        refine j_iload_n K dX3_isLess_73 rfl ?_
        refine j_icmp_ge 81 K dX3_isLess_74 (by decide) ?_ ?_
        · refine j_iconstZ K dX3_isLess_81 rfl (Or.inl rfl) ?_
          exact j_zret K hr dX3_isLess_82
        · refine j_iconstZ K dX3_isLess_77 rfl (Or.inr rfl) ?_
          refine j_goto 82 K dX3_isLess_78 (by decide) ?_
          exact j_zret K hr dX3_isLess_82
      · refine j_aload_n K dX3_isLess_51 rfl ?_
        refine j_getA (k := 2) 16 K dX3_isLess_52 rfl rfl rfl q1258 rfl rfl (by decide) rfl rfl rfl ?_
        refine j_iload_n K dX3_isLess_55 rfl ?_
        refine j_ial K dX3_isLess_56 rfl (fxLen 16 rfl rfl) hi1 ?_
        refine j_aload_n K dX3_isLess_57 rfl ?_
        refine j_getA (k := 2) 16 K dX3_isLess_58 rfl rfl rfl q1258 rfl rfl (by decide) rfl rfl rfl ?_
        refine j_iload_n K dX3_isLess_61 rfl ?_
        refine j_ial K dX3_isLess_62 rfl (fxLen 16 rfl rfl) hi2 ?_
        refine j_icmp_ge 70 K dX3_isLess_63 (by decide) ?_ ?_
        · refine j_iconstZ K dX3_isLess_70 rfl (Or.inl rfl) ?_
          exact j_zret K hr dX3_isLess_71
        · refine j_iconstZ K dX3_isLess_66 rfl (Or.inr rfl) ?_
          refine j_goto 71 K dX3_isLess_67 (by decide) ?_
          exact j_zret K hr dX3_isLess_71
    · refine j_aload_n K dX3_isLess_15 rfl ?_
      refine j_getA (k := 1) 15 K dX3_isLess_16 rfl rfl rfl q1257 rfl rfl (by decide) rfl rfl rfl ?_
      refine j_iload_n K dX3_isLess_19 rfl ?_
      refine j_ial K dX3_isLess_20 rfl (fxLen 15 rfl rfl) hi1 ?_
      refine j_aload_n K dX3_isLess_21 rfl ?_
      refine j_getA (k := 1) 15 K dX3_isLess_22 rfl rfl rfl q1257 rfl rfl (by decide) rfl rfl rfl ?_
      refine j_iload_n K dX3_isLess_25 rfl ?_
      refine j_ial K dX3_isLess_26 rfl (fxLen 15 rfl rfl) hi2 ?_
      refine j_icmp_ge 34 K dX3_isLess_27 (by decide) ?_ ?_
      · refine j_iconstZ K dX3_isLess_34 rfl (Or.inl rfl) ?_
        exact j_zret K hr dX3_isLess_35
      · refine j_iconstZ K dX3_isLess_30 rfl (Or.inr rfl) ?_
        refine j_goto 35 K dX3_isLess_31 (by decide) ?_
        exact j_zret K hr dX3_isLess_35

theorem pm_X3_layRow : yX3_layRow.cls = RX3 ∧ yX3_layRow.cls ≠ "java/lang/invoke/MethodHandle" ∧ yX3_layRow.cls ≠ "java/lang/invoke/VarHandle" ∧ (parseMethodDescriptor yX3_layRow.desc).map (fun d => d.parameters.length) = some 0 := by decide +kernel
def b_X3_layRow_89 (d : Nat) (k7 : Int32 → Wd → Option (Wd × Unit)) (x1 : Int32) (w : Wd) : Option (Wd × Unit) :=
  k7 (x1 + 1) w
def b_X3_layRow_72 (d : Nat) (k7 : Int32 → Wd → Option (Wd × Unit)) (x1 : Int32) (x2 : Int32) (w : Wd) : Option (Wd × Unit) :=
  if ib x2 500 = true then
    b_X3_layRow_89 d k7 x1 (sI (sI w 39 x2.toNatClampNeg x1) 30 17 ((gI (sI w 39 x2.toNatClampNeg x1) 30 17) + 1))
  else none
def b_X3_layRow_32 (d : Nat) : Nat → (Int32 → Wd → Option (Wd × Unit)) → Int32 → Int32 → Wd → Option (Wd × Unit)
  | 0, _, _, _, _ => none
  | n + 1, k7, x1, x2, w =>
    if x2 ≤ 0 then
      b_X3_layRow_72 d k7 x1 x2 w
    else
      if ib (x2 - 1) 500 = true then
        (f_X3_isLess d x1 (gI w 39 (x2 - 1).toNatClampNeg) w).bind fun r3 =>
        if r3.2 = 0 then
          b_X3_layRow_72 d k7 x1 x2 r3.1
        else
          if ib x2 500 = true then
            b_X3_layRow_32 d n k7 x1 (x2 + (-1)) (sI r3.1 39 x2.toNatClampNeg (gI r3.1 39 (x2 - 1).toNatClampNeg))
          else none
      else none
def b_X3_layRow_7 (d : Nat) : Nat → Int32 → Wd → Option (Wd × Unit)
  | 0, _, _ => none
  | n + 1, x1, w =>
    if (gI w 30 10) ≤ x1 then
      some (w, ())
    else
      if ib x1 500 = true then
        if (gI w 34 x1.toNatClampNeg) = 0 then
          b_X3_layRow_32 d FU (b_X3_layRow_7 d n) x1 (gI w 30 17) w
        else
          b_X3_layRow_89 d (b_X3_layRow_7 d n) x1 w
      else none
def f_X3_layRow (d : Nat) (w : Wd) : Option (Wd × Unit) :=
  match d with
  | 0 => none
  | d + 1 =>
    b_X3_layRow_7 d FU 0 (sI w 30 17 0)
theorem sb_X3_layRow_89 {G : Gx} (hG : GW G) {M : Mx} (hl : (mL M).stackTraces = false) {w0 : Wd} {d : Nat} (K : Cx (G, true, M, 3, w0) cX3_layRow "IntervalTreeModel" (d + 1)) (hr : (mH M).sig.returnType = none) (hnm : (mH M).name = yX3_layRow.name) (hxt : ∀ x ∈ (mC M).exceptionTable.toList, False) (hnd : (mS M).methodNamed? yX3_layRow = some (mM M)) {k7 : Int32 → Wd → Option (Wd × Unit)} (hk7 : ∀ (x1 : Int32) (w : Wd) (fx1 : Bool), Jf (G, true, M, 3, w0) (rrV G pU) (k7 x1 w) w 7 [some (aR 3 (some 30)), some (aB fx1 x1), none] []) : ∀ (x1 : Int32) (w : Wd) (fx1 : Bool), Jf (G, true, M, 3, w0) (rrV G pU) (b_X3_layRow_89 d k7 x1 w) w 89 [some (aR 3 (some 30)), some (aB fx1 x1), none] [] := by
  intro x1 w fx1
  refine j_iinc (y := 1) K dX3_layRow_89 rfl rfl rfl rfl ?_
  refine j_goto 7 K dX3_layRow_92 (by decide) ?_
  exact j_wk (hk7 _ _ _) ⟨rfl, rfl, trivial⟩
theorem sb_X3_layRow_72 {G : Gx} (hG : GW G) {M : Mx} (hl : (mL M).stackTraces = false) {w0 : Wd} {d : Nat} (K : Cx (G, true, M, 3, w0) cX3_layRow "IntervalTreeModel" (d + 1)) (hr : (mH M).sig.returnType = none) (hnm : (mH M).name = yX3_layRow.name) (hxt : ∀ x ∈ (mC M).exceptionTable.toList, False) (hnd : (mS M).methodNamed? yX3_layRow = some (mM M)) {k7 : Int32 → Wd → Option (Wd × Unit)} (hk7 : ∀ (x1 : Int32) (w : Wd) (fx1 : Bool), Jf (G, true, M, 3, w0) (rrV G pU) (k7 x1 w) w 7 [some (aR 3 (some 30)), some (aB fx1 x1), none] []) : ∀ (x1 : Int32) (x2 : Int32) (w : Wd) (fx1 : Bool) (fx2 : Bool), Jf (G, true, M, 3, w0) (rrV G pU) (b_X3_layRow_72 d k7 x1 x2 w) w 72 [some (aR 3 (some 30)), some (aB fx1 x1), some (aB fx2 x2)] [] := by
  intro x1 x2 w fx1 fx2
  refine j_aload_n K dX3_layRow_72 rfl ?_
  refine j_getA (k := 16) 23 K dX3_layRow_73 rfl rfl rfl q1272 rfl rfl (by decide) rfl rfl rfl ?_
  refine j_iload_n K dX3_layRow_76 rfl ?_
  refine j_iload_n K dX3_layRow_77 rfl ?_
  refine j_ib (fun hi2 => ?_)
  refine j_ias K dX3_layRow_78 rfl (fxLen2 23 rfl rfl) hi2 ?_
  refine j_aload_n K dX3_layRow_79 rfl ?_
  refine j_dup K dX3_layRow_80 rfl ?_
  refine j_getI (k := 17) K dX3_layRow_81 rfl rfl rfl q1273 rfl rfl rfl ?_
  refine j_iconstZ K dX3_layRow_84 rfl (Or.inr rfl) ?_
  refine j_iadd K dX3_layRow_85 ?_
  refine j_putI (k := 17) K dX3_layRow_86 rfl rfl q1273 rfl (Or.inl rfl) rfl rfl rfl rfl ?_
  exact j_wk (sb_X3_layRow_89 hG hl K hr hnm hxt hnd hk7 _ _ _) ⟨rfl, rfl, trivial⟩
theorem sb_X3_layRow_32 {G : Gx} (hG : GW G) {M : Mx} (hl : (mL M).stackTraces = false) {w0 : Wd} {d : Nat} (K : Cx (G, true, M, 3, w0) cX3_layRow "IntervalTreeModel" (d + 1)) (hr : (mH M).sig.returnType = none) (hnm : (mH M).name = yX3_layRow.name) (hxt : ∀ x ∈ (mC M).exceptionTable.toList, False) (hnd : (mS M).methodNamed? yX3_layRow = some (mM M)) {k7 : Int32 → Wd → Option (Wd × Unit)} (hk7 : ∀ (x1 : Int32) (w : Wd) (fx1 : Bool), Jf (G, true, M, 3, w0) (rrV G pU) (k7 x1 w) w 7 [some (aR 3 (some 30)), some (aB fx1 x1), none] []) : ∀ (n : Nat), ∀ (x1 : Int32) (x2 : Int32) (w : Wd) (fx1 : Bool) (fx2 : Bool), Jf (G, true, M, 3, w0) (rrV G pU) (b_X3_layRow_32 d n k7 x1 x2 w) w 32 [some (aR 3 (some 30)), some (aB fx1 x1), some (aB fx2 x2)] [] := by
  intro n
  induction n with
  | zero => intros; exact j_none
  | succ n ih =>
    intro x1 x2 w fx1 fx2
    refine j_iload_n K dX3_layRow_32 rfl ?_
    refine j_if_le 72 K dX3_layRow_33 (by decide) ?_ ?_
    · exact sb_X3_layRow_72 hG hl K hr hnm hxt hnd hk7 _ _ _ _ _
    · refine j_aload_n K dX3_layRow_36 rfl ?_
      refine j_iload_n K dX3_layRow_37 rfl ?_
      refine j_aload_n K dX3_layRow_38 rfl ?_
      refine j_getA (k := 16) 23 K dX3_layRow_39 rfl rfl rfl q1272 rfl rfl (by decide) rfl rfl rfl ?_
      refine j_iload_n K dX3_layRow_42 rfl ?_
      refine j_iconstZ K dX3_layRow_43 rfl (Or.inr rfl) ?_
      refine j_isub K dX3_layRow_44 ?_
      refine j_ib (fun hi2 => ?_)
      refine j_ial K dX3_layRow_45 rfl (fxLen 23 rfl rfl) hi2 ?_
      refine j_callV _ K (sim_X3_isLess hG hl d x1 (gI w 39 (x2 - 1).toNatClampNeg) w fx1 false) dX3_layRow_46 rfl rfl q1432 q1434 qs54 q95 q1435 pm_X3_isLess rfl rfl rfl rfl rfl (fun r3 _ => ?_)
      refine j_if_eq 72 K dX3_layRow_49 (by decide) ?_ ?_
      · exact sb_X3_layRow_72 hG hl K hr hnm hxt hnd hk7 _ _ _ _ _
      · refine j_aload_n K dX3_layRow_52 rfl ?_
        refine j_getA (k := 16) 23 K dX3_layRow_53 rfl rfl rfl q1272 rfl rfl (by decide) rfl rfl rfl ?_
        refine j_iload_n K dX3_layRow_56 rfl ?_
        refine j_aload_n K dX3_layRow_57 rfl ?_
        refine j_getA (k := 16) 23 K dX3_layRow_58 rfl rfl rfl q1272 rfl rfl (by decide) rfl rfl rfl ?_
        refine j_iload_n K dX3_layRow_61 rfl ?_
        refine j_iconstZ K dX3_layRow_62 rfl (Or.inr rfl) ?_
        refine j_isub K dX3_layRow_63 ?_
        refine j_ial K dX3_layRow_64 rfl (fxLen 23 rfl rfl) hi2 ?_
        refine j_ib (fun hi4 => ?_)
        refine j_ias K dX3_layRow_65 rfl (fxLen2 23 rfl rfl) hi4 ?_
        refine j_iinc (y := (-1)) K dX3_layRow_66 rfl rfl rfl rfl ?_
        refine j_goto 32 K dX3_layRow_69 (by decide) ?_
        exact ih _ _ _ _ _
theorem sb_X3_layRow_7 {G : Gx} (hG : GW G) {M : Mx} (hl : (mL M).stackTraces = false) {w0 : Wd} {d : Nat} (K : Cx (G, true, M, 3, w0) cX3_layRow "IntervalTreeModel" (d + 1)) (hr : (mH M).sig.returnType = none) (hnm : (mH M).name = yX3_layRow.name) (hxt : ∀ x ∈ (mC M).exceptionTable.toList, False) (hnd : (mS M).methodNamed? yX3_layRow = some (mM M)) : ∀ (n : Nat), ∀ (x1 : Int32) (w : Wd) (fx1 : Bool), Jf (G, true, M, 3, w0) (rrV G pU) (b_X3_layRow_7 d n x1 w) w 7 [some (aR 3 (some 30)), some (aB fx1 x1), none] [] := by
  intro n
  induction n with
  | zero => intros; exact j_none
  | succ n ih =>
    intro x1 w fx1
    refine j_iload_n K dX3_layRow_7 rfl ?_
    refine j_aload_n K dX3_layRow_8 rfl ?_
    refine j_getI (k := 10) K dX3_layRow_9 rfl rfl rfl q1266 rfl rfl rfl ?_
    refine j_icmp_ge 95 K dX3_layRow_12 (by decide) ?_ ?_
    · exact j_vret K hr dX3_layRow_95
    · refine j_aload_n K dX3_layRow_15 rfl ?_
      refine j_getA (k := 4) 18 K dX3_layRow_16 rfl rfl rfl q1260 rfl rfl (by decide) rfl rfl rfl ?_
      refine j_iload_n K dX3_layRow_19 rfl ?_
      refine j_ib (fun hi1 => ?_)
      refine j_ial K dX3_layRow_20 rfl (fxLen 18 rfl rfl) hi1 ?_
      refine j_if_eq 27 K dX3_layRow_21 (by decide) ?_ ?_
      · refine j_aload_n K dX3_layRow_27 rfl ?_
        refine j_getI (k := 17) K dX3_layRow_28 rfl rfl rfl q1273 rfl rfl rfl ?_
        refine j_istore_n K dX3_layRow_31 rfl rfl ?_
        exact sb_X3_layRow_32 hG hl K hr hnm hxt hnd ih FU _ _ _ _ _
      · refine j_goto 89 K dX3_layRow_24 (by decide) ?_
        exact j_wk (sb_X3_layRow_89 hG hl K hr hnm hxt hnd ih _ _ _) ⟨rfl, rfl, trivial⟩
theorem sim_X3_layRow {G : Gx} (hG : GW G) {l : Launch} (hl : l.stackTraces = false) (d : Nat) (w : Wd) : Mt G true l yX3_layRow (ws_ yX3_layRow cX3_layRow 3 (none)) d (rrV G pU) [aR 3 (some 30)] w (f_X3_layRow d w) := by
  refine Mt.of (own := "IntervalTreeModel") hG hl (by decide +kernel) rfl rfl ?_
  intro M hM hr hnm hxt hnd K
  subst hM
  cases d with
  | zero => exact j_none
  | succ d =>
    refine j_aload_n K dX3_layRow_0 rfl ?_
    refine j_iconstZ K dX3_layRow_1 rfl (Or.inl rfl) ?_
    refine j_putI (k := 17) K dX3_layRow_2 rfl rfl q1273 rfl (Or.inl rfl) rfl rfl rfl rfl ?_
    refine j_iconstZ K dX3_layRow_5 rfl (Or.inl rfl) ?_
    refine j_istore_n K dX3_layRow_6 rfl rfl ?_
    exact j_wk (sb_X3_layRow_7 hG hl K hr hnm hxt hnd FU _ _ _) ⟨rfl, rfl, trivial⟩

theorem pm_X3_built : yX3_built.cls = RX3 ∧ yX3_built.cls ≠ "java/lang/invoke/MethodHandle" ∧ yX3_built.cls ≠ "java/lang/invoke/VarHandle" ∧ (parseMethodDescriptor yX3_built.desc).map (fun d => d.parameters.length) = some 4 := by decide +kernel
def fB_X3_built (d : Nat) (g_X3_built : Int32 → Int32 → Int32 → Int32 → Wd → Option (Wd × Int32)) (p1 : Int32) (p2 : Int32) (p3 : Int32) (p4 : Int32) (w : Wd) : Option (Wd × Int32) :=
  if p1 = p2 then
    some (w, (-1))
  else
    if ib ((p1 + p2) / 2) 500 = true then
      if ib (gI w 39 ((p1 + p2) / 2).toNatClampNeg) 500 = true then
        if ib p4 500 = true then
          (g_X3_built p1 ((p1 + p2) / 2) (gI w 39 ((p1 + p2) / 2).toNatClampNeg) (p4 + 1) (sI (sI (sI (sI w 37 (gI w 39 ((p1 + p2) / 2).toNatClampNeg).toNatClampNeg p3) 38 (gI w 39 ((p1 + p2) / 2).toNatClampNeg).toNatClampNeg (vp_nar .boolean 0)) 41 (gI w 39 ((p1 + p2) / 2).toNatClampNeg).toNatClampNeg p4) 40 p4.toNatClampNeg ((gI (sI (sI (sI w 37 (gI w 39 ((p1 + p2) / 2).toNatClampNeg).toNatClampNeg p3) 38 (gI w 39 ((p1 + p2) / 2).toNatClampNeg).toNatClampNeg (vp_nar .boolean 0)) 41 (gI w 39 ((p1 + p2) / 2).toNatClampNeg).toNatClampNeg p4) 40 p4.toNatClampNeg) + 1))).bind fun r4 =>
          (g_X3_built (((p1 + p2) / 2) + 1) p2 (gI w 39 ((p1 + p2) / 2).toNatClampNeg) (p4 + 1) (sI r4.1 35 (gI w 39 ((p1 + p2) / 2).toNatClampNeg).toNatClampNeg r4.2)).bind fun r5 =>
          some (sI r5.1 36 (gI w 39 ((p1 + p2) / 2).toNatClampNeg).toNatClampNeg r5.2, (gI w 39 ((p1 + p2) / 2).toNatClampNeg))
        else none
      else none
    else none
theorem simB_X3_built {G : Gx} (hG : GW G) {l : Launch} (hl : l.stackTraces = false) (d : Nat) {g_X3_built : Int32 → Int32 → Int32 → Int32 → Wd → Option (Wd × Int32)} (hg_X3_built : ∀ (p1 : Int32) (p2 : Int32) (p3 : Int32) (p4 : Int32) (w : Wd) (fp1 : Bool) (fp2 : Bool) (fp3 : Bool) (fp4 : Bool), Mt G true l yX3_built (ws_ yX3_built cX3_built 7 (some .int)) d (rrV G pI) [aR 3 (some 30), aB fp1 p1, aB fp2 p2, aB fp3 p3, aB fp4 p4] w (g_X3_built p1 p2 p3 p4 w)) (p1 : Int32) (p2 : Int32) (p3 : Int32) (p4 : Int32) (w : Wd) (fp1 : Bool) (fp2 : Bool) (fp3 : Bool) (fp4 : Bool) : Mt G true l yX3_built (ws_ yX3_built cX3_built 7 (some .int)) (d + 1) (rrV G pI) [aR 3 (some 30), aB fp1 p1, aB fp2 p2, aB fp3 p3, aB fp4 p4] w (fB_X3_built d g_X3_built p1 p2 p3 p4 w) := by
  refine Mt.of (own := "IntervalTreeModel") hG hl (by decide +kernel) rfl rfl ?_
  intro M hM hr hnm hxt hnd K
  subst hM
  refine j_iload_n K dX3_built_0 rfl ?_
  refine j_iload_n K dX3_built_1 rfl ?_
  refine j_icmp_ne 7 K dX3_built_2 (by decide) ?_ ?_
  · refine j_iload_n K dX3_built_7 rfl ?_
    refine j_iload_n K dX3_built_8 rfl ?_
    refine j_iadd K dX3_built_9 ?_
    refine j_iconst (x := 2) K dX3_built_10 rfl ?_
    refine j_idiv K dX3_built_11 (by decide) ?_
    refine j_istore K dX3_built_12 rfl rfl ?_
    refine j_aload_n K dX3_built_14 rfl ?_
    refine j_getA (k := 16) 23 K dX3_built_15 rfl rfl rfl q1272 rfl rfl (by decide) rfl rfl rfl ?_
    refine j_iload K dX3_built_18 rfl ?_
    refine j_ib (fun hi1 => ?_)
    refine j_ial K dX3_built_20 rfl (fxLen 23 rfl rfl) hi1 ?_
    refine j_istore K dX3_built_21 rfl rfl ?_
    refine j_aload_n K dX3_built_23 rfl ?_
    refine j_getA (k := 7) 21 K dX3_built_24 rfl rfl rfl q1263 rfl rfl (by decide) rfl rfl rfl ?_
    refine j_iload K dX3_built_27 rfl ?_
    refine j_iload_n K dX3_built_29 rfl ?_
    refine j_ib (fun hi2 => ?_)
    refine j_ias K dX3_built_30 rfl (fxLen2 21 rfl rfl) hi2 ?_
    refine j_aload_n K dX3_built_31 rfl ?_
    refine j_getA (k := 8) 22 K dX3_built_32 rfl rfl rfl q1264 rfl rfl (by decide) rfl rfl rfl ?_
    refine j_iload K dX3_built_35 rfl ?_
    refine j_iconstZ K dX3_built_37 rfl (Or.inl rfl) ?_
    refine j_zas K dX3_built_38 rfl (fxLen2 22 rfl rfl) hi2 ?_
    refine j_aload_n K dX3_built_39 rfl ?_
    refine j_getA (k := 19) 25 K dX3_built_40 rfl rfl rfl q1275 rfl rfl (by decide) rfl rfl rfl ?_
    refine j_iload K dX3_built_43 rfl ?_
    refine j_iload K dX3_built_45 rfl ?_
    refine j_ias K dX3_built_47 rfl (fxLen2 25 rfl rfl) hi2 ?_
    refine j_aload_n K dX3_built_48 rfl ?_
    refine j_getA (k := 18) 24 K dX3_built_49 rfl rfl rfl q1274 rfl rfl (by decide) rfl rfl rfl ?_
    refine j_iload K dX3_built_52 rfl ?_
    refine j_dup2 K dX3_built_54 rfl rfl ?_
    refine j_ib (fun hi3 => ?_)
    refine j_ial K dX3_built_55 rfl (fxLen 24 rfl rfl) hi3 ?_
    refine j_iconstZ K dX3_built_56 rfl (Or.inr rfl) ?_
    refine j_iadd K dX3_built_57 ?_
    refine j_ias K dX3_built_58 rfl (fxLen2 24 rfl rfl) hi3 ?_
    refine j_aload_n K dX3_built_59 rfl ?_
    refine j_getA (k := 5) 19 K dX3_built_60 rfl rfl rfl q1261 rfl rfl (by decide) rfl rfl rfl ?_
    refine j_iload K dX3_built_63 rfl ?_
    refine j_aload_n K dX3_built_65 rfl ?_
    refine j_iload_n K dX3_built_66 rfl ?_
    refine j_iload K dX3_built_67 rfl ?_
    refine j_iload K dX3_built_69 rfl ?_
    refine j_iload K dX3_built_71 rfl ?_
    refine j_iconstZ K dX3_built_73 rfl (Or.inr rfl) ?_
    refine j_iadd K dX3_built_74 ?_
    refine j_callV _ K (hg_X3_built p1 ((p1 + p2) / 2) (gI w 39 ((p1 + p2) / 2).toNatClampNeg) (p4 + 1) (sI (sI (sI (sI w 37 (gI w 39 ((p1 + p2) / 2).toNatClampNeg).toNatClampNeg p3) 38 (gI w 39 ((p1 + p2) / 2).toNatClampNeg).toNatClampNeg (vp_nar .boolean 0)) 41 (gI w 39 ((p1 + p2) / 2).toNatClampNeg).toNatClampNeg p4) 40 p4.toNatClampNeg ((gI (sI (sI (sI w 37 (gI w 39 ((p1 + p2) / 2).toNatClampNeg).toNatClampNeg p3) 38 (gI w 39 ((p1 + p2) / 2).toNatClampNeg).toNatClampNeg (vp_nar .boolean 0)) 41 (gI w 39 ((p1 + p2) / 2).toNatClampNeg).toNatClampNeg p4) 40 p4.toNatClampNeg) + 1)) fp1 false false false) dX3_built_75 rfl rfl q1436 q1438 qs55 q95 q1439 pm_X3_built rfl rfl rfl rfl rfl (fun r4 _ => ?_)
    refine j_ias K dX3_built_78 rfl (fxLen2 19 rfl rfl) hi2 ?_
    refine j_aload_n K dX3_built_79 rfl ?_
    refine j_getA (k := 6) 20 K dX3_built_80 rfl rfl rfl q1262 rfl rfl (by decide) rfl rfl rfl ?_
    refine j_iload K dX3_built_83 rfl ?_
    refine j_aload_n K dX3_built_85 rfl ?_
    refine j_iload K dX3_built_86 rfl ?_
    refine j_iconstZ K dX3_built_88 rfl (Or.inr rfl) ?_
    refine j_iadd K dX3_built_89 ?_
    refine j_iload_n K dX3_built_90 rfl ?_
    refine j_iload K dX3_built_91 rfl ?_
    refine j_iload K dX3_built_93 rfl ?_
    refine j_iconstZ K dX3_built_95 rfl (Or.inr rfl) ?_
    refine j_iadd K dX3_built_96 ?_
    refine j_callV _ K (hg_X3_built (((p1 + p2) / 2) + 1) p2 (gI w 39 ((p1 + p2) / 2).toNatClampNeg) (p4 + 1) (sI r4.1 35 (gI w 39 ((p1 + p2) / 2).toNatClampNeg).toNatClampNeg r4.2) false fp2 false false) dX3_built_97 rfl rfl q1436 q1438 qs55 q95 q1439 pm_X3_built rfl rfl rfl rfl rfl (fun r5 _ => ?_)
    refine j_ias K dX3_built_100 rfl (fxLen2 20 rfl rfl) hi2 ?_
    refine j_iload K dX3_built_101 rfl ?_
    exact j_iret K hr dX3_built_103
  · refine j_iconst (x := (-1)) K dX3_built_5 rfl ?_
    exact j_iret K hr dX3_built_6
def f_X3_built : Nat → Int32 → Int32 → Int32 → Int32 → Wd → Option (Wd × Int32)
  | 0 => fun _ _ _ _ _ => none
  | d + 1 => fB_X3_built d (f_X3_built d)
theorem sim_X3_built {G : Gx} (hG : GW G) {l : Launch} (hl : l.stackTraces = false) : ∀ (d : Nat) (p1 : Int32) (p2 : Int32) (p3 : Int32) (p4 : Int32) (w : Wd) (fp1 : Bool) (fp2 : Bool) (fp3 : Bool) (fp4 : Bool), Mt G true l yX3_built (ws_ yX3_built cX3_built 7 (some .int)) d (rrV G pI) [aR 3 (some 30), aB fp1 p1, aB fp2 p2, aB fp3 p3, aB fp4 p4] w (f_X3_built d p1 p2 p3 p4 w) := by
  intro d
  induction d with
  | zero => intros; exact fun _ h => by cases h
  | succ d ih => exact simB_X3_built hG hl d ih

theorem pm_X3_rebuilds : yX3_rebuilds.cls = RX3 ∧ yX3_rebuilds.cls ≠ "java/lang/invoke/MethodHandle" ∧ yX3_rebuilds.cls ≠ "java/lang/invoke/VarHandle" ∧ (parseMethodDescriptor yX3_rebuilds.desc).map (fun d => d.parameters.length) = some 0 := by decide +kernel
def b_X3_rebuilds_152 (d : Nat) (w : Wd) : Option (Wd × Unit) :=
  some (sI (sI (sI (sI w 30 11 (gI w 30 17)) 30 12 0) 30 14 ((gI (sI (sI w 30 11 (gI w 30 17)) 30 12 0) 30 14) + 1)) 30 15 ((gI (sI (sI (sI w 30 11 (gI w 30 17)) 30 12 0) 30 14 ((gI (sI (sI w 30 11 (gI w 30 17)) 30 12 0) 30 14) + 1)) 30 15) + (gI (sI (sI (sI w 30 11 (gI w 30 17)) 30 12 0) 30 14 ((gI (sI (sI w 30 11 (gI w 30 17)) 30 12 0) 30 14) + 1)) 30 11)), ())
def b_X3_rebuilds_145 (d : Nat) (k107 : Int32 → Int32 → Wd → Option (Wd × Unit)) (x1 : Int32) (x2 : Int32) (s1 : Int32) (s2 : Int32) (w : Wd) : Option (Wd × Unit) :=
  if ib s1 500 = true then
    k107 x1 (x2 + 1) (sI w 38 s1.toNatClampNeg (vp_nar .boolean s2))
  else none
def b_X3_rebuilds_107 (d : Nat) : Nat → Int32 → Int32 → Wd → Option (Wd × Unit)
  | 0, _, _, _ => none
  | n + 1, x1, x2, w =>
    if (gI w 30 17) ≤ x2 then
      b_X3_rebuilds_152 d w
    else
      if ib x2 500 = true then
        if ib (gI w 39 x2.toNatClampNeg) 500 = true then
          if (gI w 41 (gI w 39 x2.toNatClampNeg).toNatClampNeg) = x1 then
            b_X3_rebuilds_145 d (b_X3_rebuilds_107 d n) x1 x2 (gI w 39 x2.toNatClampNeg) 1 w
          else
            b_X3_rebuilds_145 d (b_X3_rebuilds_107 d n) x1 x2 (gI w 39 x2.toNatClampNeg) 0 w
        else none
      else none
def b_X3_rebuilds_76 (d : Nat) : Nat → Int32 → Wd → Option (Wd × Unit)
  | 0, _, _ => none
  | n + 1, x1, w =>
    if ib (x1 + 1) 500 = true then
      if (gI w 40 (x1 + 1).toNatClampNeg) ≤ 0 then
        if ib x1 500 = true then
          if (1 <<< (x1 &&& 31)) ≤ (gI w 40 x1.toNatClampNeg) then
            b_X3_rebuilds_152 d w
          else
            b_X3_rebuilds_107 d FU x1 0 w
        else none
      else
        b_X3_rebuilds_76 d n (x1 + 1) w
    else none
def b_X3_rebuilds_39 (d : Nat) : Nat → Int32 → Wd → Option (Wd × Unit)
  | 0, _, _ => none
  | n + 1, x1, w =>
    if 500 ≤ x1 then
      (f_X3_built d 0 (gI w 30 17) (-1) 0 w).bind fun r2 =>
      b_X3_rebuilds_76 d FU 0 (sI r2.1 30 9 r2.2)
    else
      if ib x1 500 = true then
        b_X3_rebuilds_39 d n (x1 + 1) (sI w 40 x1.toNatClampNeg 0)
      else none
def b_X3_rebuilds_27 (d : Nat) (k2 : Int32 → Wd → Option (Wd × Unit)) (x1 : Int32) (w : Wd) : Option (Wd × Unit) :=
  k2 (x1 + 1) w
def b_X3_rebuilds_2 (d : Nat) : Nat → Int32 → Wd → Option (Wd × Unit)
  | 0, _, _ => none
  | n + 1, x1, w =>
    if (gI w 30 10) ≤ x1 then
      (f_X3_layRow d w).bind fun r1 =>
      b_X3_rebuilds_39 d FU 0 r1.1
    else
      if ib x1 500 = true then
        if (gI w 34 x1.toNatClampNeg) = 1 then
          b_X3_rebuilds_27 d (b_X3_rebuilds_2 d n) x1 (sI w 34 x1.toNatClampNeg 2)
        else
          b_X3_rebuilds_27 d (b_X3_rebuilds_2 d n) x1 w
      else none
def f_X3_rebuilds (d : Nat) (w : Wd) : Option (Wd × Unit) :=
  match d with
  | 0 => none
  | d + 1 =>
    b_X3_rebuilds_2 d FU 0 w
theorem sb_X3_rebuilds_152 {G : Gx} (hG : GW G) {M : Mx} (hl : (mL M).stackTraces = false) {w0 : Wd} {d : Nat} (K : Cx (G, true, M, 3, w0) cX3_rebuilds "IntervalTreeModel" (d + 1)) (hr : (mH M).sig.returnType = none) (hnm : (mH M).name = yX3_rebuilds.name) (hxt : ∀ x ∈ (mC M).exceptionTable.toList, False) (hnd : (mS M).methodNamed? yX3_rebuilds = some (mM M)) : ∀ (w : Wd), Jf (G, true, M, 3, w0) (rrV G pU) (b_X3_rebuilds_152 d w) w 152 [some (aR 3 (some 30)), none, none] [] := by
  intro w
  refine j_aload_n K dX3_rebuilds_152 rfl ?_
  refine j_aload_n K dX3_rebuilds_153 rfl ?_
  refine j_getI (k := 17) K dX3_rebuilds_154 rfl rfl rfl q1273 rfl rfl rfl ?_
  refine j_putI (k := 11) K dX3_rebuilds_157 rfl rfl q1267 rfl (Or.inl rfl) rfl rfl rfl rfl ?_
  refine j_aload_n K dX3_rebuilds_160 rfl ?_
  refine j_iconstZ K dX3_rebuilds_161 rfl (Or.inl rfl) ?_
  refine j_putI (k := 12) K dX3_rebuilds_162 rfl rfl q1268 rfl (Or.inl rfl) rfl rfl rfl rfl ?_
  refine j_aload_n K dX3_rebuilds_165 rfl ?_
  refine j_dup K dX3_rebuilds_166 rfl ?_
  refine j_getI (k := 14) K dX3_rebuilds_167 rfl rfl rfl q1270 rfl rfl rfl ?_
  refine j_iconstZ K dX3_rebuilds_170 rfl (Or.inr rfl) ?_
  refine j_iadd K dX3_rebuilds_171 ?_
  refine j_putI (k := 14) K dX3_rebuilds_172 rfl rfl q1270 rfl (Or.inl rfl) rfl rfl rfl rfl ?_
  refine j_aload_n K dX3_rebuilds_175 rfl ?_
  refine j_dup K dX3_rebuilds_176 rfl ?_
  refine j_getI (k := 15) K dX3_rebuilds_177 rfl rfl rfl q1271 rfl rfl rfl ?_
  refine j_aload_n K dX3_rebuilds_180 rfl ?_
  refine j_getI (k := 11) K dX3_rebuilds_181 rfl rfl rfl q1267 rfl rfl rfl ?_
  refine j_iadd K dX3_rebuilds_184 ?_
  refine j_putI (k := 15) K dX3_rebuilds_185 rfl rfl q1271 rfl (Or.inl rfl) rfl rfl rfl rfl ?_
  exact j_vret K hr dX3_rebuilds_188
theorem sb_X3_rebuilds_145 {G : Gx} (hG : GW G) {M : Mx} (hl : (mL M).stackTraces = false) {w0 : Wd} {d : Nat} (K : Cx (G, true, M, 3, w0) cX3_rebuilds "IntervalTreeModel" (d + 1)) (hr : (mH M).sig.returnType = none) (hnm : (mH M).name = yX3_rebuilds.name) (hxt : ∀ x ∈ (mC M).exceptionTable.toList, False) (hnd : (mS M).methodNamed? yX3_rebuilds = some (mM M)) {k107 : Int32 → Int32 → Wd → Option (Wd × Unit)} (hk107 : ∀ (x1 : Int32) (x2 : Int32) (w : Wd) (fx1 : Bool) (fx2 : Bool), Jf (G, true, M, 3, w0) (rrV G pU) (k107 x1 x2 w) w 107 [some (aR 3 (some 30)), some (aB fx1 x1), some (aB fx2 x2)] []) : ∀ (x1 : Int32) (x2 : Int32) (s1 : Int32) (s2 : Int32) (w : Wd) (fx1 : Bool) (fx2 : Bool) (fs1 : Bool), Jf (G, true, M, 3, w0) (rrV G pU) (b_X3_rebuilds_145 d k107 x1 x2 s1 s2 w) w 145 [some (aR 3 (some 30)), some (aB fx1 x1), some (aB fx2 x2)] [aB true s2, aB fs1 s1, aR 11 (some 38)] := by
  intro x1 x2 s1 s2 w fx1 fx2 fs1
  refine j_ib (fun hi7 => ?_)
  refine j_zas K dX3_rebuilds_145 rfl (fxLen2 22 rfl rfl) hi7 ?_
  refine j_iinc (y := 1) K dX3_rebuilds_146 rfl rfl rfl rfl ?_
  refine j_goto 107 K dX3_rebuilds_149 (by decide) ?_
  exact hk107 _ _ _ _ _
theorem sb_X3_rebuilds_107 {G : Gx} (hG : GW G) {M : Mx} (hl : (mL M).stackTraces = false) {w0 : Wd} {d : Nat} (K : Cx (G, true, M, 3, w0) cX3_rebuilds "IntervalTreeModel" (d + 1)) (hr : (mH M).sig.returnType = none) (hnm : (mH M).name = yX3_rebuilds.name) (hxt : ∀ x ∈ (mC M).exceptionTable.toList, False) (hnd : (mS M).methodNamed? yX3_rebuilds = some (mM M)) : ∀ (n : Nat), ∀ (x1 : Int32) (x2 : Int32) (w : Wd) (fx1 : Bool) (fx2 : Bool), Jf (G, true, M, 3, w0) (rrV G pU) (b_X3_rebuilds_107 d n x1 x2 w) w 107 [some (aR 3 (some 30)), some (aB fx1 x1), some (aB fx2 x2)] [] := by
  intro n
  induction n with
  | zero => intros; exact j_none
  | succ n ih =>
    intro x1 x2 w fx1 fx2
    refine j_iload_n K dX3_rebuilds_107 rfl ?_
    refine j_aload_n K dX3_rebuilds_108 rfl ?_
    refine j_getI (k := 17) K dX3_rebuilds_109 rfl rfl rfl q1273 rfl rfl rfl ?_
    refine j_icmp_ge 152 K dX3_rebuilds_112 (by decide) ?_ ?_
    · exact j_wk (sb_X3_rebuilds_152 hG hl K hr hnm hxt hnd _) ⟨rfl, trivial⟩
    · refine j_aload_n K dX3_rebuilds_115 rfl ?_
      refine j_getA (k := 8) 22 K dX3_rebuilds_116 rfl rfl rfl q1264 rfl rfl (by decide) rfl rfl rfl ?_
      refine j_aload_n K dX3_rebuilds_119 rfl ?_
      refine j_getA (k := 16) 23 K dX3_rebuilds_120 rfl rfl rfl q1272 rfl rfl (by decide) rfl rfl rfl ?_
      refine j_iload_n K dX3_rebuilds_123 rfl ?_
      refine j_ib (fun hi5 => ?_)
      refine j_ial K dX3_rebuilds_124 rfl (fxLen 23 rfl rfl) hi5 ?_
      refine j_aload_n K dX3_rebuilds_125 rfl ?_
      refine j_getA (k := 19) 25 K dX3_rebuilds_126 rfl rfl rfl q1275 rfl rfl (by decide) rfl rfl rfl ?_
      refine j_aload_n K dX3_rebuilds_129 rfl ?_
      refine j_getA (k := 16) 23 K dX3_rebuilds_130 rfl rfl rfl q1272 rfl rfl (by decide) rfl rfl rfl ?_
      refine j_iload_n K dX3_rebuilds_133 rfl ?_
      refine j_ial K dX3_rebuilds_134 rfl (fxLen 23 rfl rfl) hi5 ?_
      refine j_ib (fun hi6 => ?_)
      refine j_ial K dX3_rebuilds_135 rfl (fxLen 25 rfl rfl) hi6 ?_
      refine j_iload_n K dX3_rebuilds_136 rfl ?_
      refine j_icmp_ne 144 K dX3_rebuilds_137 (by decide) ?_ ?_
      · refine j_iconstZ K dX3_rebuilds_144 rfl (Or.inl rfl) ?_
        exact sb_X3_rebuilds_145 hG hl K hr hnm hxt hnd ih _ _ _ _ _ _ _ _
      · refine j_iconstZ K dX3_rebuilds_140 rfl (Or.inr rfl) ?_
        refine j_goto 145 K dX3_rebuilds_141 (by decide) ?_
        exact sb_X3_rebuilds_145 hG hl K hr hnm hxt hnd ih _ _ _ _ _ _ _ _
theorem sb_X3_rebuilds_76 {G : Gx} (hG : GW G) {M : Mx} (hl : (mL M).stackTraces = false) {w0 : Wd} {d : Nat} (K : Cx (G, true, M, 3, w0) cX3_rebuilds "IntervalTreeModel" (d + 1)) (hr : (mH M).sig.returnType = none) (hnm : (mH M).name = yX3_rebuilds.name) (hxt : ∀ x ∈ (mC M).exceptionTable.toList, False) (hnd : (mS M).methodNamed? yX3_rebuilds = some (mM M)) : ∀ (n : Nat), ∀ (x1 : Int32) (w : Wd) (fx1 : Bool), Jf (G, true, M, 3, w0) (rrV G pU) (b_X3_rebuilds_76 d n x1 w) w 76 [some (aR 3 (some 30)), some (aB fx1 x1), none] [] := by
  intro n
  induction n with
  | zero => intros; exact j_none
  | succ n ih =>
    intro x1 w fx1
    refine j_aload_n K dX3_rebuilds_76 rfl ?_
    refine j_getA (k := 18) 24 K dX3_rebuilds_77 rfl rfl rfl q1274 rfl rfl (by decide) rfl rfl rfl ?_
    refine j_iload_n K dX3_rebuilds_80 rfl ?_
    refine j_iconstZ K dX3_rebuilds_81 rfl (Or.inr rfl) ?_
    refine j_iadd K dX3_rebuilds_82 ?_
    refine j_ib (fun hi3 => ?_)
    refine j_ial K dX3_rebuilds_83 rfl (fxLen 24 rfl rfl) hi3 ?_
    refine j_if_le 93 K dX3_rebuilds_84 (by decide) ?_ ?_
    · refine j_aload_n K dX3_rebuilds_93 rfl ?_
      refine j_getA (k := 18) 24 K dX3_rebuilds_94 rfl rfl rfl q1274 rfl rfl (by decide) rfl rfl rfl ?_
      refine j_iload_n K dX3_rebuilds_97 rfl ?_
      refine j_ib (fun hi4 => ?_)
      refine j_ial K dX3_rebuilds_98 rfl (fxLen 24 rfl rfl) hi4 ?_
      refine j_iconstZ K dX3_rebuilds_99 rfl (Or.inr rfl) ?_
      refine j_iload_n K dX3_rebuilds_100 rfl ?_
      refine j_ishl K dX3_rebuilds_101 ?_
      refine j_icmp_ge 152 K dX3_rebuilds_102 (by decide) ?_ ?_
      · exact j_wk (sb_X3_rebuilds_152 hG hl K hr hnm hxt hnd _) ⟨rfl, trivial⟩
      · refine j_iconstZ K dX3_rebuilds_105 rfl (Or.inl rfl) ?_
        refine j_istore_n K dX3_rebuilds_106 rfl rfl ?_
        exact sb_X3_rebuilds_107 hG hl K hr hnm hxt hnd FU _ _ _ _ _
    · refine j_iinc (y := 1) K dX3_rebuilds_87 rfl rfl rfl rfl ?_
      refine j_goto 76 K dX3_rebuilds_90 (by decide) ?_
      exact j_wk (ih _ _ _) ⟨rfl, rfl, trivial⟩
theorem sb_X3_rebuilds_39 {G : Gx} (hG : GW G) {M : Mx} (hl : (mL M).stackTraces = false) {w0 : Wd} {d : Nat} (K : Cx (G, true, M, 3, w0) cX3_rebuilds "IntervalTreeModel" (d + 1)) (hr : (mH M).sig.returnType = none) (hnm : (mH M).name = yX3_rebuilds.name) (hxt : ∀ x ∈ (mC M).exceptionTable.toList, False) (hnd : (mS M).methodNamed? yX3_rebuilds = some (mM M)) : ∀ (n : Nat), ∀ (x1 : Int32) (w : Wd) (fx1 : Bool), Jf (G, true, M, 3, w0) (rrV G pU) (b_X3_rebuilds_39 d n x1 w) w 39 [some (aR 3 (some 30)), some (aB fx1 x1), none] [] := by
  intro n
  induction n with
  | zero => intros; exact j_none
  | succ n ih =>
    intro x1 w fx1
    refine j_iload_n K dX3_rebuilds_39 rfl ?_
    refine j_sipush (x := 500) K dX3_rebuilds_40 (by decide +kernel) ?_
    refine j_icmp_ge 59 K dX3_rebuilds_43 (by decide) ?_ ?_
    · refine j_aload_n K dX3_rebuilds_59 rfl ?_
      refine j_aload_n K dX3_rebuilds_60 rfl ?_
      refine j_iconstZ K dX3_rebuilds_61 rfl (Or.inl rfl) ?_
      refine j_aload_n K dX3_rebuilds_62 rfl ?_
      refine j_getI (k := 17) K dX3_rebuilds_63 rfl rfl rfl q1273 rfl rfl rfl ?_
      refine j_iconst (x := (-1)) K dX3_rebuilds_66 rfl ?_
      refine j_iconstZ K dX3_rebuilds_67 rfl (Or.inl rfl) ?_
      refine j_callV _ K (sim_X3_built hG hl d 0 (gI w 30 17) (-1) 0 w true false false true) dX3_rebuilds_68 rfl rfl q1436 q1438 qs55 q95 q1439 pm_X3_built rfl rfl rfl rfl rfl (fun r2 _ => ?_)
      refine j_putI (k := 9) K dX3_rebuilds_71 rfl rfl q1265 rfl (Or.inl rfl) rfl rfl rfl rfl ?_
      refine j_iconstZ K dX3_rebuilds_74 rfl (Or.inl rfl) ?_
      refine j_istore_n K dX3_rebuilds_75 rfl rfl ?_
      exact j_wk (sb_X3_rebuilds_76 hG hl K hr hnm hxt hnd FU _ _ _) ⟨rfl, rfl, trivial⟩
    · refine j_aload_n K dX3_rebuilds_46 rfl ?_
      refine j_getA (k := 18) 24 K dX3_rebuilds_47 rfl rfl rfl q1274 rfl rfl (by decide) rfl rfl rfl ?_
      refine j_iload_n K dX3_rebuilds_50 rfl ?_
      refine j_iconstZ K dX3_rebuilds_51 rfl (Or.inl rfl) ?_
      refine j_ib (fun hi3 => ?_)
      refine j_ias K dX3_rebuilds_52 rfl (fxLen2 24 rfl rfl) hi3 ?_
      refine j_iinc (y := 1) K dX3_rebuilds_53 rfl rfl rfl rfl ?_
      refine j_goto 39 K dX3_rebuilds_56 (by decide) ?_
      exact j_wk (ih _ _ _) ⟨rfl, rfl, trivial⟩
theorem sb_X3_rebuilds_27 {G : Gx} (hG : GW G) {M : Mx} (hl : (mL M).stackTraces = false) {w0 : Wd} {d : Nat} (K : Cx (G, true, M, 3, w0) cX3_rebuilds "IntervalTreeModel" (d + 1)) (hr : (mH M).sig.returnType = none) (hnm : (mH M).name = yX3_rebuilds.name) (hxt : ∀ x ∈ (mC M).exceptionTable.toList, False) (hnd : (mS M).methodNamed? yX3_rebuilds = some (mM M)) {k2 : Int32 → Wd → Option (Wd × Unit)} (hk2 : ∀ (x1 : Int32) (w : Wd) (fx1 : Bool), Jf (G, true, M, 3, w0) (rrV G pU) (k2 x1 w) w 2 [some (aR 3 (some 30)), some (aB fx1 x1), none] []) : ∀ (x1 : Int32) (w : Wd) (fx1 : Bool), Jf (G, true, M, 3, w0) (rrV G pU) (b_X3_rebuilds_27 d k2 x1 w) w 27 [some (aR 3 (some 30)), some (aB fx1 x1), none] [] := by
  intro x1 w fx1
  refine j_iinc (y := 1) K dX3_rebuilds_27 rfl rfl rfl rfl ?_
  refine j_goto 2 K dX3_rebuilds_30 (by decide) ?_
  exact j_wk (hk2 _ _ _) ⟨rfl, rfl, trivial⟩
theorem sb_X3_rebuilds_2 {G : Gx} (hG : GW G) {M : Mx} (hl : (mL M).stackTraces = false) {w0 : Wd} {d : Nat} (K : Cx (G, true, M, 3, w0) cX3_rebuilds "IntervalTreeModel" (d + 1)) (hr : (mH M).sig.returnType = none) (hnm : (mH M).name = yX3_rebuilds.name) (hxt : ∀ x ∈ (mC M).exceptionTable.toList, False) (hnd : (mS M).methodNamed? yX3_rebuilds = some (mM M)) : ∀ (n : Nat), ∀ (x1 : Int32) (w : Wd) (fx1 : Bool), Jf (G, true, M, 3, w0) (rrV G pU) (b_X3_rebuilds_2 d n x1 w) w 2 [some (aR 3 (some 30)), some (aB fx1 x1), none] [] := by
  intro n
  induction n with
  | zero => intros; exact j_none
  | succ n ih =>
    intro x1 w fx1
    refine j_iload_n K dX3_rebuilds_2 rfl ?_
    refine j_aload_n K dX3_rebuilds_3 rfl ?_
    refine j_getI (k := 10) K dX3_rebuilds_4 rfl rfl rfl q1266 rfl rfl rfl ?_
    refine j_icmp_ge 33 K dX3_rebuilds_7 (by decide) ?_ ?_
    · refine j_aload_n K dX3_rebuilds_33 rfl ?_
      refine j_callV _ K (sim_X3_layRow hG hl d w) dX3_rebuilds_34 rfl rfl q1428 q1430 qs53 q95 q1431 pm_X3_layRow rfl rfl rfl rfl rfl (fun r1 _ => ?_)
      refine j_iconstZ K dX3_rebuilds_37 rfl (Or.inl rfl) ?_
      refine j_istore_n K dX3_rebuilds_38 rfl rfl ?_
      exact j_wk (sb_X3_rebuilds_39 hG hl K hr hnm hxt hnd FU _ _ _) ⟨rfl, rfl, trivial⟩
    · refine j_aload_n K dX3_rebuilds_10 rfl ?_
      refine j_getA (k := 4) 18 K dX3_rebuilds_11 rfl rfl rfl q1260 rfl rfl (by decide) rfl rfl rfl ?_
      refine j_iload_n K dX3_rebuilds_14 rfl ?_
      refine j_ib (fun hi2 => ?_)
      refine j_ial K dX3_rebuilds_15 rfl (fxLen 18 rfl rfl) hi2 ?_
      refine j_iconstZ K dX3_rebuilds_16 rfl (Or.inr rfl) ?_
      refine j_icmp_ne 27 K dX3_rebuilds_17 (by decide) ?_ ?_
      · exact j_wk (sb_X3_rebuilds_27 hG hl K hr hnm hxt hnd ih _ _ _) ⟨rfl, rfl, trivial⟩
      · refine j_aload_n K dX3_rebuilds_20 rfl ?_
        refine j_getA (k := 4) 18 K dX3_rebuilds_21 rfl rfl rfl q1260 rfl rfl (by decide) rfl rfl rfl ?_
        refine j_iload_n K dX3_rebuilds_24 rfl ?_
        refine j_iconst (x := 2) K dX3_rebuilds_25 rfl ?_
        refine j_ias K dX3_rebuilds_26 rfl (fxLen2 18 rfl rfl) hi2 ?_
        exact j_wk (sb_X3_rebuilds_27 hG hl K hr hnm hxt hnd ih _ _ _) ⟨rfl, rfl, trivial⟩
theorem sim_X3_rebuilds {G : Gx} (hG : GW G) {l : Launch} (hl : l.stackTraces = false) (d : Nat) (w : Wd) : Mt G true l yX3_rebuilds (ws_ yX3_rebuilds cX3_rebuilds 3 (none)) d (rrV G pU) [aR 3 (some 30)] w (f_X3_rebuilds d w) := by
  refine Mt.of (own := "IntervalTreeModel") hG hl (by decide +kernel) rfl rfl ?_
  intro M hM hr hnm hxt hnd K
  subst hM
  cases d with
  | zero => exact j_none
  | succ d =>
    refine j_iconstZ K dX3_rebuilds_0 rfl (Or.inl rfl) ?_
    refine j_istore_n K dX3_rebuilds_1 rfl rfl ?_
    exact j_wk (sb_X3_rebuilds_2 hG hl K hr hnm hxt hnd FU _ _ _) ⟨rfl, rfl, trivial⟩

theorem pm_X3_hangsNew : yX3_hangsNew.cls = RX3 ∧ yX3_hangsNew.cls ≠ "java/lang/invoke/MethodHandle" ∧ yX3_hangsNew.cls ≠ "java/lang/invoke/VarHandle" ∧ (parseMethodDescriptor yX3_hangsNew.desc).map (fun d => d.parameters.length) = some 1 := by decide +kernel
def b_X3_hangsNew_38 (d : Nat) (k7 : Int32 → Int32 → Int32 → Wd → Option (Wd × Unit)) (x1 : Int32) (x3 : Int32) (s0 : Int32) (w : Wd) : Option (Wd × Unit) :=
  k7 x1 s0 x3 w
def b_X3_hangsNew_7 (d : Nat) : Nat → Int32 → Int32 → Int32 → Wd → Option (Wd × Unit)
  | 0, _, _, _, _ => none
  | n + 1, x1, x2, x3, w =>
    if x2 = (-1) then
      if ib x1 500 = true then
        if x3 = (-1) then
          some (sI (sI (sI (sI (sI w 35 x1.toNatClampNeg (-1)) 36 x1.toNatClampNeg (-1)) 37 x1.toNatClampNeg x3) 38 x1.toNatClampNeg (vp_nar .boolean 1)) 30 9 x1, ())
        else
          (f_X3_isLess d x1 x3 (sI (sI (sI (sI w 35 x1.toNatClampNeg (-1)) 36 x1.toNatClampNeg (-1)) 37 x1.toNatClampNeg x3) 38 x1.toNatClampNeg (vp_nar .boolean 1))).bind fun r2 =>
          if r2.2 = 0 then
            if ib x3 500 = true then
              some (sI r2.1 36 x3.toNatClampNeg x1, ())
            else none
          else
            if ib x3 500 = true then
              some (sI r2.1 35 x3.toNatClampNeg x1, ())
            else none
      else none
    else
      (f_X3_isLess d x1 x2 w).bind fun r5 =>
      if r5.2 = 0 then
        if ib x2 500 = true then
          b_X3_hangsNew_38 d (b_X3_hangsNew_7 d n) x1 x2 (gI r5.1 36 x2.toNatClampNeg) r5.1
        else none
      else
        if ib x2 500 = true then
          b_X3_hangsNew_38 d (b_X3_hangsNew_7 d n) x1 x2 (gI r5.1 35 x2.toNatClampNeg) r5.1
        else none
def f_X3_hangsNew (d : Nat) (p1 : Int32) (w : Wd) : Option (Wd × Unit) :=
  match d with
  | 0 => none
  | d + 1 =>
    b_X3_hangsNew_7 d FU p1 (gI w 30 9) (-1) w
theorem sb_X3_hangsNew_38 {G : Gx} (hG : GW G) {M : Mx} (hl : (mL M).stackTraces = false) {w0 : Wd} {d : Nat} (K : Cx (G, true, M, 4, w0) cX3_hangsNew "IntervalTreeModel" (d + 1)) (hr : (mH M).sig.returnType = none) (hnm : (mH M).name = yX3_hangsNew.name) (hxt : ∀ x ∈ (mC M).exceptionTable.toList, False) (hnd : (mS M).methodNamed? yX3_hangsNew = some (mM M)) {k7 : Int32 → Int32 → Int32 → Wd → Option (Wd × Unit)} (hk7 : ∀ (x1 : Int32) (x2 : Int32) (x3 : Int32) (w : Wd) (fx1 : Bool) (fx2 : Bool) (fx3 : Bool), Jf (G, true, M, 4, w0) (rrV G pU) (k7 x1 x2 x3 w) w 7 [some (aR 3 (some 30)), some (aB fx1 x1), some (aB fx2 x2), some (aB fx3 x3)] []) : ∀ (x1 : Int32) (x3 : Int32) (s0 : Int32) (w : Wd) (fx1 : Bool) (fx3 : Bool) (fs0 : Bool), Jf (G, true, M, 4, w0) (rrV G pU) (b_X3_hangsNew_38 d k7 x1 x3 s0 w) w 38 [some (aR 3 (some 30)), some (aB fx1 x1), none, some (aB fx3 x3)] [aB fs0 s0] := by
  intro x1 x3 s0 w fx1 fx3 fs0
  refine j_istore_n K dX3_hangsNew_38 rfl rfl ?_
  refine j_goto 7 K dX3_hangsNew_39 (by decide) ?_
  exact hk7 _ _ _ _ _ _ _
theorem sb_X3_hangsNew_7 {G : Gx} (hG : GW G) {M : Mx} (hl : (mL M).stackTraces = false) {w0 : Wd} {d : Nat} (K : Cx (G, true, M, 4, w0) cX3_hangsNew "IntervalTreeModel" (d + 1)) (hr : (mH M).sig.returnType = none) (hnm : (mH M).name = yX3_hangsNew.name) (hxt : ∀ x ∈ (mC M).exceptionTable.toList, False) (hnd : (mS M).methodNamed? yX3_hangsNew = some (mM M)) : ∀ (n : Nat), ∀ (x1 : Int32) (x2 : Int32) (x3 : Int32) (w : Wd) (fx1 : Bool) (fx2 : Bool) (fx3 : Bool), Jf (G, true, M, 4, w0) (rrV G pU) (b_X3_hangsNew_7 d n x1 x2 x3 w) w 7 [some (aR 3 (some 30)), some (aB fx1 x1), some (aB fx2 x2), some (aB fx3 x3)] [] := by
  intro n
  induction n with
  | zero => intros; exact j_none
  | succ n ih =>
    intro x1 x2 x3 w fx1 fx2 fx3
    refine j_iload_n K dX3_hangsNew_7 rfl ?_
    refine j_iconst (x := (-1)) K dX3_hangsNew_8 rfl ?_
    refine j_icmp_eq 42 K dX3_hangsNew_9 (by decide) ?_ ?_
    · refine j_aload_n K dX3_hangsNew_42 rfl ?_
      refine j_getA (k := 5) 19 K dX3_hangsNew_43 rfl rfl rfl q1261 rfl rfl (by decide) rfl rfl rfl ?_
      refine j_iload_n K dX3_hangsNew_46 rfl ?_
      refine j_iconst (x := (-1)) K dX3_hangsNew_47 rfl ?_
      refine j_ib (fun hi1 => ?_)
      refine j_ias K dX3_hangsNew_48 rfl (fxLen2 19 rfl rfl) hi1 ?_
      refine j_aload_n K dX3_hangsNew_49 rfl ?_
      refine j_getA (k := 6) 20 K dX3_hangsNew_50 rfl rfl rfl q1262 rfl rfl (by decide) rfl rfl rfl ?_
      refine j_iload_n K dX3_hangsNew_53 rfl ?_
      refine j_iconst (x := (-1)) K dX3_hangsNew_54 rfl ?_
      refine j_ias K dX3_hangsNew_55 rfl (fxLen2 20 rfl rfl) hi1 ?_
      refine j_aload_n K dX3_hangsNew_56 rfl ?_
      refine j_getA (k := 7) 21 K dX3_hangsNew_57 rfl rfl rfl q1263 rfl rfl (by decide) rfl rfl rfl ?_
      refine j_iload_n K dX3_hangsNew_60 rfl ?_
      refine j_iload_n K dX3_hangsNew_61 rfl ?_
      refine j_ias K dX3_hangsNew_62 rfl (fxLen2 21 rfl rfl) hi1 ?_
      refine j_aload_n K dX3_hangsNew_63 rfl ?_
      refine j_getA (k := 8) 22 K dX3_hangsNew_64 rfl rfl rfl q1264 rfl rfl (by decide) rfl rfl rfl ?_
      refine j_iload_n K dX3_hangsNew_67 rfl ?_
      refine j_iconstZ K dX3_hangsNew_68 rfl (Or.inr rfl) ?_
      refine j_zas K dX3_hangsNew_69 rfl (fxLen2 22 rfl rfl) hi1 ?_
      refine j_iload_n K dX3_hangsNew_70 rfl ?_
      refine j_iconst (x := (-1)) K dX3_hangsNew_71 rfl ?_
      refine j_icmp_ne 83 K dX3_hangsNew_72 (by decide) ?_ ?_
      · refine j_aload_n K dX3_hangsNew_83 rfl ?_
        refine j_iload_n K dX3_hangsNew_84 rfl ?_
        refine j_iload_n K dX3_hangsNew_85 rfl ?_
        refine j_callV _ K (sim_X3_isLess hG hl d x1 x3 (sI (sI (sI (sI w 35 x1.toNatClampNeg (-1)) 36 x1.toNatClampNeg (-1)) 37 x1.toNatClampNeg x3) 38 x1.toNatClampNeg (vp_nar .boolean 1)) fx1 fx3) dX3_hangsNew_86 rfl rfl q1432 q1434 qs54 q95 q1435 pm_X3_isLess rfl rfl rfl rfl rfl (fun r2 _ => ?_)
        refine j_if_eq 102 K dX3_hangsNew_89 (by decide) ?_ ?_
        · refine j_aload_n K dX3_hangsNew_102 rfl ?_
          refine j_getA (k := 6) 20 K dX3_hangsNew_103 rfl rfl rfl q1262 rfl rfl (by decide) rfl rfl rfl ?_
          refine j_iload_n K dX3_hangsNew_106 rfl ?_
          refine j_iload_n K dX3_hangsNew_107 rfl ?_
          refine j_ib (fun hi3 => ?_)
          refine j_ias K dX3_hangsNew_108 rfl (fxLen2 20 rfl rfl) hi3 ?_
          exact j_vret K hr dX3_hangsNew_109
        · refine j_aload_n K dX3_hangsNew_92 rfl ?_
          refine j_getA (k := 5) 19 K dX3_hangsNew_93 rfl rfl rfl q1261 rfl rfl (by decide) rfl rfl rfl ?_
          refine j_iload_n K dX3_hangsNew_96 rfl ?_
          refine j_iload_n K dX3_hangsNew_97 rfl ?_
          refine j_ib (fun hi4 => ?_)
          refine j_ias K dX3_hangsNew_98 rfl (fxLen2 19 rfl rfl) hi4 ?_
          refine j_goto 109 K dX3_hangsNew_99 (by decide) ?_
          exact j_vret K hr dX3_hangsNew_109
      · refine j_aload_n K dX3_hangsNew_75 rfl ?_
        refine j_iload_n K dX3_hangsNew_76 rfl ?_
        refine j_putI (k := 9) K dX3_hangsNew_77 rfl rfl q1265 rfl (Or.inl rfl) rfl rfl rfl rfl ?_
        refine j_goto 109 K dX3_hangsNew_80 (by decide) ?_
        exact j_vret K hr dX3_hangsNew_109
    · refine j_iload_n K dX3_hangsNew_12 rfl ?_
      refine j_istore_n K dX3_hangsNew_13 rfl rfl ?_
      refine j_aload_n K dX3_hangsNew_14 rfl ?_
      refine j_iload_n K dX3_hangsNew_15 rfl ?_
      refine j_iload_n K dX3_hangsNew_16 rfl ?_
      refine j_callV _ K (sim_X3_isLess hG hl d x1 x2 w fx1 fx2) dX3_hangsNew_17 rfl rfl q1432 q1434 qs54 q95 q1435 pm_X3_isLess rfl rfl rfl rfl rfl (fun r5 _ => ?_)
      refine j_if_eq 32 K dX3_hangsNew_20 (by decide) ?_ ?_
      · refine j_aload_n K dX3_hangsNew_32 rfl ?_
        refine j_getA (k := 6) 20 K dX3_hangsNew_33 rfl rfl rfl q1262 rfl rfl (by decide) rfl rfl rfl ?_
        refine j_iload_n K dX3_hangsNew_36 rfl ?_
        refine j_ib (fun hi6 => ?_)
        refine j_ial K dX3_hangsNew_37 rfl (fxLen 20 rfl rfl) hi6 ?_
        exact j_wk (sb_X3_hangsNew_38 hG hl K hr hnm hxt hnd ih _ _ _ _ _ _ _) ⟨rfl, rfl, rfl, trivial⟩
      · refine j_aload_n K dX3_hangsNew_23 rfl ?_
        refine j_getA (k := 5) 19 K dX3_hangsNew_24 rfl rfl rfl q1261 rfl rfl (by decide) rfl rfl rfl ?_
        refine j_iload_n K dX3_hangsNew_27 rfl ?_
        refine j_ib (fun hi7 => ?_)
        refine j_ial K dX3_hangsNew_28 rfl (fxLen 19 rfl rfl) hi7 ?_
        refine j_goto 38 K dX3_hangsNew_29 (by decide) ?_
        exact j_wk (sb_X3_hangsNew_38 hG hl K hr hnm hxt hnd ih _ _ _ _ _ _ _) ⟨rfl, rfl, rfl, trivial⟩
theorem sim_X3_hangsNew {G : Gx} (hG : GW G) {l : Launch} (hl : l.stackTraces = false) (d : Nat) (p1 : Int32) (w : Wd) (fp1 : Bool) : Mt G true l yX3_hangsNew (ws_ yX3_hangsNew cX3_hangsNew 4 (none)) d (rrV G pU) [aR 3 (some 30), aB fp1 p1] w (f_X3_hangsNew d p1 w) := by
  refine Mt.of (own := "IntervalTreeModel") hG hl (by decide +kernel) rfl rfl ?_
  intro M hM hr hnm hxt hnd K
  subst hM
  cases d with
  | zero => exact j_none
  | succ d =>
    refine j_aload_n K dX3_hangsNew_0 rfl ?_
    refine j_getI (k := 9) K dX3_hangsNew_1 rfl rfl rfl q1265 rfl rfl rfl ?_
    refine j_istore_n K dX3_hangsNew_4 rfl rfl ?_
    refine j_iconst (x := (-1)) K dX3_hangsNew_5 rfl ?_
    refine j_istore_n K dX3_hangsNew_6 rfl rfl ?_
    exact sb_X3_hangsNew_7 hG hl K hr hnm hxt hnd FU _ _ _ _ _ _ _

theorem pm_X3_hangs : yX3_hangs.cls = RX3 ∧ yX3_hangs.cls ≠ "java/lang/invoke/MethodHandle" ∧ yX3_hangs.cls ≠ "java/lang/invoke/VarHandle" ∧ (parseMethodDescriptor yX3_hangs.desc).map (fun d => d.parameters.length) = some 3 := by decide +kernel
def b_X3_hangs_12 (d : Nat) (x1 : Int32) (x2 : Int32) (x3 : Int32) (w : Wd) : Option (Wd × Unit) :=
  if x1 = (-1) then
    some (sI w 30 9 x3, ())
  else
    if ib x1 500 = true then
      if (gI w 35 x1.toNatClampNeg) = x2 then
        some (sI w 35 x1.toNatClampNeg x3, ())
      else
        some (sI w 36 x1.toNatClampNeg x3, ())
    else none
def f_X3_hangs (d : Nat) (p1 : Int32) (p2 : Int32) (p3 : Int32) (w : Wd) : Option (Wd × Unit) :=
  match d with
  | 0 => none
  | d + 1 =>
    if p3 = (-1) then
      b_X3_hangs_12 d p1 p2 p3 w
    else
      if ib p3 500 = true then
        b_X3_hangs_12 d p1 p2 p3 (sI w 37 p3.toNatClampNeg p1)
      else none
theorem sb_X3_hangs_12 {G : Gx} (hG : GW G) {M : Mx} (hl : (mL M).stackTraces = false) {w0 : Wd} {d : Nat} (K : Cx (G, true, M, 4, w0) cX3_hangs "IntervalTreeModel" (d + 1)) (hr : (mH M).sig.returnType = none) (hnm : (mH M).name = yX3_hangs.name) (hxt : ∀ x ∈ (mC M).exceptionTable.toList, False) (hnd : (mS M).methodNamed? yX3_hangs = some (mM M)) : ∀ (x1 : Int32) (x2 : Int32) (x3 : Int32) (w : Wd) (fx1 : Bool) (fx2 : Bool) (fx3 : Bool), Jf (G, true, M, 4, w0) (rrV G pU) (b_X3_hangs_12 d x1 x2 x3 w) w 12 [some (aR 3 (some 30)), some (aB fx1 x1), some (aB fx2 x2), some (aB fx3 x3)] [] := by
  intro x1 x2 x3 w fx1 fx2 fx3
  refine j_iload_n K dX3_hangs_12 rfl ?_
  refine j_iconst (x := (-1)) K dX3_hangs_13 rfl ?_
  refine j_icmp_ne 25 K dX3_hangs_14 (by decide) ?_ ?_
  · refine j_aload_n K dX3_hangs_25 rfl ?_
    refine j_getA (k := 5) 19 K dX3_hangs_26 rfl rfl rfl q1261 rfl rfl (by decide) rfl rfl rfl ?_
    refine j_iload_n K dX3_hangs_29 rfl ?_
    refine j_ib (fun hi1 => ?_)
    refine j_ial K dX3_hangs_30 rfl (fxLen 19 rfl rfl) hi1 ?_
    refine j_iload_n K dX3_hangs_31 rfl ?_
    refine j_icmp_ne 45 K dX3_hangs_32 (by decide) ?_ ?_
    · refine j_aload_n K dX3_hangs_45 rfl ?_
      refine j_getA (k := 6) 20 K dX3_hangs_46 rfl rfl rfl q1262 rfl rfl (by decide) rfl rfl rfl ?_
      refine j_iload_n K dX3_hangs_49 rfl ?_
      refine j_iload_n K dX3_hangs_50 rfl ?_
      refine j_ias K dX3_hangs_51 rfl (fxLen2 20 rfl rfl) hi1 ?_
      exact j_vret K hr dX3_hangs_52
    · refine j_aload_n K dX3_hangs_35 rfl ?_
      refine j_getA (k := 5) 19 K dX3_hangs_36 rfl rfl rfl q1261 rfl rfl (by decide) rfl rfl rfl ?_
      refine j_iload_n K dX3_hangs_39 rfl ?_
      refine j_iload_n K dX3_hangs_40 rfl ?_
      refine j_ias K dX3_hangs_41 rfl (fxLen2 19 rfl rfl) hi1 ?_
      refine j_goto 52 K dX3_hangs_42 (by decide) ?_
      exact j_vret K hr dX3_hangs_52
  · refine j_aload_n K dX3_hangs_17 rfl ?_
    refine j_iload_n K dX3_hangs_18 rfl ?_
    refine j_putI (k := 9) K dX3_hangs_19 rfl rfl q1265 rfl (Or.inl rfl) rfl rfl rfl rfl ?_
    refine j_goto 52 K dX3_hangs_22 (by decide) ?_
    exact j_vret K hr dX3_hangs_52
theorem sim_X3_hangs {G : Gx} (hG : GW G) {l : Launch} (hl : l.stackTraces = false) (d : Nat) (p1 : Int32) (p2 : Int32) (p3 : Int32) (w : Wd) (fp1 : Bool) (fp2 : Bool) (fp3 : Bool) : Mt G true l yX3_hangs (ws_ yX3_hangs cX3_hangs 4 (none)) d (rrV G pU) [aR 3 (some 30), aB fp1 p1, aB fp2 p2, aB fp3 p3] w (f_X3_hangs d p1 p2 p3 w) := by
  refine Mt.of (own := "IntervalTreeModel") hG hl (by decide +kernel) rfl rfl ?_
  intro M hM hr hnm hxt hnd K
  subst hM
  cases d with
  | zero => exact j_none
  | succ d =>
    refine j_iload_n K dX3_hangs_0 rfl ?_
    refine j_iconst (x := (-1)) K dX3_hangs_1 rfl ?_
    refine j_icmp_eq 12 K dX3_hangs_2 (by decide) ?_ ?_
    · exact sb_X3_hangs_12 hG hl K hr hnm hxt hnd _ _ _ _ _ _ _
    · refine j_aload_n K dX3_hangs_5 rfl ?_
      refine j_getA (k := 7) 21 K dX3_hangs_6 rfl rfl rfl q1263 rfl rfl (by decide) rfl rfl rfl ?_
      refine j_iload_n K dX3_hangs_9 rfl ?_
      refine j_iload_n K dX3_hangs_10 rfl ?_
      refine j_ib (fun hi2 => ?_)
      refine j_ias K dX3_hangs_11 rfl (fxLen2 21 rfl rfl) hi2 ?_
      exact sb_X3_hangs_12 hG hl K hr hnm hxt hnd _ _ _ _ _ _ _

theorem pm_X3_rises : yX3_rises.cls = RX3 ∧ yX3_rises.cls ≠ "java/lang/invoke/MethodHandle" ∧ yX3_rises.cls ≠ "java/lang/invoke/VarHandle" ∧ (parseMethodDescriptor yX3_rises.desc).map (fun d => d.parameters.length) = some 1 := by decide +kernel
def b_X3_rises_109 (d : Nat) (x1 : Int32) (x2 : Int32) (x3 : Int32) (w : Wd) : Option (Wd × Unit) :=
  (f_X3_hangs d x3 x2 x1 w).bind fun r4 =>
  if ib x2 500 = true then
    some (sI r4.1 37 x2.toNatClampNeg x1, ())
  else none
def b_X3_rises_102 (d : Nat) (x1 : Int32) (x2 : Int32) (x3 : Int32) (w : Wd) : Option (Wd × Unit) :=
  if ib x1 500 = true then
    b_X3_rises_109 d x1 x2 x3 (sI w 35 x1.toNatClampNeg x2)
  else none
def b_X3_rises_58 (d : Nat) (x1 : Int32) (x2 : Int32) (x3 : Int32) (w : Wd) : Option (Wd × Unit) :=
  if ib x1 500 = true then
    b_X3_rises_109 d x1 x2 x3 (sI w 36 x1.toNatClampNeg x2)
  else none
def f_X3_rises (d : Nat) (p1 : Int32) (w : Wd) : Option (Wd × Unit) :=
  match d with
  | 0 => none
  | d + 1 =>
    if ib p1 500 = true then
      if ib (gI w 37 p1.toNatClampNeg) 500 = true then
        if (gI w 35 (gI w 37 p1.toNatClampNeg).toNatClampNeg) = p1 then
          if (gI (sI w 35 (gI w 37 p1.toNatClampNeg).toNatClampNeg (gI w 36 p1.toNatClampNeg)) 36 p1.toNatClampNeg) = (-1) then
            b_X3_rises_58 d p1 (gI w 37 p1.toNatClampNeg) (gI w 37 (gI w 37 p1.toNatClampNeg).toNatClampNeg) (sI w 35 (gI w 37 p1.toNatClampNeg).toNatClampNeg (gI w 36 p1.toNatClampNeg))
          else
            if ib (gI (sI w 35 (gI w 37 p1.toNatClampNeg).toNatClampNeg (gI w 36 p1.toNatClampNeg)) 36 p1.toNatClampNeg) 500 = true then
              b_X3_rises_58 d p1 (gI w 37 p1.toNatClampNeg) (gI w 37 (gI w 37 p1.toNatClampNeg).toNatClampNeg) (sI (sI w 35 (gI w 37 p1.toNatClampNeg).toNatClampNeg (gI w 36 p1.toNatClampNeg)) 37 (gI (sI w 35 (gI w 37 p1.toNatClampNeg).toNatClampNeg (gI w 36 p1.toNatClampNeg)) 36 p1.toNatClampNeg).toNatClampNeg (gI w 37 p1.toNatClampNeg))
            else none
        else
          if (gI (sI w 36 (gI w 37 p1.toNatClampNeg).toNatClampNeg (gI w 35 p1.toNatClampNeg)) 35 p1.toNatClampNeg) = (-1) then
            b_X3_rises_102 d p1 (gI w 37 p1.toNatClampNeg) (gI w 37 (gI w 37 p1.toNatClampNeg).toNatClampNeg) (sI w 36 (gI w 37 p1.toNatClampNeg).toNatClampNeg (gI w 35 p1.toNatClampNeg))
          else
            if ib (gI (sI w 36 (gI w 37 p1.toNatClampNeg).toNatClampNeg (gI w 35 p1.toNatClampNeg)) 35 p1.toNatClampNeg) 500 = true then
              b_X3_rises_102 d p1 (gI w 37 p1.toNatClampNeg) (gI w 37 (gI w 37 p1.toNatClampNeg).toNatClampNeg) (sI (sI w 36 (gI w 37 p1.toNatClampNeg).toNatClampNeg (gI w 35 p1.toNatClampNeg)) 37 (gI (sI w 36 (gI w 37 p1.toNatClampNeg).toNatClampNeg (gI w 35 p1.toNatClampNeg)) 35 p1.toNatClampNeg).toNatClampNeg (gI w 37 p1.toNatClampNeg))
            else none
      else none
    else none
theorem sb_X3_rises_109 {G : Gx} (hG : GW G) {M : Mx} (hl : (mL M).stackTraces = false) {w0 : Wd} {d : Nat} (K : Cx (G, true, M, 4, w0) cX3_rises "IntervalTreeModel" (d + 1)) (hr : (mH M).sig.returnType = none) (hnm : (mH M).name = yX3_rises.name) (hxt : ∀ x ∈ (mC M).exceptionTable.toList, False) (hnd : (mS M).methodNamed? yX3_rises = some (mM M)) : ∀ (x1 : Int32) (x2 : Int32) (x3 : Int32) (w : Wd) (fx1 : Bool) (fx2 : Bool) (fx3 : Bool), Jf (G, true, M, 4, w0) (rrV G pU) (b_X3_rises_109 d x1 x2 x3 w) w 109 [some (aR 3 (some 30)), some (aB fx1 x1), some (aB fx2 x2), some (aB fx3 x3)] [] := by
  intro x1 x2 x3 w fx1 fx2 fx3
  refine j_aload_n K dX3_rises_109 rfl ?_
  refine j_iload_n K dX3_rises_110 rfl ?_
  refine j_iload_n K dX3_rises_111 rfl ?_
  refine j_iload_n K dX3_rises_112 rfl ?_
  refine j_callV _ K (sim_X3_hangs hG hl d x3 x2 x1 w fx3 fx2 fx1) dX3_rises_113 rfl rfl q1452 q1454 qs59 q95 q1455 pm_X3_hangs rfl rfl rfl rfl rfl (fun r4 _ => ?_)
  refine j_aload_n K dX3_rises_116 rfl ?_
  refine j_getA (k := 7) 21 K dX3_rises_117 rfl rfl rfl q1263 rfl rfl (by decide) rfl rfl rfl ?_
  refine j_iload_n K dX3_rises_120 rfl ?_
  refine j_iload_n K dX3_rises_121 rfl ?_
  refine j_ib (fun hi5 => ?_)
  refine j_ias K dX3_rises_122 rfl (fxLen2 21 rfl rfl) hi5 ?_
  exact j_vret K hr dX3_rises_123
theorem sb_X3_rises_102 {G : Gx} (hG : GW G) {M : Mx} (hl : (mL M).stackTraces = false) {w0 : Wd} {d : Nat} (K : Cx (G, true, M, 4, w0) cX3_rises "IntervalTreeModel" (d + 1)) (hr : (mH M).sig.returnType = none) (hnm : (mH M).name = yX3_rises.name) (hxt : ∀ x ∈ (mC M).exceptionTable.toList, False) (hnd : (mS M).methodNamed? yX3_rises = some (mM M)) : ∀ (x1 : Int32) (x2 : Int32) (x3 : Int32) (w : Wd) (fx1 : Bool) (fx2 : Bool) (fx3 : Bool), Jf (G, true, M, 4, w0) (rrV G pU) (b_X3_rises_102 d x1 x2 x3 w) w 102 [some (aR 3 (some 30)), some (aB fx1 x1), some (aB fx2 x2), some (aB fx3 x3)] [] := by
  intro x1 x2 x3 w fx1 fx2 fx3
  refine j_aload_n K dX3_rises_102 rfl ?_
  refine j_getA (k := 5) 19 K dX3_rises_103 rfl rfl rfl q1261 rfl rfl (by decide) rfl rfl rfl ?_
  refine j_iload_n K dX3_rises_106 rfl ?_
  refine j_iload_n K dX3_rises_107 rfl ?_
  refine j_ib (fun hi3 => ?_)
  refine j_ias K dX3_rises_108 rfl (fxLen2 19 rfl rfl) hi3 ?_
  exact sb_X3_rises_109 hG hl K hr hnm hxt hnd _ _ _ _ _ _ _
theorem sb_X3_rises_58 {G : Gx} (hG : GW G) {M : Mx} (hl : (mL M).stackTraces = false) {w0 : Wd} {d : Nat} (K : Cx (G, true, M, 4, w0) cX3_rises "IntervalTreeModel" (d + 1)) (hr : (mH M).sig.returnType = none) (hnm : (mH M).name = yX3_rises.name) (hxt : ∀ x ∈ (mC M).exceptionTable.toList, False) (hnd : (mS M).methodNamed? yX3_rises = some (mM M)) : ∀ (x1 : Int32) (x2 : Int32) (x3 : Int32) (w : Wd) (fx1 : Bool) (fx2 : Bool) (fx3 : Bool), Jf (G, true, M, 4, w0) (rrV G pU) (b_X3_rises_58 d x1 x2 x3 w) w 58 [some (aR 3 (some 30)), some (aB fx1 x1), some (aB fx2 x2), some (aB fx3 x3)] [] := by
  intro x1 x2 x3 w fx1 fx2 fx3
  refine j_aload_n K dX3_rises_58 rfl ?_
  refine j_getA (k := 6) 20 K dX3_rises_59 rfl rfl rfl q1262 rfl rfl (by decide) rfl rfl rfl ?_
  refine j_iload_n K dX3_rises_62 rfl ?_
  refine j_iload_n K dX3_rises_63 rfl ?_
  refine j_ib (fun hi5 => ?_)
  refine j_ias K dX3_rises_64 rfl (fxLen2 20 rfl rfl) hi5 ?_
  refine j_goto 109 K dX3_rises_65 (by decide) ?_
  exact sb_X3_rises_109 hG hl K hr hnm hxt hnd _ _ _ _ _ _ _
theorem sim_X3_rises {G : Gx} (hG : GW G) {l : Launch} (hl : l.stackTraces = false) (d : Nat) (p1 : Int32) (w : Wd) (fp1 : Bool) : Mt G true l yX3_rises (ws_ yX3_rises cX3_rises 4 (none)) d (rrV G pU) [aR 3 (some 30), aB fp1 p1] w (f_X3_rises d p1 w) := by
  refine Mt.of (own := "IntervalTreeModel") hG hl (by decide +kernel) rfl rfl ?_
  intro M hM hr hnm hxt hnd K
  subst hM
  cases d with
  | zero => exact j_none
  | succ d =>
    refine j_aload_n K dX3_rises_0 rfl ?_
    refine j_getA (k := 7) 21 K dX3_rises_1 rfl rfl rfl q1263 rfl rfl (by decide) rfl rfl rfl ?_
    refine j_iload_n K dX3_rises_4 rfl ?_
    refine j_ib (fun hi1 => ?_)
    refine j_ial K dX3_rises_5 rfl (fxLen 21 rfl rfl) hi1 ?_
    refine j_istore_n K dX3_rises_6 rfl rfl ?_
    refine j_aload_n K dX3_rises_7 rfl ?_
    refine j_getA (k := 7) 21 K dX3_rises_8 rfl rfl rfl q1263 rfl rfl (by decide) rfl rfl rfl ?_
    refine j_iload_n K dX3_rises_11 rfl ?_
    refine j_ib (fun hi2 => ?_)
    refine j_ial K dX3_rises_12 rfl (fxLen 21 rfl rfl) hi2 ?_
    refine j_istore_n K dX3_rises_13 rfl rfl ?_
    refine j_aload_n K dX3_rises_14 rfl ?_
    refine j_getA (k := 5) 19 K dX3_rises_15 rfl rfl rfl q1261 rfl rfl (by decide) rfl rfl rfl ?_
    refine j_iload_n K dX3_rises_18 rfl ?_
    refine j_ial K dX3_rises_19 rfl (fxLen 19 rfl rfl) hi2 ?_
    refine j_iload_n K dX3_rises_20 rfl ?_
    refine j_icmp_ne 68 K dX3_rises_21 (by decide) ?_ ?_
    · refine j_aload_n K dX3_rises_68 rfl ?_
      refine j_getA (k := 6) 20 K dX3_rises_69 rfl rfl rfl q1262 rfl rfl (by decide) rfl rfl rfl ?_
      refine j_iload_n K dX3_rises_72 rfl ?_
      refine j_aload_n K dX3_rises_73 rfl ?_
      refine j_getA (k := 5) 19 K dX3_rises_74 rfl rfl rfl q1261 rfl rfl (by decide) rfl rfl rfl ?_
      refine j_iload_n K dX3_rises_77 rfl ?_
      refine j_ial K dX3_rises_78 rfl (fxLen 19 rfl rfl) hi1 ?_
      refine j_ias K dX3_rises_79 rfl (fxLen2 20 rfl rfl) hi2 ?_
      refine j_aload_n K dX3_rises_80 rfl ?_
      refine j_getA (k := 5) 19 K dX3_rises_81 rfl rfl rfl q1261 rfl rfl (by decide) rfl rfl rfl ?_
      refine j_iload_n K dX3_rises_84 rfl ?_
      refine j_ial K dX3_rises_85 rfl (fxLen 19 rfl rfl) hi1 ?_
      refine j_iconst (x := (-1)) K dX3_rises_86 rfl ?_
      refine j_icmp_eq 102 K dX3_rises_87 (by decide) ?_ ?_
      · exact sb_X3_rises_102 hG hl K hr hnm hxt hnd _ _ _ _ _ _ _
      · refine j_aload_n K dX3_rises_90 rfl ?_
        refine j_getA (k := 7) 21 K dX3_rises_91 rfl rfl rfl q1263 rfl rfl (by decide) rfl rfl rfl ?_
        refine j_aload_n K dX3_rises_94 rfl ?_
        refine j_getA (k := 5) 19 K dX3_rises_95 rfl rfl rfl q1261 rfl rfl (by decide) rfl rfl rfl ?_
        refine j_iload_n K dX3_rises_98 rfl ?_
        refine j_ial K dX3_rises_99 rfl (fxLen 19 rfl rfl) hi1 ?_
        refine j_iload_n K dX3_rises_100 rfl ?_
        refine j_ib (fun hi4 => ?_)
        refine j_ias K dX3_rises_101 rfl (fxLen2 21 rfl rfl) hi4 ?_
        exact sb_X3_rises_102 hG hl K hr hnm hxt hnd _ _ _ _ _ _ _
    · refine j_aload_n K dX3_rises_24 rfl ?_
      refine j_getA (k := 5) 19 K dX3_rises_25 rfl rfl rfl q1261 rfl rfl (by decide) rfl rfl rfl ?_
      refine j_iload_n K dX3_rises_28 rfl ?_
      refine j_aload_n K dX3_rises_29 rfl ?_
      refine j_getA (k := 6) 20 K dX3_rises_30 rfl rfl rfl q1262 rfl rfl (by decide) rfl rfl rfl ?_
      refine j_iload_n K dX3_rises_33 rfl ?_
      refine j_ial K dX3_rises_34 rfl (fxLen 20 rfl rfl) hi1 ?_
      refine j_ias K dX3_rises_35 rfl (fxLen2 19 rfl rfl) hi2 ?_
      refine j_aload_n K dX3_rises_36 rfl ?_
      refine j_getA (k := 6) 20 K dX3_rises_37 rfl rfl rfl q1262 rfl rfl (by decide) rfl rfl rfl ?_
      refine j_iload_n K dX3_rises_40 rfl ?_
      refine j_ial K dX3_rises_41 rfl (fxLen 20 rfl rfl) hi1 ?_
      refine j_iconst (x := (-1)) K dX3_rises_42 rfl ?_
      refine j_icmp_eq 58 K dX3_rises_43 (by decide) ?_ ?_
      · exact sb_X3_rises_58 hG hl K hr hnm hxt hnd _ _ _ _ _ _ _
      · refine j_aload_n K dX3_rises_46 rfl ?_
        refine j_getA (k := 7) 21 K dX3_rises_47 rfl rfl rfl q1263 rfl rfl (by decide) rfl rfl rfl ?_
        refine j_aload_n K dX3_rises_50 rfl ?_
        refine j_getA (k := 6) 20 K dX3_rises_51 rfl rfl rfl q1262 rfl rfl (by decide) rfl rfl rfl ?_
        refine j_iload_n K dX3_rises_54 rfl ?_
        refine j_ial K dX3_rises_55 rfl (fxLen 20 rfl rfl) hi1 ?_
        refine j_iload_n K dX3_rises_56 rfl ?_
        refine j_ib (fun hi6 => ?_)
        refine j_ias K dX3_rises_57 rfl (fxLen2 21 rfl rfl) hi6 ?_
        exact sb_X3_rises_58 hG hl K hr hnm hxt hnd _ _ _ _ _ _ _

theorem pm_X3_mends : yX3_mends.cls = RX3 ∧ yX3_mends.cls ≠ "java/lang/invoke/MethodHandle" ∧ yX3_mends.cls ≠ "java/lang/invoke/VarHandle" ∧ (parseMethodDescriptor yX3_mends.desc).map (fun d => d.parameters.length) = some 1 := by decide +kernel
def b_X3_mends_186 (d : Nat) (w : Wd) : Option (Wd × Unit) :=
  if ib (gI w 30 9) 500 = true then
    some (sI w 38 (gI w 30 9).toNatClampNeg (vp_nar .boolean 0), ())
  else none
def b_X3_mends_163 (d : Nat) (x3 : Int32) (x4 : Int32) (w : Wd) : Option (Wd × Unit) :=
  if ib x3 500 = true then
    if ib x4 500 = true then
      (f_X3_rises d x3 (sI (sI w 38 x3.toNatClampNeg (vp_nar .boolean 0)) 38 x4.toNatClampNeg (vp_nar .boolean 1))).bind fun r9 =>
      b_X3_mends_186 d r9.1
    else none
  else none
def b_X3_mends_147 (d : Nat) (x2 : Int32) (x3 : Int32) (x4 : Int32) (s0 : Int32) (s1 : Int32) (w : Wd) : Option (Wd × Unit) :=
  if s0 = s1 then
    b_X3_mends_163 d x3 x4 w
  else
    (f_X3_rises d x2 w).bind fun r7 =>
    b_X3_mends_163 d x2 x4 r7.1
def b_X3_mends_131 (d : Nat) (x2 : Int32) (x3 : Int32) (x4 : Int32) (s0 : Int32) (w : Wd) : Option (Wd × Unit) :=
  if ib x4 500 = true then
    if (gI w 35 x4.toNatClampNeg) = x3 then
      b_X3_mends_147 d x2 x3 x4 s0 1 w
    else
      b_X3_mends_147 d x2 x3 x4 s0 0 w
  else none
def b_X3_mends_116 (d : Nat) (x2 : Int32) (x3 : Int32) (x4 : Int32) (w : Wd) : Option (Wd × Unit) :=
  if ib x3 500 = true then
    if (gI w 35 x3.toNatClampNeg) = x2 then
      b_X3_mends_131 d x2 x3 x4 1 w
    else
      b_X3_mends_131 d x2 x3 x4 0 w
  else none
def b_X3_mends_69 (d : Nat) (k2 : Int32 → Wd → Option (Wd × Unit)) (x2 : Int32) (x3 : Int32) (x4 : Int32) (s0 : Int32) (w : Wd) : Option (Wd × Unit) :=
  if s0 = (-1) then
    b_X3_mends_116 d x2 x3 x4 w
  else
    if ib s0 500 = true then
      if (gI w 38 s0.toNatClampNeg) = 0 then
        b_X3_mends_116 d x2 x3 x4 w
      else
        if ib x3 500 = true then
          if ib x4 500 = true then
            k2 x4 (sI (sI (sI w 38 x3.toNatClampNeg (vp_nar .boolean 0)) 38 s0.toNatClampNeg (vp_nar .boolean 0)) 38 x4.toNatClampNeg (vp_nar .boolean 1))
          else none
        else none
    else none
def b_X3_mends_2 (d : Nat) : Nat → Int32 → Wd → Option (Wd × Unit)
  | 0, _, _ => none
  | n + 1, x2, w =>
    if ib x2 500 = true then
      if (gI w 37 x2.toNatClampNeg) = (-1) then
        b_X3_mends_186 d w
      else
        if ib (gI w 37 x2.toNatClampNeg) 500 = true then
          if (gI w 38 (gI w 37 x2.toNatClampNeg).toNatClampNeg) = 0 then
            b_X3_mends_186 d w
          else
            if ib (gI w 37 (gI w 37 x2.toNatClampNeg).toNatClampNeg) 500 = true then
              if (gI w 35 (gI w 37 (gI w 37 x2.toNatClampNeg).toNatClampNeg).toNatClampNeg) = (gI w 37 x2.toNatClampNeg) then
                b_X3_mends_69 d (b_X3_mends_2 d n) x2 (gI w 37 x2.toNatClampNeg) (gI w 37 (gI w 37 x2.toNatClampNeg).toNatClampNeg) (gI w 36 (gI w 37 (gI w 37 x2.toNatClampNeg).toNatClampNeg).toNatClampNeg) w
              else
                b_X3_mends_69 d (b_X3_mends_2 d n) x2 (gI w 37 x2.toNatClampNeg) (gI w 37 (gI w 37 x2.toNatClampNeg).toNatClampNeg) (gI w 35 (gI w 37 (gI w 37 x2.toNatClampNeg).toNatClampNeg).toNatClampNeg) w
            else none
        else none
    else none
def f_X3_mends (d : Nat) (p1 : Int32) (w : Wd) : Option (Wd × Unit) :=
  match d with
  | 0 => none
  | d + 1 =>
    b_X3_mends_2 d FU p1 w
theorem sb_X3_mends_186 {G : Gx} (hG : GW G) {M : Mx} (hl : (mL M).stackTraces = false) {w0 : Wd} {d : Nat} (K : Cx (G, true, M, 7, w0) cX3_mends "IntervalTreeModel" (d + 1)) (hr : (mH M).sig.returnType = none) (hnm : (mH M).name = yX3_mends.name) (hxt : ∀ x ∈ (mC M).exceptionTable.toList, False) (hnd : (mS M).methodNamed? yX3_mends = some (mM M)) : ∀ (w : Wd), Jf (G, true, M, 7, w0) (rrV G pU) (b_X3_mends_186 d w) w 186 [some (aR 3 (some 30)), none, none, none, none, none, none] [] := by
  intro w
  refine j_aload_n K dX3_mends_186 rfl ?_
  refine j_getA (k := 8) 22 K dX3_mends_187 rfl rfl rfl q1264 rfl rfl (by decide) rfl rfl rfl ?_
  refine j_aload_n K dX3_mends_190 rfl ?_
  refine j_getI (k := 9) K dX3_mends_191 rfl rfl rfl q1265 rfl rfl rfl ?_
  refine j_iconstZ K dX3_mends_194 rfl (Or.inl rfl) ?_
  refine j_ib (fun hi2 => ?_)
  refine j_zas K dX3_mends_195 rfl (fxLen2 22 rfl rfl) hi2 ?_
  exact j_vret K hr dX3_mends_196
theorem sb_X3_mends_163 {G : Gx} (hG : GW G) {M : Mx} (hl : (mL M).stackTraces = false) {w0 : Wd} {d : Nat} (K : Cx (G, true, M, 7, w0) cX3_mends "IntervalTreeModel" (d + 1)) (hr : (mH M).sig.returnType = none) (hnm : (mH M).name = yX3_mends.name) (hxt : ∀ x ∈ (mC M).exceptionTable.toList, False) (hnd : (mS M).methodNamed? yX3_mends = some (mM M)) : ∀ (x3 : Int32) (x4 : Int32) (w : Wd) (fx3 : Bool) (fx4 : Bool), Jf (G, true, M, 7, w0) (rrV G pU) (b_X3_mends_163 d x3 x4 w) w 163 [some (aR 3 (some 30)), none, none, some (aB fx3 x3), some (aB fx4 x4), none, none] [] := by
  intro x3 x4 w fx3 fx4
  refine j_aload_n K dX3_mends_163 rfl ?_
  refine j_getA (k := 8) 22 K dX3_mends_164 rfl rfl rfl q1264 rfl rfl (by decide) rfl rfl rfl ?_
  refine j_iload_n K dX3_mends_167 rfl ?_
  refine j_iconstZ K dX3_mends_168 rfl (Or.inl rfl) ?_
  refine j_ib (fun hi7 => ?_)
  refine j_zas K dX3_mends_169 rfl (fxLen2 22 rfl rfl) hi7 ?_
  refine j_aload_n K dX3_mends_170 rfl ?_
  refine j_getA (k := 8) 22 K dX3_mends_171 rfl rfl rfl q1264 rfl rfl (by decide) rfl rfl rfl ?_
  refine j_iload K dX3_mends_174 rfl ?_
  refine j_iconstZ K dX3_mends_176 rfl (Or.inr rfl) ?_
  refine j_ib (fun hi8 => ?_)
  refine j_zas K dX3_mends_177 rfl (fxLen2 22 rfl rfl) hi8 ?_
  refine j_aload_n K dX3_mends_178 rfl ?_
  refine j_iload_n K dX3_mends_179 rfl ?_
  refine j_callV _ K (sim_X3_rises hG hl d x3 (sI (sI w 38 x3.toNatClampNeg (vp_nar .boolean 0)) 38 x4.toNatClampNeg (vp_nar .boolean 1)) fx3) dX3_mends_180 rfl rfl q1448 q1450 qs58 q95 q1451 pm_X3_rises rfl rfl rfl rfl rfl (fun r9 _ => ?_)
  refine j_goto 186 K dX3_mends_183 (by decide) ?_
  exact j_wk (sb_X3_mends_186 hG hl K hr hnm hxt hnd _) ⟨rfl, trivial⟩
theorem sb_X3_mends_147 {G : Gx} (hG : GW G) {M : Mx} (hl : (mL M).stackTraces = false) {w0 : Wd} {d : Nat} (K : Cx (G, true, M, 7, w0) cX3_mends "IntervalTreeModel" (d + 1)) (hr : (mH M).sig.returnType = none) (hnm : (mH M).name = yX3_mends.name) (hxt : ∀ x ∈ (mC M).exceptionTable.toList, False) (hnd : (mS M).methodNamed? yX3_mends = some (mM M)) : ∀ (x2 : Int32) (x3 : Int32) (x4 : Int32) (s0 : Int32) (s1 : Int32) (w : Wd) (fx2 : Bool) (fx3 : Bool) (fx4 : Bool), Jf (G, true, M, 7, w0) (rrV G pU) (b_X3_mends_147 d x2 x3 x4 s0 s1 w) w 147 [some (aR 3 (some 30)), none, some (aB fx2 x2), some (aB fx3 x3), some (aB fx4 x4), none, none] [aB true s1, aB true s0] := by
  intro x2 x3 x4 s0 s1 w fx2 fx3 fx4
  refine j_icmp_eq 163 K dX3_mends_147 (by decide) ?_ ?_
  · exact j_wk (sb_X3_mends_163 hG hl K hr hnm hxt hnd _ _ _ _ _) ⟨rfl, rfl, rfl, trivial⟩
  · refine j_aload_n K dX3_mends_150 rfl ?_
    refine j_iload_n K dX3_mends_151 rfl ?_
    refine j_callV _ K (sim_X3_rises hG hl d x2 w fx2) dX3_mends_152 rfl rfl q1448 q1450 qs58 q95 q1451 pm_X3_rises rfl rfl rfl rfl rfl (fun r7 _ => ?_)
    refine j_iload_n K dX3_mends_155 rfl ?_
    refine j_istore K dX3_mends_156 rfl rfl ?_
    refine j_iload_n K dX3_mends_158 rfl ?_
    refine j_istore_n K dX3_mends_159 rfl rfl ?_
    refine j_iload K dX3_mends_160 rfl ?_
    refine j_istore_n K dX3_mends_162 rfl rfl ?_
    exact j_wk (sb_X3_mends_163 hG hl K hr hnm hxt hnd _ _ _ _ _) ⟨rfl, rfl, rfl, trivial⟩
theorem sb_X3_mends_131 {G : Gx} (hG : GW G) {M : Mx} (hl : (mL M).stackTraces = false) {w0 : Wd} {d : Nat} (K : Cx (G, true, M, 7, w0) cX3_mends "IntervalTreeModel" (d + 1)) (hr : (mH M).sig.returnType = none) (hnm : (mH M).name = yX3_mends.name) (hxt : ∀ x ∈ (mC M).exceptionTable.toList, False) (hnd : (mS M).methodNamed? yX3_mends = some (mM M)) : ∀ (x2 : Int32) (x3 : Int32) (x4 : Int32) (s0 : Int32) (w : Wd) (fx2 : Bool) (fx3 : Bool) (fx4 : Bool), Jf (G, true, M, 7, w0) (rrV G pU) (b_X3_mends_131 d x2 x3 x4 s0 w) w 131 [some (aR 3 (some 30)), none, some (aB fx2 x2), some (aB fx3 x3), some (aB fx4 x4), none, none] [aB true s0] := by
  intro x2 x3 x4 s0 w fx2 fx3 fx4
  refine j_aload_n K dX3_mends_131 rfl ?_
  refine j_getA (k := 5) 19 K dX3_mends_132 rfl rfl rfl q1261 rfl rfl (by decide) rfl rfl rfl ?_
  refine j_iload K dX3_mends_135 rfl ?_
  refine j_ib (fun hi6 => ?_)
  refine j_ial K dX3_mends_137 rfl (fxLen 19 rfl rfl) hi6 ?_
  refine j_iload_n K dX3_mends_138 rfl ?_
  refine j_icmp_ne 146 K dX3_mends_139 (by decide) ?_ ?_
  · refine j_iconstZ K dX3_mends_146 rfl (Or.inl rfl) ?_
    exact j_wk (sb_X3_mends_147 hG hl K hr hnm hxt hnd _ _ _ _ _ _ _ _ _) ⟨rfl, rfl, rfl, rfl, trivial⟩
  · refine j_iconstZ K dX3_mends_142 rfl (Or.inr rfl) ?_
    refine j_goto 147 K dX3_mends_143 (by decide) ?_
    exact j_wk (sb_X3_mends_147 hG hl K hr hnm hxt hnd _ _ _ _ _ _ _ _ _) ⟨rfl, rfl, rfl, rfl, trivial⟩
theorem sb_X3_mends_116 {G : Gx} (hG : GW G) {M : Mx} (hl : (mL M).stackTraces = false) {w0 : Wd} {d : Nat} (K : Cx (G, true, M, 7, w0) cX3_mends "IntervalTreeModel" (d + 1)) (hr : (mH M).sig.returnType = none) (hnm : (mH M).name = yX3_mends.name) (hxt : ∀ x ∈ (mC M).exceptionTable.toList, False) (hnd : (mS M).methodNamed? yX3_mends = some (mM M)) : ∀ (x2 : Int32) (x3 : Int32) (x4 : Int32) (w : Wd) (fx2 : Bool) (fx3 : Bool) (fx4 : Bool), Jf (G, true, M, 7, w0) (rrV G pU) (b_X3_mends_116 d x2 x3 x4 w) w 116 [some (aR 3 (some 30)), none, some (aB fx2 x2), some (aB fx3 x3), some (aB fx4 x4), none, none] [] := by
  intro x2 x3 x4 w fx2 fx3 fx4
  refine j_aload_n K dX3_mends_116 rfl ?_
  refine j_getA (k := 5) 19 K dX3_mends_117 rfl rfl rfl q1261 rfl rfl (by decide) rfl rfl rfl ?_
  refine j_iload_n K dX3_mends_120 rfl ?_
  refine j_ib (fun hi5 => ?_)
  refine j_ial K dX3_mends_121 rfl (fxLen 19 rfl rfl) hi5 ?_
  refine j_iload_n K dX3_mends_122 rfl ?_
  refine j_icmp_ne 130 K dX3_mends_123 (by decide) ?_ ?_
  · refine j_iconstZ K dX3_mends_130 rfl (Or.inl rfl) ?_
    exact j_wk (sb_X3_mends_131 hG hl K hr hnm hxt hnd _ _ _ _ _ _ _ _) ⟨rfl, rfl, rfl, rfl, trivial⟩
  · refine j_iconstZ K dX3_mends_126 rfl (Or.inr rfl) ?_
    refine j_goto 131 K dX3_mends_127 (by decide) ?_
    exact j_wk (sb_X3_mends_131 hG hl K hr hnm hxt hnd _ _ _ _ _ _ _ _) ⟨rfl, rfl, rfl, rfl, trivial⟩
theorem sb_X3_mends_69 {G : Gx} (hG : GW G) {M : Mx} (hl : (mL M).stackTraces = false) {w0 : Wd} {d : Nat} (K : Cx (G, true, M, 7, w0) cX3_mends "IntervalTreeModel" (d + 1)) (hr : (mH M).sig.returnType = none) (hnm : (mH M).name = yX3_mends.name) (hxt : ∀ x ∈ (mC M).exceptionTable.toList, False) (hnd : (mS M).methodNamed? yX3_mends = some (mM M)) {k2 : Int32 → Wd → Option (Wd × Unit)} (hk2 : ∀ (x2 : Int32) (w : Wd) (fx2 : Bool), Jf (G, true, M, 7, w0) (rrV G pU) (k2 x2 w) w 2 [some (aR 3 (some 30)), none, some (aB fx2 x2), none, none, none, none] []) : ∀ (x2 : Int32) (x3 : Int32) (x4 : Int32) (s0 : Int32) (w : Wd) (fx2 : Bool) (fx3 : Bool) (fx4 : Bool) (fs0 : Bool), Jf (G, true, M, 7, w0) (rrV G pU) (b_X3_mends_69 d k2 x2 x3 x4 s0 w) w 69 [some (aR 3 (some 30)), none, some (aB fx2 x2), some (aB fx3 x3), some (aB fx4 x4), none, none] [aB fs0 s0] := by
  intro x2 x3 x4 s0 w fx2 fx3 fx4 fs0
  refine j_istore K dX3_mends_69 rfl rfl ?_
  refine j_iload K dX3_mends_71 rfl ?_
  refine j_iconst (x := (-1)) K dX3_mends_73 rfl ?_
  refine j_icmp_eq 116 K dX3_mends_74 (by decide) ?_ ?_
  · exact j_wk (sb_X3_mends_116 hG hl K hr hnm hxt hnd _ _ _ _ _ _ _) ⟨rfl, rfl, rfl, rfl, trivial⟩
  · refine j_aload_n K dX3_mends_77 rfl ?_
    refine j_getA (k := 8) 22 K dX3_mends_78 rfl rfl rfl q1264 rfl rfl (by decide) rfl rfl rfl ?_
    refine j_iload K dX3_mends_81 rfl ?_
    refine j_ib (fun hi5 => ?_)
    refine j_zal K dX3_mends_83 rfl (fxLen 22 rfl rfl) hi5 ?_
    refine j_if_eq 116 K dX3_mends_84 (by decide) ?_ ?_
    · exact j_wk (sb_X3_mends_116 hG hl K hr hnm hxt hnd _ _ _ _ _ _ _) ⟨rfl, rfl, rfl, rfl, trivial⟩
    · refine j_aload_n K dX3_mends_87 rfl ?_
      refine j_getA (k := 8) 22 K dX3_mends_88 rfl rfl rfl q1264 rfl rfl (by decide) rfl rfl rfl ?_
      refine j_iload_n K dX3_mends_91 rfl ?_
      refine j_iconstZ K dX3_mends_92 rfl (Or.inl rfl) ?_
      refine j_ib (fun hi6 => ?_)
      refine j_zas K dX3_mends_93 rfl (fxLen2 22 rfl rfl) hi6 ?_
      refine j_aload_n K dX3_mends_94 rfl ?_
      refine j_getA (k := 8) 22 K dX3_mends_95 rfl rfl rfl q1264 rfl rfl (by decide) rfl rfl rfl ?_
      refine j_iload K dX3_mends_98 rfl ?_
      refine j_iconstZ K dX3_mends_100 rfl (Or.inl rfl) ?_
      refine j_zas K dX3_mends_101 rfl (fxLen2 22 rfl rfl) hi5 ?_
      refine j_aload_n K dX3_mends_102 rfl ?_
      refine j_getA (k := 8) 22 K dX3_mends_103 rfl rfl rfl q1264 rfl rfl (by decide) rfl rfl rfl ?_
      refine j_iload K dX3_mends_106 rfl ?_
      refine j_iconstZ K dX3_mends_108 rfl (Or.inr rfl) ?_
      refine j_ib (fun hi7 => ?_)
      refine j_zas K dX3_mends_109 rfl (fxLen2 22 rfl rfl) hi7 ?_
      refine j_iload K dX3_mends_110 rfl ?_
      refine j_istore_n K dX3_mends_112 rfl rfl ?_
      refine j_goto 2 K dX3_mends_113 (by decide) ?_
      exact j_wk (hk2 _ _ _) ⟨rfl, rfl, trivial⟩
theorem sb_X3_mends_2 {G : Gx} (hG : GW G) {M : Mx} (hl : (mL M).stackTraces = false) {w0 : Wd} {d : Nat} (K : Cx (G, true, M, 7, w0) cX3_mends "IntervalTreeModel" (d + 1)) (hr : (mH M).sig.returnType = none) (hnm : (mH M).name = yX3_mends.name) (hxt : ∀ x ∈ (mC M).exceptionTable.toList, False) (hnd : (mS M).methodNamed? yX3_mends = some (mM M)) : ∀ (n : Nat), ∀ (x2 : Int32) (w : Wd) (fx2 : Bool), Jf (G, true, M, 7, w0) (rrV G pU) (b_X3_mends_2 d n x2 w) w 2 [some (aR 3 (some 30)), none, some (aB fx2 x2), none, none, none, none] [] := by
  intro n
  induction n with
  | zero => intros; exact j_none
  | succ n ih =>
    intro x2 w fx2
    refine j_aload_n K dX3_mends_2 rfl ?_
    refine j_getA (k := 7) 21 K dX3_mends_3 rfl rfl rfl q1263 rfl rfl (by decide) rfl rfl rfl ?_
    refine j_iload_n K dX3_mends_6 rfl ?_
    refine j_ib (fun hi1 => ?_)
    refine j_ial K dX3_mends_7 rfl (fxLen 21 rfl rfl) hi1 ?_
    refine j_iconst (x := (-1)) K dX3_mends_8 rfl ?_
    refine j_icmp_eq 186 K dX3_mends_9 (by decide) ?_ ?_
    · exact j_wk (sb_X3_mends_186 hG hl K hr hnm hxt hnd _) ⟨rfl, trivial⟩
    · refine j_aload_n K dX3_mends_12 rfl ?_
      refine j_getA (k := 8) 22 K dX3_mends_13 rfl rfl rfl q1264 rfl rfl (by decide) rfl rfl rfl ?_
      refine j_aload_n K dX3_mends_16 rfl ?_
      refine j_getA (k := 7) 21 K dX3_mends_17 rfl rfl rfl q1263 rfl rfl (by decide) rfl rfl rfl ?_
      refine j_iload_n K dX3_mends_20 rfl ?_
      refine j_ial K dX3_mends_21 rfl (fxLen 21 rfl rfl) hi1 ?_
      refine j_ib (fun hi2 => ?_)
      refine j_zal K dX3_mends_22 rfl (fxLen 22 rfl rfl) hi2 ?_
      refine j_if_eq 186 K dX3_mends_23 (by decide) ?_ ?_
      · exact j_wk (sb_X3_mends_186 hG hl K hr hnm hxt hnd _) ⟨rfl, trivial⟩
      · refine j_aload_n K dX3_mends_26 rfl ?_
        refine j_getA (k := 7) 21 K dX3_mends_27 rfl rfl rfl q1263 rfl rfl (by decide) rfl rfl rfl ?_
        refine j_iload_n K dX3_mends_30 rfl ?_
        refine j_ial K dX3_mends_31 rfl (fxLen 21 rfl rfl) hi1 ?_
        refine j_istore_n K dX3_mends_32 rfl rfl ?_
        refine j_aload_n K dX3_mends_33 rfl ?_
        refine j_getA (k := 7) 21 K dX3_mends_34 rfl rfl rfl q1263 rfl rfl (by decide) rfl rfl rfl ?_
        refine j_iload_n K dX3_mends_37 rfl ?_
        refine j_ial K dX3_mends_38 rfl (fxLen 21 rfl rfl) hi2 ?_
        refine j_istore K dX3_mends_39 rfl rfl ?_
        refine j_aload_n K dX3_mends_41 rfl ?_
        refine j_getA (k := 5) 19 K dX3_mends_42 rfl rfl rfl q1261 rfl rfl (by decide) rfl rfl rfl ?_
        refine j_iload K dX3_mends_45 rfl ?_
        refine j_ib (fun hi3 => ?_)
        refine j_ial K dX3_mends_47 rfl (fxLen 19 rfl rfl) hi3 ?_
        refine j_iload_n K dX3_mends_48 rfl ?_
        refine j_icmp_ne 62 K dX3_mends_49 (by decide) ?_ ?_
        · refine j_aload_n K dX3_mends_62 rfl ?_
          refine j_getA (k := 5) 19 K dX3_mends_63 rfl rfl rfl q1261 rfl rfl (by decide) rfl rfl rfl ?_
          refine j_iload K dX3_mends_66 rfl ?_
          refine j_ial K dX3_mends_68 rfl (fxLen 19 rfl rfl) hi3 ?_
          exact j_wk (sb_X3_mends_69 hG hl K hr hnm hxt hnd ih _ _ _ _ _ _ _ _ _) ⟨rfl, rfl, rfl, rfl, trivial⟩
        · refine j_aload_n K dX3_mends_52 rfl ?_
          refine j_getA (k := 6) 20 K dX3_mends_53 rfl rfl rfl q1262 rfl rfl (by decide) rfl rfl rfl ?_
          refine j_iload K dX3_mends_56 rfl ?_
          refine j_ial K dX3_mends_58 rfl (fxLen 20 rfl rfl) hi3 ?_
          refine j_goto 69 K dX3_mends_59 (by decide) ?_
          exact j_wk (sb_X3_mends_69 hG hl K hr hnm hxt hnd ih _ _ _ _ _ _ _ _ _) ⟨rfl, rfl, rfl, rfl, trivial⟩
theorem sim_X3_mends {G : Gx} (hG : GW G) {l : Launch} (hl : l.stackTraces = false) (d : Nat) (p1 : Int32) (w : Wd) (fp1 : Bool) : Mt G true l yX3_mends (ws_ yX3_mends cX3_mends 7 (none)) d (rrV G pU) [aR 3 (some 30), aB fp1 p1] w (f_X3_mends d p1 w) := by
  refine Mt.of (own := "IntervalTreeModel") hG hl (by decide +kernel) rfl rfl ?_
  intro M hM hr hnm hxt hnd K
  subst hM
  cases d with
  | zero => exact j_none
  | succ d =>
    refine j_iload_n K dX3_mends_0 rfl ?_
    refine j_istore_n K dX3_mends_1 rfl rfl ?_
    exact j_wk (sb_X3_mends_2 hG hl K hr hnm hxt hnd FU _ _ _) ⟨rfl, rfl, trivial⟩

theorem pm_X3_insert : yX3_insert.cls = RX3 ∧ yX3_insert.cls ≠ "java/lang/invoke/MethodHandle" ∧ yX3_insert.cls ≠ "java/lang/invoke/VarHandle" ∧ (parseMethodDescriptor yX3_insert.desc).map (fun d => d.parameters.length) = some 3 := by decide +kernel
def b_X3_insert_40 (d : Nat) (w : Wd) : Option (Wd × Int32) :=
  (f_X3_fails d 1 w).bind fun r2 =>
  some (r2.1, r2.2)
def b_X3_insert_91 (d : Nat) (x1 : Int32) (x2 : Int32) (x3 : Int32) (w : Wd) : Option (Wd × Int32) :=
  if ib (gI w 30 10) 500 = true then
    if ib (gI (sI w 31 (gI w 30 10).toNatClampNeg x1) 30 10) 500 = true then
      if ib (gI (sI (sI w 31 (gI w 30 10).toNatClampNeg x1) 32 (gI (sI w 31 (gI w 30 10).toNatClampNeg x1) 30 10).toNatClampNeg x2) 30 10) 500 = true then
        if ib (gI (sI (sI (sI w 31 (gI w 30 10).toNatClampNeg x1) 32 (gI (sI w 31 (gI w 30 10).toNatClampNeg x1) 30 10).toNatClampNeg x2) 33 (gI (sI (sI w 31 (gI w 30 10).toNatClampNeg x1) 32 (gI (sI w 31 (gI w 30 10).toNatClampNeg x1) 30 10).toNatClampNeg x2) 30 10).toNatClampNeg x3) 30 10) 500 = true then
          (f_X3_hangsNew d (gI (sI (sI (sI (sI w 31 (gI w 30 10).toNatClampNeg x1) 32 (gI (sI w 31 (gI w 30 10).toNatClampNeg x1) 30 10).toNatClampNeg x2) 33 (gI (sI (sI w 31 (gI w 30 10).toNatClampNeg x1) 32 (gI (sI w 31 (gI w 30 10).toNatClampNeg x1) 30 10).toNatClampNeg x2) 30 10).toNatClampNeg x3) 34 (gI (sI (sI (sI w 31 (gI w 30 10).toNatClampNeg x1) 32 (gI (sI w 31 (gI w 30 10).toNatClampNeg x1) 30 10).toNatClampNeg x2) 33 (gI (sI (sI w 31 (gI w 30 10).toNatClampNeg x1) 32 (gI (sI w 31 (gI w 30 10).toNatClampNeg x1) 30 10).toNatClampNeg x2) 30 10).toNatClampNeg x3) 30 10).toNatClampNeg 0) 30 10) (sI (sI (sI (sI w 31 (gI w 30 10).toNatClampNeg x1) 32 (gI (sI w 31 (gI w 30 10).toNatClampNeg x1) 30 10).toNatClampNeg x2) 33 (gI (sI (sI w 31 (gI w 30 10).toNatClampNeg x1) 32 (gI (sI w 31 (gI w 30 10).toNatClampNeg x1) 30 10).toNatClampNeg x2) 30 10).toNatClampNeg x3) 34 (gI (sI (sI (sI w 31 (gI w 30 10).toNatClampNeg x1) 32 (gI (sI w 31 (gI w 30 10).toNatClampNeg x1) 30 10).toNatClampNeg x2) 33 (gI (sI (sI w 31 (gI w 30 10).toNatClampNeg x1) 32 (gI (sI w 31 (gI w 30 10).toNatClampNeg x1) 30 10).toNatClampNeg x2) 30 10).toNatClampNeg x3) 30 10).toNatClampNeg 0)).bind fun r9 =>
          (f_X3_mends d (gI r9.1 30 10) r9.1).bind fun r10 =>
          some (sI (sI r10.1 30 11 ((gI r10.1 30 11) + 1)) 30 10 ((gI (sI r10.1 30 11 ((gI r10.1 30 11) + 1)) 30 10) + 1), ((gI (sI (sI r10.1 30 11 ((gI r10.1 30 11) + 1)) 30 10 ((gI (sI r10.1 30 11 ((gI r10.1 30 11) + 1)) 30 10) + 1)) 30 10) - 1))
        else none
      else none
    else none
  else none
def b_X3_insert_72 (d : Nat) (w : Wd) : Option (Wd × Int32) :=
  (f_X3_fails d 2 w).bind fun r12 =>
  some (r12.1, r12.2)
def b_X3_insert_62 (d : Nat) (x1 : Int32) (x2 : Int32) (x3 : Int32) (w : Wd) : Option (Wd × Int32) :=
  if (gI w 30 10) = 500 then
    b_X3_insert_72 d w
  else
    if (gI w 30 11) = 100 then
      (f_X3_rebuilds d w).bind fun r5 =>
      b_X3_insert_91 d x1 x2 x3 r5.1
    else
      b_X3_insert_91 d x1 x2 x3 w
def f_X3_insert (d : Nat) (p1 : Int32) (p2 : Int32) (p3 : Int32) (w : Wd) : Option (Wd × Int32) :=
  match d with
  | 0 => none
  | d + 1 =>
    (f_X3_in d p1 (-1000) 1000 (sI w 30 0 0)).bind fun r1 =>
    if r1.2 = 0 then
      b_X3_insert_40 d r1.1
    else
      (f_X3_in d p2 p1 1000 r1.1).bind fun r3 =>
      if r3.2 = 0 then
        b_X3_insert_40 d r3.1
      else
        (f_X3_in d p3 0 999 r3.1).bind fun r4 =>
        if r4.2 = 0 then
          b_X3_insert_40 d r4.1
        else
          if (gI r4.1 30 11) = 100 then
            if (gI r4.1 30 12) = 0 then
              b_X3_insert_72 d r4.1
            else
              b_X3_insert_62 d p1 p2 p3 r4.1
          else
            b_X3_insert_62 d p1 p2 p3 r4.1
theorem sb_X3_insert_40 {G : Gx} (hG : GW G) {M : Mx} (hl : (mL M).stackTraces = false) {w0 : Wd} {d : Nat} (K : Cx (G, true, M, 4, w0) cX3_insert "IntervalTreeModel" (d + 1)) (hr : (mH M).sig.returnType = some .int) (hnm : (mH M).name = yX3_insert.name) (hxt : ∀ x ∈ (mC M).exceptionTable.toList, False) (hnd : (mS M).methodNamed? yX3_insert = some (mM M)) : ∀ (w : Wd), Jf (G, true, M, 4, w0) (rrV G pI) (b_X3_insert_40 d w) w 40 [some (aR 3 (some 30)), none, none, none] [] := by
  intro w
  refine j_aload_n K dX3_insert_40 rfl ?_
  refine j_iconstZ K dX3_insert_41 rfl (Or.inr rfl) ?_
  refine j_callV _ K (sim_X3_fails hG hl d 1 w true) dX3_insert_42 rfl rfl q1420 q1422 qs51 q95 q1423 pm_X3_fails rfl rfl rfl rfl rfl (fun r2 _ => ?_)
  exact j_iret K hr dX3_insert_45
theorem sb_X3_insert_91 {G : Gx} (hG : GW G) {M : Mx} (hl : (mL M).stackTraces = false) {w0 : Wd} {d : Nat} (K : Cx (G, true, M, 4, w0) cX3_insert "IntervalTreeModel" (d + 1)) (hr : (mH M).sig.returnType = some .int) (hnm : (mH M).name = yX3_insert.name) (hxt : ∀ x ∈ (mC M).exceptionTable.toList, False) (hnd : (mS M).methodNamed? yX3_insert = some (mM M)) : ∀ (x1 : Int32) (x2 : Int32) (x3 : Int32) (w : Wd) (fx1 : Bool) (fx2 : Bool) (fx3 : Bool), Jf (G, true, M, 4, w0) (rrV G pI) (b_X3_insert_91 d x1 x2 x3 w) w 91 [some (aR 3 (some 30)), some (aB fx1 x1), some (aB fx2 x2), some (aB fx3 x3)] [] := by
  intro x1 x2 x3 w fx1 fx2 fx3
  refine j_aload_n K dX3_insert_91 rfl ?_
  refine j_getA (k := 1) 15 K dX3_insert_92 rfl rfl rfl q1257 rfl rfl (by decide) rfl rfl rfl ?_
  refine j_aload_n K dX3_insert_95 rfl ?_
  refine j_getI (k := 10) K dX3_insert_96 rfl rfl rfl q1266 rfl rfl rfl ?_
  refine j_iload_n K dX3_insert_99 rfl ?_
  refine j_ib (fun hi5 => ?_)
  refine j_ias K dX3_insert_100 rfl (fxLen2 15 rfl rfl) hi5 ?_
  refine j_aload_n K dX3_insert_101 rfl ?_
  refine j_getA (k := 2) 16 K dX3_insert_102 rfl rfl rfl q1258 rfl rfl (by decide) rfl rfl rfl ?_
  refine j_aload_n K dX3_insert_105 rfl ?_
  refine j_getI (k := 10) K dX3_insert_106 rfl rfl rfl q1266 rfl rfl rfl ?_
  refine j_iload_n K dX3_insert_109 rfl ?_
  refine j_ib (fun hi6 => ?_)
  refine j_ias K dX3_insert_110 rfl (fxLen2 16 rfl rfl) hi6 ?_
  refine j_aload_n K dX3_insert_111 rfl ?_
  refine j_getA (k := 3) 17 K dX3_insert_112 rfl rfl rfl q1259 rfl rfl (by decide) rfl rfl rfl ?_
  refine j_aload_n K dX3_insert_115 rfl ?_
  refine j_getI (k := 10) K dX3_insert_116 rfl rfl rfl q1266 rfl rfl rfl ?_
  refine j_iload_n K dX3_insert_119 rfl ?_
  refine j_ib (fun hi7 => ?_)
  refine j_ias K dX3_insert_120 rfl (fxLen2 17 rfl rfl) hi7 ?_
  refine j_aload_n K dX3_insert_121 rfl ?_
  refine j_getA (k := 4) 18 K dX3_insert_122 rfl rfl rfl q1260 rfl rfl (by decide) rfl rfl rfl ?_
  refine j_aload_n K dX3_insert_125 rfl ?_
  refine j_getI (k := 10) K dX3_insert_126 rfl rfl rfl q1266 rfl rfl rfl ?_
  refine j_iconstZ K dX3_insert_129 rfl (Or.inl rfl) ?_
  refine j_ib (fun hi8 => ?_)
  refine j_ias K dX3_insert_130 rfl (fxLen2 18 rfl rfl) hi8 ?_
  refine j_aload_n K dX3_insert_131 rfl ?_
  refine j_aload_n K dX3_insert_132 rfl ?_
  refine j_getI (k := 10) K dX3_insert_133 rfl rfl rfl q1266 rfl rfl rfl ?_
  refine j_callV _ K (sim_X3_hangsNew hG hl d (gI (sI (sI (sI (sI w 31 (gI w 30 10).toNatClampNeg x1) 32 (gI (sI w 31 (gI w 30 10).toNatClampNeg x1) 30 10).toNatClampNeg x2) 33 (gI (sI (sI w 31 (gI w 30 10).toNatClampNeg x1) 32 (gI (sI w 31 (gI w 30 10).toNatClampNeg x1) 30 10).toNatClampNeg x2) 30 10).toNatClampNeg x3) 34 (gI (sI (sI (sI w 31 (gI w 30 10).toNatClampNeg x1) 32 (gI (sI w 31 (gI w 30 10).toNatClampNeg x1) 30 10).toNatClampNeg x2) 33 (gI (sI (sI w 31 (gI w 30 10).toNatClampNeg x1) 32 (gI (sI w 31 (gI w 30 10).toNatClampNeg x1) 30 10).toNatClampNeg x2) 30 10).toNatClampNeg x3) 30 10).toNatClampNeg 0) 30 10) (sI (sI (sI (sI w 31 (gI w 30 10).toNatClampNeg x1) 32 (gI (sI w 31 (gI w 30 10).toNatClampNeg x1) 30 10).toNatClampNeg x2) 33 (gI (sI (sI w 31 (gI w 30 10).toNatClampNeg x1) 32 (gI (sI w 31 (gI w 30 10).toNatClampNeg x1) 30 10).toNatClampNeg x2) 30 10).toNatClampNeg x3) 34 (gI (sI (sI (sI w 31 (gI w 30 10).toNatClampNeg x1) 32 (gI (sI w 31 (gI w 30 10).toNatClampNeg x1) 30 10).toNatClampNeg x2) 33 (gI (sI (sI w 31 (gI w 30 10).toNatClampNeg x1) 32 (gI (sI w 31 (gI w 30 10).toNatClampNeg x1) 30 10).toNatClampNeg x2) 30 10).toNatClampNeg x3) 30 10).toNatClampNeg 0) false) dX3_insert_136 rfl rfl q1440 q1442 qs56 q95 q1443 pm_X3_hangsNew rfl rfl rfl rfl rfl (fun r9 _ => ?_)
  refine j_aload_n K dX3_insert_139 rfl ?_
  refine j_aload_n K dX3_insert_140 rfl ?_
  refine j_getI (k := 10) K dX3_insert_141 rfl rfl rfl q1266 rfl rfl rfl ?_
  refine j_callV _ K (sim_X3_mends hG hl d (gI r9.1 30 10) r9.1 false) dX3_insert_144 rfl rfl q1444 q1446 qs57 q95 q1447 pm_X3_mends rfl rfl rfl rfl rfl (fun r10 _ => ?_)
  refine j_aload_n K dX3_insert_147 rfl ?_
  refine j_dup K dX3_insert_148 rfl ?_
  refine j_getI (k := 11) K dX3_insert_149 rfl rfl rfl q1267 rfl rfl rfl ?_
  refine j_iconstZ K dX3_insert_152 rfl (Or.inr rfl) ?_
  refine j_iadd K dX3_insert_153 ?_
  refine j_putI (k := 11) K dX3_insert_154 rfl rfl q1267 rfl (Or.inl rfl) rfl rfl rfl rfl ?_
  refine j_aload_n K dX3_insert_157 rfl ?_
  refine j_dup K dX3_insert_158 rfl ?_
  refine j_getI (k := 10) K dX3_insert_159 rfl rfl rfl q1266 rfl rfl rfl ?_
  refine j_iconstZ K dX3_insert_162 rfl (Or.inr rfl) ?_
  refine j_iadd K dX3_insert_163 ?_
  refine j_putI (k := 10) K dX3_insert_164 rfl rfl q1266 rfl (Or.inl rfl) rfl rfl rfl rfl ?_
  refine j_aload_n K dX3_insert_167 rfl ?_
  refine j_getI (k := 10) K dX3_insert_168 rfl rfl rfl q1266 rfl rfl rfl ?_
  refine j_iconstZ K dX3_insert_171 rfl (Or.inr rfl) ?_
  refine j_isub K dX3_insert_172 ?_
  exact j_iret K hr dX3_insert_173
theorem sb_X3_insert_72 {G : Gx} (hG : GW G) {M : Mx} (hl : (mL M).stackTraces = false) {w0 : Wd} {d : Nat} (K : Cx (G, true, M, 4, w0) cX3_insert "IntervalTreeModel" (d + 1)) (hr : (mH M).sig.returnType = some .int) (hnm : (mH M).name = yX3_insert.name) (hxt : ∀ x ∈ (mC M).exceptionTable.toList, False) (hnd : (mS M).methodNamed? yX3_insert = some (mM M)) : ∀ (w : Wd), Jf (G, true, M, 4, w0) (rrV G pI) (b_X3_insert_72 d w) w 72 [some (aR 3 (some 30)), none, none, none] [] := by
  intro w
  refine j_aload_n K dX3_insert_72 rfl ?_
  refine j_iconst (x := 2) K dX3_insert_73 rfl ?_
  refine j_callV _ K (sim_X3_fails hG hl d 2 w false) dX3_insert_74 rfl rfl q1420 q1422 qs51 q95 q1423 pm_X3_fails rfl rfl rfl rfl rfl (fun r12 _ => ?_)
  exact j_iret K hr dX3_insert_77
theorem sb_X3_insert_62 {G : Gx} (hG : GW G) {M : Mx} (hl : (mL M).stackTraces = false) {w0 : Wd} {d : Nat} (K : Cx (G, true, M, 4, w0) cX3_insert "IntervalTreeModel" (d + 1)) (hr : (mH M).sig.returnType = some .int) (hnm : (mH M).name = yX3_insert.name) (hxt : ∀ x ∈ (mC M).exceptionTable.toList, False) (hnd : (mS M).methodNamed? yX3_insert = some (mM M)) : ∀ (x1 : Int32) (x2 : Int32) (x3 : Int32) (w : Wd) (fx1 : Bool) (fx2 : Bool) (fx3 : Bool), Jf (G, true, M, 4, w0) (rrV G pI) (b_X3_insert_62 d x1 x2 x3 w) w 62 [some (aR 3 (some 30)), some (aB fx1 x1), some (aB fx2 x2), some (aB fx3 x3)] [] := by
  intro x1 x2 x3 w fx1 fx2 fx3
  refine j_aload_n K dX3_insert_62 rfl ?_
  refine j_getI (k := 10) K dX3_insert_63 rfl rfl rfl q1266 rfl rfl rfl ?_
  refine j_sipush (x := 500) K dX3_insert_66 (by decide +kernel) ?_
  refine j_icmp_ne 78 K dX3_insert_69 (by decide) ?_ ?_
  · refine j_aload_n K dX3_insert_78 rfl ?_
    refine j_getI (k := 11) K dX3_insert_79 rfl rfl rfl q1267 rfl rfl rfl ?_
    refine j_bipush (x := 100) K dX3_insert_82 (by decide +kernel) ?_
    refine j_icmp_ne 91 K dX3_insert_84 (by decide) ?_ ?_
    · exact sb_X3_insert_91 hG hl K hr hnm hxt hnd _ _ _ _ _ _ _
    · refine j_aload_n K dX3_insert_87 rfl ?_
      refine j_callV _ K (sim_X3_rebuilds hG hl d w) dX3_insert_88 rfl rfl q1424 q1426 qs52 q95 q1427 pm_X3_rebuilds rfl rfl rfl rfl rfl (fun r5 _ => ?_)
      exact sb_X3_insert_91 hG hl K hr hnm hxt hnd _ _ _ _ _ _ _
  · exact j_wk (sb_X3_insert_72 hG hl K hr hnm hxt hnd _) ⟨rfl, trivial⟩
theorem sim_X3_insert {G : Gx} (hG : GW G) {l : Launch} (hl : l.stackTraces = false) (d : Nat) (p1 : Int32) (p2 : Int32) (p3 : Int32) (w : Wd) (fp1 : Bool) (fp2 : Bool) (fp3 : Bool) : Mt G true l yX3_insert (ws_ yX3_insert cX3_insert 4 (some .int)) d (rrV G pI) [aR 3 (some 30), aB fp1 p1, aB fp2 p2, aB fp3 p3] w (f_X3_insert d p1 p2 p3 w) := by
  refine Mt.of (own := "IntervalTreeModel") hG hl (by decide +kernel) rfl rfl ?_
  intro M hM hr hnm hxt hnd K
  subst hM
  cases d with
  | zero => exact j_none
  | succ d =>
    refine j_aload_n K dX3_insert_0 rfl ?_
    refine j_iconstZ K dX3_insert_1 rfl (Or.inl rfl) ?_
    refine j_putI (k := 0) K dX3_insert_2 rfl rfl q1256 rfl (Or.inl rfl) rfl rfl rfl rfl ?_
    refine j_iload_n K dX3_insert_5 rfl ?_
    refine j_sipush (x := (-1000)) K dX3_insert_6 (by decide +kernel) ?_
    refine j_sipush (x := 1000) K dX3_insert_9 (by decide +kernel) ?_
    refine j_callS _ K (sim_X3_in hG hl d p1 (-1000) 1000 (sI w 30 0 0) fp1 false false) dX3_insert_12 q1417 q1418 q95 q1419 pm_X3_in.2 rfl rfl rfl rfl (fun r1 _ => ?_)
    refine j_if_eq 40 K dX3_insert_15 (by decide) ?_ ?_
    · exact j_wk (sb_X3_insert_40 hG hl K hr hnm hxt hnd _) ⟨rfl, trivial⟩
    · refine j_iload_n K dX3_insert_18 rfl ?_
      refine j_iload_n K dX3_insert_19 rfl ?_
      refine j_sipush (x := 1000) K dX3_insert_20 (by decide +kernel) ?_
      refine j_callS _ K (sim_X3_in hG hl d p2 p1 1000 r1.1 fp2 fp1 false) dX3_insert_23 q1417 q1418 q95 q1419 pm_X3_in.2 rfl rfl rfl rfl (fun r3 _ => ?_)
      refine j_if_eq 40 K dX3_insert_26 (by decide) ?_ ?_
      · exact j_wk (sb_X3_insert_40 hG hl K hr hnm hxt hnd _) ⟨rfl, trivial⟩
      · refine j_iload_n K dX3_insert_29 rfl ?_
        refine j_iconstZ K dX3_insert_30 rfl (Or.inl rfl) ?_
        refine j_sipush (x := 999) K dX3_insert_31 (by decide +kernel) ?_
        refine j_callS _ K (sim_X3_in hG hl d p3 0 999 r3.1 fp3 true false) dX3_insert_34 q1417 q1418 q95 q1419 pm_X3_in.2 rfl rfl rfl rfl (fun r4 _ => ?_)
        refine j_if_ne 46 K dX3_insert_37 (by decide) ?_ ?_
        · refine j_aload_n K dX3_insert_46 rfl ?_
          refine j_getI (k := 11) K dX3_insert_47 rfl rfl rfl q1267 rfl rfl rfl ?_
          refine j_bipush (x := 100) K dX3_insert_50 (by decide +kernel) ?_
          refine j_icmp_ne 62 K dX3_insert_52 (by decide) ?_ ?_
          · exact sb_X3_insert_62 hG hl K hr hnm hxt hnd _ _ _ _ _ _ _
          · refine j_aload_n K dX3_insert_55 rfl ?_
            refine j_getI (k := 12) K dX3_insert_56 rfl rfl rfl q1268 rfl rfl rfl ?_
            refine j_if_eq 72 K dX3_insert_59 (by decide) ?_ ?_
            · exact j_wk (sb_X3_insert_72 hG hl K hr hnm hxt hnd _) ⟨rfl, trivial⟩
            · exact sb_X3_insert_62 hG hl K hr hnm hxt hnd _ _ _ _ _ _ _
        · exact j_wk (sb_X3_insert_40 hG hl K hr hnm hxt hnd _) ⟨rfl, trivial⟩

theorem pm_X3_isInserted : yX3_isInserted.cls = RX3 ∧ yX3_isInserted.cls ≠ "java/lang/invoke/MethodHandle" ∧ yX3_isInserted.cls ≠ "java/lang/invoke/VarHandle" ∧ (parseMethodDescriptor yX3_isInserted.desc).map (fun d => d.parameters.length) = some 1 := by decide +kernel
def f_X3_isInserted (d : Nat) (p1 : Int32) (w : Wd) : Option (Wd × Int32) :=
  match d with
  | 0 => none
  | d + 1 =>
    (f_X3_in d p1 0 ((gI w 30 10) - 1) w).bind fun r1 =>
    some (r1.1, r1.2)
theorem sim_X3_isInserted {G : Gx} (hG : GW G) {l : Launch} (hl : l.stackTraces = false) (d : Nat) (p1 : Int32) (w : Wd) (fp1 : Bool) : Mt G true l yX3_isInserted (ws_ yX3_isInserted cX3_isInserted 2 (some .boolean)) d (rrV G pZ) [aR 3 (some 30), aB fp1 p1] w (f_X3_isInserted d p1 w) := by
  refine Mt.of (own := "IntervalTreeModel") hG hl (by decide +kernel) rfl rfl ?_
  intro M hM hr hnm hxt hnd K
  subst hM
  cases d with
  | zero => exact j_none
  | succ d =>
    refine j_iload_n K dX3_isInserted_0 rfl ?_
    refine j_iconstZ K dX3_isInserted_1 rfl (Or.inl rfl) ?_
    refine j_aload_n K dX3_isInserted_2 rfl ?_
    refine j_getI (k := 10) K dX3_isInserted_3 rfl rfl rfl q1266 rfl rfl rfl ?_
    refine j_iconstZ K dX3_isInserted_6 rfl (Or.inr rfl) ?_
    refine j_isub K dX3_isInserted_7 ?_
    refine j_callS _ K (sim_X3_in hG hl d p1 0 ((gI w 30 10) - 1) w fp1 true false) dX3_isInserted_8 q1417 q1418 q95 q1419 pm_X3_in.2 rfl rfl rfl rfl (fun r1 _ => ?_)
    exact j_zret K hr dX3_isInserted_11

theorem pm_X3_isLive : yX3_isLive.cls = RX3 ∧ yX3_isLive.cls ≠ "java/lang/invoke/MethodHandle" ∧ yX3_isLive.cls ≠ "java/lang/invoke/VarHandle" ∧ (parseMethodDescriptor yX3_isLive.desc).map (fun d => d.parameters.length) = some 1 := by decide +kernel
def f_X3_isLive (d : Nat) (p1 : Int32) (w : Wd) : Option (Wd × Int32) :=
  match d with
  | 0 => none
  | d + 1 =>
    (f_X3_isInserted d p1 w).bind fun r1 =>
    if r1.2 = 0 then
      some (r1.1, 0)
    else
      if ib p1 500 = true then
        if (gI r1.1 34 p1.toNatClampNeg) = 0 then
          some (r1.1, 1)
        else
          some (r1.1, 0)
      else none
theorem sim_X3_isLive {G : Gx} (hG : GW G) {l : Launch} (hl : l.stackTraces = false) (d : Nat) (p1 : Int32) (w : Wd) (fp1 : Bool) : Mt G true l yX3_isLive (ws_ yX3_isLive cX3_isLive 2 (some .boolean)) d (rrV G pZ) [aR 3 (some 30), aB fp1 p1] w (f_X3_isLive d p1 w) := by
  refine Mt.of (own := "IntervalTreeModel") hG hl (by decide +kernel) rfl rfl ?_
  intro M hM hr hnm hxt hnd K
  subst hM
  cases d with
  | zero => exact j_none
  | succ d =>
    refine j_aload_n K dX3_isLive_0 rfl ?_
    refine j_iload_n K dX3_isLive_1 rfl ?_
    refine j_callV _ K (sim_X3_isInserted hG hl d p1 w fp1) dX3_isLive_2 rfl rfl q1464 q1466 qs61 q95 q1467 pm_X3_isInserted rfl rfl rfl rfl rfl (fun r1 _ => ?_)
    refine j_if_eq 21 K dX3_isLive_5 (by decide) ?_ ?_
    · refine j_iconstZ K dX3_isLive_21 rfl (Or.inl rfl) ?_
      exact j_zret K hr dX3_isLive_22
    · refine j_aload_n K dX3_isLive_8 rfl ?_
      refine j_getA (k := 4) 18 K dX3_isLive_9 rfl rfl rfl q1260 rfl rfl (by decide) rfl rfl rfl ?_
      refine j_iload_n K dX3_isLive_12 rfl ?_
      refine j_ib (fun hi2 => ?_)
      refine j_ial K dX3_isLive_13 rfl (fxLen 18 rfl rfl) hi2 ?_
      refine j_if_ne 21 K dX3_isLive_14 (by decide) ?_ ?_
      · refine j_iconstZ K dX3_isLive_21 rfl (Or.inl rfl) ?_
        exact j_zret K hr dX3_isLive_22
      · refine j_iconstZ K dX3_isLive_17 rfl (Or.inr rfl) ?_
        refine j_goto 22 K dX3_isLive_18 (by decide) ?_
        exact j_zret K hr dX3_isLive_22

theorem pm_X3_live : yX3_live.cls = RX3 ∧ yX3_live.cls ≠ "java/lang/invoke/MethodHandle" ∧ yX3_live.cls ≠ "java/lang/invoke/VarHandle" ∧ (parseMethodDescriptor yX3_live.desc).map (fun d => d.parameters.length) = some 0 := by decide +kernel
def f_X3_live (d : Nat) (w : Wd) : Option (Wd × Int32) :=
  match d with
  | 0 => none
  | d + 1 =>
    some (w, ((gI w 30 11) - (gI w 30 12)))
theorem sim_X3_live {G : Gx} (hG : GW G) {l : Launch} (hl : l.stackTraces = false) (d : Nat) (w : Wd) : Mt G true l yX3_live (ws_ yX3_live cX3_live 1 (some .int)) d (rrV G pI) [aR 3 (some 30)] w (f_X3_live d w) := by
  refine Mt.of (own := "IntervalTreeModel") hG hl (by decide +kernel) rfl rfl ?_
  intro M hM hr hnm hxt hnd K
  subst hM
  cases d with
  | zero => exact j_none
  | succ d =>
    refine j_aload_n K dX3_live_0 rfl ?_
    refine j_getI (k := 11) K dX3_live_1 rfl rfl rfl q1267 rfl rfl rfl ?_
    refine j_aload_n K dX3_live_4 rfl ?_
    refine j_getI (k := 12) K dX3_live_5 rfl rfl rfl q1268 rfl rfl rfl ?_
    refine j_isub K dX3_live_8 ?_
    exact j_iret K hr dX3_live_9

theorem pm_X3_goes : yX3_goes.cls = RX3 ∧ yX3_goes.cls ≠ "java/lang/invoke/MethodHandle" ∧ yX3_goes.cls ≠ "java/lang/invoke/VarHandle" ∧ (parseMethodDescriptor yX3_goes.desc).map (fun d => d.parameters.length) = some 1 := by decide +kernel
def b_X3_goes_40 (d : Nat) (w : Wd) : Option (Wd × Int32) :=
  (f_X3_live d w).bind fun r2 =>
  some (r2.1, r2.2)
def f_X3_goes (d : Nat) (p1 : Int32) (w : Wd) : Option (Wd × Int32) :=
  match d with
  | 0 => none
  | d + 1 =>
    if ib p1 500 = true then
      if (100 * (gI (sI (sI w 34 p1.toNatClampNeg 1) 30 12 ((gI (sI w 34 p1.toNatClampNeg 1) 30 12) + 1)) 30 12)) ≤ ((gI (sI (sI w 34 p1.toNatClampNeg 1) 30 12 ((gI (sI w 34 p1.toNatClampNeg 1) 30 12) + 1)) 30 13) * (gI (sI (sI w 34 p1.toNatClampNeg 1) 30 12 ((gI (sI w 34 p1.toNatClampNeg 1) 30 12) + 1)) 30 11)) then
        b_X3_goes_40 d (sI (sI w 34 p1.toNatClampNeg 1) 30 12 ((gI (sI w 34 p1.toNatClampNeg 1) 30 12) + 1))
      else
        (f_X3_rebuilds d (sI (sI w 34 p1.toNatClampNeg 1) 30 12 ((gI (sI w 34 p1.toNatClampNeg 1) 30 12) + 1))).bind fun r3 =>
        b_X3_goes_40 d r3.1
    else none
theorem sb_X3_goes_40 {G : Gx} (hG : GW G) {M : Mx} (hl : (mL M).stackTraces = false) {w0 : Wd} {d : Nat} (K : Cx (G, true, M, 2, w0) cX3_goes "IntervalTreeModel" (d + 1)) (hr : (mH M).sig.returnType = some .int) (hnm : (mH M).name = yX3_goes.name) (hxt : ∀ x ∈ (mC M).exceptionTable.toList, False) (hnd : (mS M).methodNamed? yX3_goes = some (mM M)) : ∀ (w : Wd), Jf (G, true, M, 2, w0) (rrV G pI) (b_X3_goes_40 d w) w 40 [some (aR 3 (some 30)), none] [] := by
  intro w
  refine j_aload_n K dX3_goes_40 rfl ?_
  refine j_callV _ K (sim_X3_live hG hl d w) dX3_goes_41 rfl rfl q1472 q1474 qs63 q95 q1475 pm_X3_live rfl rfl rfl rfl rfl (fun r2 _ => ?_)
  exact j_iret K hr dX3_goes_44
theorem sim_X3_goes {G : Gx} (hG : GW G) {l : Launch} (hl : l.stackTraces = false) (d : Nat) (p1 : Int32) (w : Wd) (fp1 : Bool) : Mt G true l yX3_goes (ws_ yX3_goes cX3_goes 2 (some .int)) d (rrV G pI) [aR 3 (some 30), aB fp1 p1] w (f_X3_goes d p1 w) := by
  refine Mt.of (own := "IntervalTreeModel") hG hl (by decide +kernel) rfl rfl ?_
  intro M hM hr hnm hxt hnd K
  subst hM
  cases d with
  | zero => exact j_none
  | succ d =>
    refine j_aload_n K dX3_goes_0 rfl ?_
    refine j_getA (k := 4) 18 K dX3_goes_1 rfl rfl rfl q1260 rfl rfl (by decide) rfl rfl rfl ?_
    refine j_iload_n K dX3_goes_4 rfl ?_
    refine j_iconstZ K dX3_goes_5 rfl (Or.inr rfl) ?_
    refine j_ib (fun hi1 => ?_)
    refine j_ias K dX3_goes_6 rfl (fxLen2 18 rfl rfl) hi1 ?_
    refine j_aload_n K dX3_goes_7 rfl ?_
    refine j_dup K dX3_goes_8 rfl ?_
    refine j_getI (k := 12) K dX3_goes_9 rfl rfl rfl q1268 rfl rfl rfl ?_
    refine j_iconstZ K dX3_goes_12 rfl (Or.inr rfl) ?_
    refine j_iadd K dX3_goes_13 ?_
    refine j_putI (k := 12) K dX3_goes_14 rfl rfl q1268 rfl (Or.inl rfl) rfl rfl rfl rfl ?_
    refine j_bipush (x := 100) K dX3_goes_17 (by decide +kernel) ?_
    refine j_aload_n K dX3_goes_19 rfl ?_
    refine j_getI (k := 12) K dX3_goes_20 rfl rfl rfl q1268 rfl rfl rfl ?_
    refine j_imul K dX3_goes_23 ?_
    refine j_aload_n K dX3_goes_24 rfl ?_
    refine j_getI (k := 13) K dX3_goes_25 rfl rfl rfl q1269 rfl rfl rfl ?_
    refine j_aload_n K dX3_goes_28 rfl ?_
    refine j_getI (k := 11) K dX3_goes_29 rfl rfl rfl q1267 rfl rfl rfl ?_
    refine j_imul K dX3_goes_32 ?_
    refine j_icmp_le 40 K dX3_goes_33 (by decide) ?_ ?_
    · exact j_wk (sb_X3_goes_40 hG hl K hr hnm hxt hnd _) ⟨rfl, trivial⟩
    · refine j_aload_n K dX3_goes_36 rfl ?_
      refine j_callV _ K (sim_X3_rebuilds hG hl d (sI (sI w 34 p1.toNatClampNeg 1) 30 12 ((gI (sI w 34 p1.toNatClampNeg 1) 30 12) + 1))) dX3_goes_37 rfl rfl q1424 q1426 qs52 q95 q1427 pm_X3_rebuilds rfl rfl rfl rfl rfl (fun r3 _ => ?_)
      exact j_wk (sb_X3_goes_40 hG hl K hr hnm hxt hnd _) ⟨rfl, trivial⟩

theorem pm_X3_remove : yX3_remove.cls = RX3 ∧ yX3_remove.cls ≠ "java/lang/invoke/MethodHandle" ∧ yX3_remove.cls ≠ "java/lang/invoke/VarHandle" ∧ (parseMethodDescriptor yX3_remove.desc).map (fun d => d.parameters.length) = some 1 := by decide +kernel
def f_X3_remove (d : Nat) (p1 : Int32) (w : Wd) : Option (Wd × Int32) :=
  match d with
  | 0 => none
  | d + 1 =>
    (f_X3_isLive d p1 (sI w 30 0 0)).bind fun r1 =>
    if r1.2 = 0 then
      (f_X3_fails d 1 r1.1).bind fun r2 =>
      some (r2.1, r2.2)
    else
      (f_X3_goes d p1 r1.1).bind fun r3 =>
      some (r3.1, r3.2)
theorem sim_X3_remove {G : Gx} (hG : GW G) {l : Launch} (hl : l.stackTraces = false) (d : Nat) (p1 : Int32) (w : Wd) (fp1 : Bool) : Mt G true l yX3_remove (ws_ yX3_remove cX3_remove 2 (some .int)) d (rrV G pI) [aR 3 (some 30), aB fp1 p1] w (f_X3_remove d p1 w) := by
  refine Mt.of (own := "IntervalTreeModel") hG hl (by decide +kernel) rfl rfl ?_
  intro M hM hr hnm hxt hnd K
  subst hM
  cases d with
  | zero => exact j_none
  | succ d =>
    refine j_aload_n K dX3_remove_0 rfl ?_
    refine j_iconstZ K dX3_remove_1 rfl (Or.inl rfl) ?_
    refine j_putI (k := 0) K dX3_remove_2 rfl rfl q1256 rfl (Or.inl rfl) rfl rfl rfl rfl ?_
    refine j_aload_n K dX3_remove_5 rfl ?_
    refine j_iload_n K dX3_remove_6 rfl ?_
    refine j_callV _ K (sim_X3_isLive hG hl d p1 (sI w 30 0 0) fp1) dX3_remove_7 rfl rfl q1460 q1462 qs60 q95 q1463 pm_X3_isLive rfl rfl rfl rfl rfl (fun r1 _ => ?_)
    refine j_if_eq 21 K dX3_remove_10 (by decide) ?_ ?_
    · refine j_aload_n K dX3_remove_21 rfl ?_
      refine j_iconstZ K dX3_remove_22 rfl (Or.inr rfl) ?_
      refine j_callV _ K (sim_X3_fails hG hl d 1 r1.1 true) dX3_remove_23 rfl rfl q1420 q1422 qs51 q95 q1423 pm_X3_fails rfl rfl rfl rfl rfl (fun r2 _ => ?_)
      exact j_iret K hr dX3_remove_26
    · refine j_aload_n K dX3_remove_13 rfl ?_
      refine j_iload_n K dX3_remove_14 rfl ?_
      refine j_callV _ K (sim_X3_goes hG hl d p1 r1.1 fp1) dX3_remove_15 rfl rfl q1468 q1470 qs62 q95 q1471 pm_X3_goes rfl rfl rfl rfl rfl (fun r3 _ => ?_)
      refine j_goto 26 K dX3_remove_18 (by decide) ?_
      exact j_iret K hr dX3_remove_26

theorem pm_X3_restore : yX3_restore.cls = RX3 ∧ yX3_restore.cls ≠ "java/lang/invoke/MethodHandle" ∧ yX3_restore.cls ≠ "java/lang/invoke/VarHandle" ∧ (parseMethodDescriptor yX3_restore.desc).map (fun d => d.parameters.length) = some 1 := by decide +kernel
def f_X3_restore (d : Nat) (p1 : Int32) (w : Wd) : Option (Wd × Int32) :=
  match d with
  | 0 => none
  | d + 1 =>
    (f_X3_isInserted d p1 (sI w 30 0 0)).bind fun r1 =>
    if r1.2 = 0 then
      (f_X3_fails d 1 r1.1).bind fun r5 =>
      some (r5.1, r5.2)
    else
      if ib p1 500 = true then
        if (gI r1.1 34 p1.toNatClampNeg) = 1 then
          (f_X3_live d (sI (sI r1.1 34 p1.toNatClampNeg 0) 30 12 ((gI (sI r1.1 34 p1.toNatClampNeg 0) 30 12) - 1))).bind fun r3 =>
          some (r3.1, r3.2)
        else
          (f_X3_fails d 2 r1.1).bind fun r4 =>
          some (r4.1, r4.2)
      else none
theorem sim_X3_restore {G : Gx} (hG : GW G) {l : Launch} (hl : l.stackTraces = false) (d : Nat) (p1 : Int32) (w : Wd) (fp1 : Bool) : Mt G true l yX3_restore (ws_ yX3_restore cX3_restore 2 (some .int)) d (rrV G pI) [aR 3 (some 30), aB fp1 p1] w (f_X3_restore d p1 w) := by
  refine Mt.of (own := "IntervalTreeModel") hG hl (by decide +kernel) rfl rfl ?_
  intro M hM hr hnm hxt hnd K
  subst hM
  cases d with
  | zero => exact j_none
  | succ d =>
    refine j_aload_n K dX3_restore_0 rfl ?_
    refine j_iconstZ K dX3_restore_1 rfl (Or.inl rfl) ?_
    refine j_putI (k := 0) K dX3_restore_2 rfl rfl q1256 rfl (Or.inl rfl) rfl rfl rfl rfl ?_
    refine j_aload_n K dX3_restore_5 rfl ?_
    refine j_iload_n K dX3_restore_6 rfl ?_
    refine j_callV _ K (sim_X3_isInserted hG hl d p1 (sI w 30 0 0) fp1) dX3_restore_7 rfl rfl q1464 q1466 qs61 q95 q1467 pm_X3_isInserted rfl rfl rfl rfl rfl (fun r1 _ => ?_)
    refine j_if_ne 19 K dX3_restore_10 (by decide) ?_ ?_
    · refine j_aload_n K dX3_restore_19 rfl ?_
      refine j_getA (k := 4) 18 K dX3_restore_20 rfl rfl rfl q1260 rfl rfl (by decide) rfl rfl rfl ?_
      refine j_iload_n K dX3_restore_23 rfl ?_
      refine j_ib (fun hi2 => ?_)
      refine j_ial K dX3_restore_24 rfl (fxLen 18 rfl rfl) hi2 ?_
      refine j_iconstZ K dX3_restore_25 rfl (Or.inr rfl) ?_
      refine j_icmp_eq 35 K dX3_restore_26 (by decide) ?_ ?_
      · refine j_aload_n K dX3_restore_35 rfl ?_
        refine j_getA (k := 4) 18 K dX3_restore_36 rfl rfl rfl q1260 rfl rfl (by decide) rfl rfl rfl ?_
        refine j_iload_n K dX3_restore_39 rfl ?_
        refine j_iconstZ K dX3_restore_40 rfl (Or.inl rfl) ?_
        refine j_ias K dX3_restore_41 rfl (fxLen2 18 rfl rfl) hi2 ?_
        refine j_aload_n K dX3_restore_42 rfl ?_
        refine j_dup K dX3_restore_43 rfl ?_
        refine j_getI (k := 12) K dX3_restore_44 rfl rfl rfl q1268 rfl rfl rfl ?_
        refine j_iconstZ K dX3_restore_47 rfl (Or.inr rfl) ?_
        refine j_isub K dX3_restore_48 ?_
        refine j_putI (k := 12) K dX3_restore_49 rfl rfl q1268 rfl (Or.inl rfl) rfl rfl rfl rfl ?_
        refine j_aload_n K dX3_restore_52 rfl ?_
        refine j_callV _ K (sim_X3_live hG hl d (sI (sI r1.1 34 p1.toNatClampNeg 0) 30 12 ((gI (sI r1.1 34 p1.toNatClampNeg 0) 30 12) - 1))) dX3_restore_53 rfl rfl q1472 q1474 qs63 q95 q1475 pm_X3_live rfl rfl rfl rfl rfl (fun r3 _ => ?_)
        exact j_iret K hr dX3_restore_56
      · refine j_aload_n K dX3_restore_29 rfl ?_
        refine j_iconst (x := 2) K dX3_restore_30 rfl ?_
        refine j_callV _ K (sim_X3_fails hG hl d 2 r1.1 false) dX3_restore_31 rfl rfl q1420 q1422 qs51 q95 q1423 pm_X3_fails rfl rfl rfl rfl rfl (fun r4 _ => ?_)
        exact j_iret K hr dX3_restore_34
    · refine j_aload_n K dX3_restore_13 rfl ?_
      refine j_iconstZ K dX3_restore_14 rfl (Or.inr rfl) ?_
      refine j_callV _ K (sim_X3_fails hG hl d 1 r1.1 true) dX3_restore_15 rfl rfl q1420 q1422 qs51 q95 q1423 pm_X3_fails rfl rfl rfl rfl rfl (fun r5 _ => ?_)
      exact j_iret K hr dX3_restore_18

theorem pm_X3_rebuild : yX3_rebuild.cls = RX3 ∧ yX3_rebuild.cls ≠ "java/lang/invoke/MethodHandle" ∧ yX3_rebuild.cls ≠ "java/lang/invoke/VarHandle" ∧ (parseMethodDescriptor yX3_rebuild.desc).map (fun d => d.parameters.length) = some 0 := by decide +kernel
def f_X3_rebuild (d : Nat) (w : Wd) : Option (Wd × Int32) :=
  match d with
  | 0 => none
  | d + 1 =>
    (f_X3_rebuilds d w).bind fun r1 =>
    some (r1.1, (gI w 30 12))
theorem sim_X3_rebuild {G : Gx} (hG : GW G) {l : Launch} (hl : l.stackTraces = false) (d : Nat) (w : Wd) : Mt G true l yX3_rebuild (ws_ yX3_rebuild cX3_rebuild 2 (some .int)) d (rrV G pI) [aR 3 (some 30)] w (f_X3_rebuild d w) := by
  refine Mt.of (own := "IntervalTreeModel") hG hl (by decide +kernel) rfl rfl ?_
  intro M hM hr hnm hxt hnd K
  subst hM
  cases d with
  | zero => exact j_none
  | succ d =>
    refine j_aload_n K dX3_rebuild_0 rfl ?_
    refine j_getI (k := 12) K dX3_rebuild_1 rfl rfl rfl q1268 rfl rfl rfl ?_
    refine j_istore_n K dX3_rebuild_4 rfl rfl ?_
    refine j_aload_n K dX3_rebuild_5 rfl ?_
    refine j_callV _ K (sim_X3_rebuilds hG hl d w) dX3_rebuild_6 rfl rfl q1424 q1426 qs52 q95 q1427 pm_X3_rebuilds rfl rfl rfl rfl rfl (fun r1 _ => ?_)
    refine j_iload_n K dX3_rebuild_9 rfl ?_
    exact j_iret K hr dX3_rebuild_10

theorem pm_X3_setRebuildPercentage : yX3_setRebuildPercentage.cls = RX3 ∧ yX3_setRebuildPercentage.cls ≠ "java/lang/invoke/MethodHandle" ∧ yX3_setRebuildPercentage.cls ≠ "java/lang/invoke/VarHandle" ∧ (parseMethodDescriptor yX3_setRebuildPercentage.desc).map (fun d => d.parameters.length) = some 1 := by decide +kernel
def f_X3_setRebuildPercentage (d : Nat) (p1 : Int32) (w : Wd) : Option (Wd × Int32) :=
  match d with
  | 0 => none
  | d + 1 =>
    (f_X3_in d p1 10 100 (sI w 30 0 0)).bind fun r1 =>
    if r1.2 = 0 then
      (f_X3_fails d 1 r1.1).bind fun r2 =>
      some (r2.1, r2.2)
    else
      some (sI r1.1 30 13 p1, (gI r1.1 30 13))
theorem sim_X3_setRebuildPercentage {G : Gx} (hG : GW G) {l : Launch} (hl : l.stackTraces = false) (d : Nat) (p1 : Int32) (w : Wd) (fp1 : Bool) : Mt G true l yX3_setRebuildPercentage (ws_ yX3_setRebuildPercentage cX3_setRebuildPercentage 3 (some .int)) d (rrV G pI) [aR 3 (some 30), aB fp1 p1] w (f_X3_setRebuildPercentage d p1 w) := by
  refine Mt.of (own := "IntervalTreeModel") hG hl (by decide +kernel) rfl rfl ?_
  intro M hM hr hnm hxt hnd K
  subst hM
  cases d with
  | zero => exact j_none
  | succ d =>
    refine j_aload_n K dX3_setRebuildPercentage_0 rfl ?_
    refine j_iconstZ K dX3_setRebuildPercentage_1 rfl (Or.inl rfl) ?_
    refine j_putI (k := 0) K dX3_setRebuildPercentage_2 rfl rfl q1256 rfl (Or.inl rfl) rfl rfl rfl rfl ?_
    refine j_iload_n K dX3_setRebuildPercentage_5 rfl ?_
    refine j_bipush (x := 10) K dX3_setRebuildPercentage_6 (by decide +kernel) ?_
    refine j_bipush (x := 100) K dX3_setRebuildPercentage_8 (by decide +kernel) ?_
    refine j_callS _ K (sim_X3_in hG hl d p1 10 100 (sI w 30 0 0) fp1 false false) dX3_setRebuildPercentage_10 q1417 q1418 q95 q1419 pm_X3_in.2 rfl rfl rfl rfl (fun r1 _ => ?_)
    refine j_if_ne 22 K dX3_setRebuildPercentage_13 (by decide) ?_ ?_
    · refine j_aload_n K dX3_setRebuildPercentage_22 rfl ?_
      refine j_getI (k := 13) K dX3_setRebuildPercentage_23 rfl rfl rfl q1269 rfl rfl rfl ?_
      refine j_istore_n K dX3_setRebuildPercentage_26 rfl rfl ?_
      refine j_aload_n K dX3_setRebuildPercentage_27 rfl ?_
      refine j_iload_n K dX3_setRebuildPercentage_28 rfl ?_
      refine j_putI (k := 13) K dX3_setRebuildPercentage_29 rfl rfl q1269 rfl (Or.inl rfl) rfl rfl rfl rfl ?_
      refine j_iload_n K dX3_setRebuildPercentage_32 rfl ?_
      exact j_iret K hr dX3_setRebuildPercentage_33
    · refine j_aload_n K dX3_setRebuildPercentage_16 rfl ?_
      refine j_iconstZ K dX3_setRebuildPercentage_17 rfl (Or.inr rfl) ?_
      refine j_callV _ K (sim_X3_fails hG hl d 1 r1.1 true) dX3_setRebuildPercentage_18 rfl rfl q1420 q1422 qs51 q95 q1423 pm_X3_fails rfl rfl rfl rfl rfl (fun r2 _ => ?_)
      exact j_iret K hr dX3_setRebuildPercentage_21

theorem pm_X3_addWeight : yX3_addWeight.cls = RX3 ∧ yX3_addWeight.cls ≠ "java/lang/invoke/MethodHandle" ∧ yX3_addWeight.cls ≠ "java/lang/invoke/VarHandle" ∧ (parseMethodDescriptor yX3_addWeight.desc).map (fun d => d.parameters.length) = some 3 := by decide +kernel
def b_X3_addWeight_23 (d : Nat) (w : Wd) : Option (Wd × Int32) :=
  (f_X3_fails d 1 w).bind fun r1 =>
  some (r1.1, r1.2)
def b_X3_addWeight_104 (d : Nat) (k35 : Int32 → Int32 → Int32 → Int32 → Int32 → Wd → Option (Wd × Int32)) (x1 : Int32) (x2 : Int32) (x3 : Int32) (x4 : Int32) (x5 : Int32) (w : Wd) : Option (Wd × Int32) :=
  k35 x1 x2 x3 x4 (x5 + 1) w
def b_X3_addWeight_101 (d : Nat) (k35 : Int32 → Int32 → Int32 → Int32 → Int32 → Wd → Option (Wd × Int32)) (x1 : Int32) (x2 : Int32) (x3 : Int32) (x5 : Int32) (s0 : Int32) (s1 : Int32) (w : Wd) : Option (Wd × Int32) :=
  b_X3_addWeight_104 d k35 x1 x2 x3 (s0 + s1) x5 w
def b_X3_addWeight_35 (d : Nat) : Nat → Int32 → Int32 → Int32 → Int32 → Int32 → Wd → Option (Wd × Int32)
  | 0, _, _, _, _, _, _ => none
  | n + 1, x1, x2, x3, x4, x5, w =>
    if (gI w 30 10) ≤ x5 then
      some (w, x4)
    else
      if ib x5 500 = true then
        if (gI w 34 x5.toNatClampNeg) = 2 then
          b_X3_addWeight_104 d (b_X3_addWeight_35 d n) x1 x2 x3 x4 x5 w
        else
          (f_X3_in d (gI w 31 x5.toNatClampNeg) x1 x2 w).bind fun r4 =>
          if r4.2 = 0 then
            b_X3_addWeight_104 d (b_X3_addWeight_35 d n) x1 x2 x3 x4 x5 r4.1
          else
            if (gI (sI r4.1 33 x5.toNatClampNeg ((gI r4.1 33 x5.toNatClampNeg) + x3)) 34 x5.toNatClampNeg) = 0 then
              b_X3_addWeight_101 d (b_X3_addWeight_35 d n) x1 x2 x3 x5 x4 1 (sI r4.1 33 x5.toNatClampNeg ((gI r4.1 33 x5.toNatClampNeg) + x3))
            else
              b_X3_addWeight_101 d (b_X3_addWeight_35 d n) x1 x2 x3 x5 x4 0 (sI r4.1 33 x5.toNatClampNeg ((gI r4.1 33 x5.toNatClampNeg) + x3))
      else none
def f_X3_addWeight (d : Nat) (p1 : Int32) (p2 : Int32) (p3 : Int32) (w : Wd) : Option (Wd × Int32) :=
  match d with
  | 0 => none
  | d + 1 =>
    if p2 < p1 then
      b_X3_addWeight_23 d (sI w 30 0 0)
    else
      (f_X3_in d p3 (-1000) 1000 (sI w 30 0 0)).bind fun r2 =>
      if r2.2 = 0 then
        b_X3_addWeight_23 d r2.1
      else
        b_X3_addWeight_35 d FU p1 p2 p3 0 0 r2.1
theorem sb_X3_addWeight_23 {G : Gx} (hG : GW G) {M : Mx} (hl : (mL M).stackTraces = false) {w0 : Wd} {d : Nat} (K : Cx (G, true, M, 6, w0) cX3_addWeight "IntervalTreeModel" (d + 1)) (hr : (mH M).sig.returnType = some .int) (hnm : (mH M).name = yX3_addWeight.name) (hxt : ∀ x ∈ (mC M).exceptionTable.toList, False) (hnd : (mS M).methodNamed? yX3_addWeight = some (mM M)) : ∀ (w : Wd), Jf (G, true, M, 6, w0) (rrV G pI) (b_X3_addWeight_23 d w) w 23 [some (aR 3 (some 30)), none, none, none, none, none] [] := by
  intro w
  refine j_aload_n K dX3_addWeight_23 rfl ?_
  refine j_iconstZ K dX3_addWeight_24 rfl (Or.inr rfl) ?_
  refine j_callV _ K (sim_X3_fails hG hl d 1 w true) dX3_addWeight_25 rfl rfl q1420 q1422 qs51 q95 q1423 pm_X3_fails rfl rfl rfl rfl rfl (fun r1 _ => ?_)
  exact j_iret K hr dX3_addWeight_28
theorem sb_X3_addWeight_104 {G : Gx} (hG : GW G) {M : Mx} (hl : (mL M).stackTraces = false) {w0 : Wd} {d : Nat} (K : Cx (G, true, M, 6, w0) cX3_addWeight "IntervalTreeModel" (d + 1)) (hr : (mH M).sig.returnType = some .int) (hnm : (mH M).name = yX3_addWeight.name) (hxt : ∀ x ∈ (mC M).exceptionTable.toList, False) (hnd : (mS M).methodNamed? yX3_addWeight = some (mM M)) {k35 : Int32 → Int32 → Int32 → Int32 → Int32 → Wd → Option (Wd × Int32)} (hk35 : ∀ (x1 : Int32) (x2 : Int32) (x3 : Int32) (x4 : Int32) (x5 : Int32) (w : Wd) (fx1 : Bool) (fx2 : Bool) (fx3 : Bool) (fx4 : Bool) (fx5 : Bool), Jf (G, true, M, 6, w0) (rrV G pI) (k35 x1 x2 x3 x4 x5 w) w 35 [some (aR 3 (some 30)), some (aB fx1 x1), some (aB fx2 x2), some (aB fx3 x3), some (aB fx4 x4), some (aB fx5 x5)] []) : ∀ (x1 : Int32) (x2 : Int32) (x3 : Int32) (x4 : Int32) (x5 : Int32) (w : Wd) (fx1 : Bool) (fx2 : Bool) (fx3 : Bool) (fx4 : Bool) (fx5 : Bool), Jf (G, true, M, 6, w0) (rrV G pI) (b_X3_addWeight_104 d k35 x1 x2 x3 x4 x5 w) w 104 [some (aR 3 (some 30)), some (aB fx1 x1), some (aB fx2 x2), some (aB fx3 x3), some (aB fx4 x4), some (aB fx5 x5)] [] := by
  intro x1 x2 x3 x4 x5 w fx1 fx2 fx3 fx4 fx5
  refine j_iinc (y := 1) K dX3_addWeight_104 rfl rfl rfl rfl ?_
  refine j_goto 35 K dX3_addWeight_107 (by decide) ?_
  exact hk35 _ _ _ _ _ _ _ _ _ _ _
theorem sb_X3_addWeight_101 {G : Gx} (hG : GW G) {M : Mx} (hl : (mL M).stackTraces = false) {w0 : Wd} {d : Nat} (K : Cx (G, true, M, 6, w0) cX3_addWeight "IntervalTreeModel" (d + 1)) (hr : (mH M).sig.returnType = some .int) (hnm : (mH M).name = yX3_addWeight.name) (hxt : ∀ x ∈ (mC M).exceptionTable.toList, False) (hnd : (mS M).methodNamed? yX3_addWeight = some (mM M)) {k35 : Int32 → Int32 → Int32 → Int32 → Int32 → Wd → Option (Wd × Int32)} (hk35 : ∀ (x1 : Int32) (x2 : Int32) (x3 : Int32) (x4 : Int32) (x5 : Int32) (w : Wd) (fx1 : Bool) (fx2 : Bool) (fx3 : Bool) (fx4 : Bool) (fx5 : Bool), Jf (G, true, M, 6, w0) (rrV G pI) (k35 x1 x2 x3 x4 x5 w) w 35 [some (aR 3 (some 30)), some (aB fx1 x1), some (aB fx2 x2), some (aB fx3 x3), some (aB fx4 x4), some (aB fx5 x5)] []) : ∀ (x1 : Int32) (x2 : Int32) (x3 : Int32) (x5 : Int32) (s0 : Int32) (s1 : Int32) (w : Wd) (fx1 : Bool) (fx2 : Bool) (fx3 : Bool) (fx5 : Bool) (fs0 : Bool), Jf (G, true, M, 6, w0) (rrV G pI) (b_X3_addWeight_101 d k35 x1 x2 x3 x5 s0 s1 w) w 101 [some (aR 3 (some 30)), some (aB fx1 x1), some (aB fx2 x2), some (aB fx3 x3), none, some (aB fx5 x5)] [aB true s1, aB fs0 s0] := by
  intro x1 x2 x3 x5 s0 s1 w fx1 fx2 fx3 fx5 fs0
  refine j_iadd K dX3_addWeight_101 ?_
  refine j_istore K dX3_addWeight_102 rfl rfl ?_
  exact sb_X3_addWeight_104 hG hl K hr hnm hxt hnd hk35 _ _ _ _ _ _ _ _ _ _ _
theorem sb_X3_addWeight_35 {G : Gx} (hG : GW G) {M : Mx} (hl : (mL M).stackTraces = false) {w0 : Wd} {d : Nat} (K : Cx (G, true, M, 6, w0) cX3_addWeight "IntervalTreeModel" (d + 1)) (hr : (mH M).sig.returnType = some .int) (hnm : (mH M).name = yX3_addWeight.name) (hxt : ∀ x ∈ (mC M).exceptionTable.toList, False) (hnd : (mS M).methodNamed? yX3_addWeight = some (mM M)) : ∀ (n : Nat), ∀ (x1 : Int32) (x2 : Int32) (x3 : Int32) (x4 : Int32) (x5 : Int32) (w : Wd) (fx1 : Bool) (fx2 : Bool) (fx3 : Bool) (fx4 : Bool) (fx5 : Bool), Jf (G, true, M, 6, w0) (rrV G pI) (b_X3_addWeight_35 d n x1 x2 x3 x4 x5 w) w 35 [some (aR 3 (some 30)), some (aB fx1 x1), some (aB fx2 x2), some (aB fx3 x3), some (aB fx4 x4), some (aB fx5 x5)] [] := by
  intro n
  induction n with
  | zero => intros; exact j_none
  | succ n ih =>
    intro x1 x2 x3 x4 x5 w fx1 fx2 fx3 fx4 fx5
    refine j_iload K dX3_addWeight_35 rfl ?_
    refine j_aload_n K dX3_addWeight_37 rfl ?_
    refine j_getI (k := 10) K dX3_addWeight_38 rfl rfl rfl q1266 rfl rfl rfl ?_
    refine j_icmp_ge 110 K dX3_addWeight_41 (by decide) ?_ ?_
    · refine j_iload K dX3_addWeight_110 rfl ?_
      exact j_iret K hr dX3_addWeight_112
    · refine j_aload_n K dX3_addWeight_44 rfl ?_
      refine j_getA (k := 4) 18 K dX3_addWeight_45 rfl rfl rfl q1260 rfl rfl (by decide) rfl rfl rfl ?_
      refine j_iload K dX3_addWeight_48 rfl ?_
      refine j_ib (fun hi3 => ?_)
      refine j_ial K dX3_addWeight_50 rfl (fxLen 18 rfl rfl) hi3 ?_
      refine j_iconst (x := 2) K dX3_addWeight_51 rfl ?_
      refine j_icmp_eq 104 K dX3_addWeight_52 (by decide) ?_ ?_
      · exact sb_X3_addWeight_104 hG hl K hr hnm hxt hnd ih _ _ _ _ _ _ _ _ _ _ _
      · refine j_aload_n K dX3_addWeight_55 rfl ?_
        refine j_getA (k := 1) 15 K dX3_addWeight_56 rfl rfl rfl q1257 rfl rfl (by decide) rfl rfl rfl ?_
        refine j_iload K dX3_addWeight_59 rfl ?_
        refine j_ial K dX3_addWeight_61 rfl (fxLen 15 rfl rfl) hi3 ?_
        refine j_iload_n K dX3_addWeight_62 rfl ?_
        refine j_iload_n K dX3_addWeight_63 rfl ?_
        refine j_callS _ K (sim_X3_in hG hl d (gI w 31 x5.toNatClampNeg) x1 x2 w false fx1 fx2) dX3_addWeight_64 q1417 q1418 q95 q1419 pm_X3_in.2 rfl rfl rfl rfl (fun r4 _ => ?_)
        refine j_if_ne 73 K dX3_addWeight_67 (by decide) ?_ ?_
        · refine j_aload_n K dX3_addWeight_73 rfl ?_
          refine j_getA (k := 3) 17 K dX3_addWeight_74 rfl rfl rfl q1259 rfl rfl (by decide) rfl rfl rfl ?_
          refine j_iload K dX3_addWeight_77 rfl ?_
          refine j_dup2 K dX3_addWeight_79 rfl rfl ?_
          refine j_ial K dX3_addWeight_80 rfl (fxLen 17 rfl rfl) hi3 ?_
          refine j_iload_n K dX3_addWeight_81 rfl ?_
          refine j_iadd K dX3_addWeight_82 ?_
          refine j_ias K dX3_addWeight_83 rfl (fxLen2 17 rfl rfl) hi3 ?_
          refine j_iload K dX3_addWeight_84 rfl ?_
          refine j_aload_n K dX3_addWeight_86 rfl ?_
          refine j_getA (k := 4) 18 K dX3_addWeight_87 rfl rfl rfl q1260 rfl rfl (by decide) rfl rfl rfl ?_
          refine j_iload K dX3_addWeight_90 rfl ?_
          refine j_ial K dX3_addWeight_92 rfl (fxLen 18 rfl rfl) hi3 ?_
          refine j_if_ne 100 K dX3_addWeight_93 (by decide) ?_ ?_
          · refine j_iconstZ K dX3_addWeight_100 rfl (Or.inl rfl) ?_
            exact j_wk (sb_X3_addWeight_101 hG hl K hr hnm hxt hnd ih _ _ _ _ _ _ _ _ _ _ _ _) ⟨rfl, rfl, rfl, rfl, rfl, trivial⟩
          · refine j_iconstZ K dX3_addWeight_96 rfl (Or.inr rfl) ?_
            refine j_goto 101 K dX3_addWeight_97 (by decide) ?_
            exact j_wk (sb_X3_addWeight_101 hG hl K hr hnm hxt hnd ih _ _ _ _ _ _ _ _ _ _ _ _) ⟨rfl, rfl, rfl, rfl, rfl, trivial⟩
        · refine j_goto 104 K dX3_addWeight_70 (by decide) ?_
          exact sb_X3_addWeight_104 hG hl K hr hnm hxt hnd ih _ _ _ _ _ _ _ _ _ _ _
theorem sim_X3_addWeight {G : Gx} (hG : GW G) {l : Launch} (hl : l.stackTraces = false) (d : Nat) (p1 : Int32) (p2 : Int32) (p3 : Int32) (w : Wd) (fp1 : Bool) (fp2 : Bool) (fp3 : Bool) : Mt G true l yX3_addWeight (ws_ yX3_addWeight cX3_addWeight 6 (some .int)) d (rrV G pI) [aR 3 (some 30), aB fp1 p1, aB fp2 p2, aB fp3 p3] w (f_X3_addWeight d p1 p2 p3 w) := by
  refine Mt.of (own := "IntervalTreeModel") hG hl (by decide +kernel) rfl rfl ?_
  intro M hM hr hnm hxt hnd K
  subst hM
  cases d with
  | zero => exact j_none
  | succ d =>
    refine j_aload_n K dX3_addWeight_0 rfl ?_
    refine j_iconstZ K dX3_addWeight_1 rfl (Or.inl rfl) ?_
    refine j_putI (k := 0) K dX3_addWeight_2 rfl rfl q1256 rfl (Or.inl rfl) rfl rfl rfl rfl ?_
    refine j_iload_n K dX3_addWeight_5 rfl ?_
    refine j_iload_n K dX3_addWeight_6 rfl ?_
    refine j_icmp_gt 23 K dX3_addWeight_7 (by decide) ?_ ?_
    · exact j_wk (sb_X3_addWeight_23 hG hl K hr hnm hxt hnd _) ⟨rfl, trivial⟩
    · refine j_iload_n K dX3_addWeight_10 rfl ?_
      refine j_sipush (x := (-1000)) K dX3_addWeight_11 (by decide +kernel) ?_
      refine j_sipush (x := 1000) K dX3_addWeight_14 (by decide +kernel) ?_
      refine j_callS _ K (sim_X3_in hG hl d p3 (-1000) 1000 (sI w 30 0 0) fp3 false false) dX3_addWeight_17 q1417 q1418 q95 q1419 pm_X3_in.2 rfl rfl rfl rfl (fun r2 _ => ?_)
      refine j_if_ne 29 K dX3_addWeight_20 (by decide) ?_ ?_
      · refine j_iconstZ K dX3_addWeight_29 rfl (Or.inl rfl) ?_
        refine j_istore K dX3_addWeight_30 rfl rfl ?_
        refine j_iconstZ K dX3_addWeight_32 rfl (Or.inl rfl) ?_
        refine j_istore K dX3_addWeight_33 rfl rfl ?_
        exact sb_X3_addWeight_35 hG hl K hr hnm hxt hnd FU _ _ _ _ _ _ _ _ _ _ _
      · exact j_wk (sb_X3_addWeight_23 hG hl K hr hnm hxt hnd _) ⟨rfl, trivial⟩

theorem pm_X3_size : yX3_size.cls = RX3 ∧ yX3_size.cls ≠ "java/lang/invoke/MethodHandle" ∧ yX3_size.cls ≠ "java/lang/invoke/VarHandle" ∧ (parseMethodDescriptor yX3_size.desc).map (fun d => d.parameters.length) = some 0 := by decide +kernel
def f_X3_size (d : Nat) (w : Wd) : Option (Wd × Int32) :=
  match d with
  | 0 => none
  | d + 1 =>
    (f_X3_live d w).bind fun r1 =>
    some (r1.1, r1.2)
theorem sim_X3_size {G : Gx} (hG : GW G) {l : Launch} (hl : l.stackTraces = false) (d : Nat) (w : Wd) : Mt G true l yX3_size (ws_ yX3_size cX3_size 1 (some .int)) d (rrV G pI) [aR 3 (some 30)] w (f_X3_size d w) := by
  refine Mt.of (own := "IntervalTreeModel") hG hl (by decide +kernel) rfl rfl ?_
  intro M hM hr hnm hxt hnd K
  subst hM
  cases d with
  | zero => exact j_none
  | succ d =>
    refine j_aload_n K dX3_size_0 rfl ?_
    refine j_callV _ K (sim_X3_live hG hl d w) dX3_size_1 rfl rfl q1472 q1474 qs63 q95 q1475 pm_X3_live rfl rfl rfl rfl rfl (fun r1 _ => ?_)
    exact j_iret K hr dX3_size_4

theorem pm_X3_nodeCount : yX3_nodeCount.cls = RX3 ∧ yX3_nodeCount.cls ≠ "java/lang/invoke/MethodHandle" ∧ yX3_nodeCount.cls ≠ "java/lang/invoke/VarHandle" ∧ (parseMethodDescriptor yX3_nodeCount.desc).map (fun d => d.parameters.length) = some 0 := by decide +kernel
def f_X3_nodeCount (d : Nat) (w : Wd) : Option (Wd × Int32) :=
  match d with
  | 0 => none
  | d + 1 =>
    some (w, (gI w 30 11))
theorem sim_X3_nodeCount {G : Gx} (hG : GW G) {l : Launch} (hl : l.stackTraces = false) (d : Nat) (w : Wd) : Mt G true l yX3_nodeCount (ws_ yX3_nodeCount cX3_nodeCount 1 (some .int)) d (rrV G pI) [aR 3 (some 30)] w (f_X3_nodeCount d w) := by
  refine Mt.of (own := "IntervalTreeModel") hG hl (by decide +kernel) rfl rfl ?_
  intro M hM hr hnm hxt hnd K
  subst hM
  cases d with
  | zero => exact j_none
  | succ d =>
    refine j_aload_n K dX3_nodeCount_0 rfl ?_
    refine j_getI (k := 11) K dX3_nodeCount_1 rfl rfl rfl q1267 rfl rfl rfl ?_
    exact j_iret K hr dX3_nodeCount_4

theorem pm_X3_heightOf : yX3_heightOf.cls = RX3 ∧ yX3_heightOf.cls ≠ "java/lang/invoke/MethodHandle" ∧ yX3_heightOf.cls ≠ "java/lang/invoke/VarHandle" ∧ (parseMethodDescriptor yX3_heightOf.desc).map (fun d => d.parameters.length) = some 1 := by decide +kernel
def fB_X3_heightOf (d : Nat) (g_X3_heightOf : Int32 → Wd → Option (Wd × Int32)) (p1 : Int32) (w : Wd) : Option (Wd × Int32) :=
  if p1 = (-1) then
    some (w, 0)
  else
    if ib p1 500 = true then
      (g_X3_heightOf (gI w 35 p1.toNatClampNeg) w).bind fun r2 =>
      (g_X3_heightOf (gI r2.1 36 p1.toNatClampNeg) r2.1).bind fun r3 =>
      some (r3.1, (1 + (mmax r2.2 r3.2)))
    else none
theorem simB_X3_heightOf {G : Gx} (hG : GW G) {l : Launch} (hl : l.stackTraces = false) (d : Nat) {g_X3_heightOf : Int32 → Wd → Option (Wd × Int32)} (hg_X3_heightOf : ∀ (p1 : Int32) (w : Wd) (fp1 : Bool), Mt G true l yX3_heightOf (ws_ yX3_heightOf cX3_heightOf 2 (some .int)) d (rrV G pI) [aR 3 (some 30), aB fp1 p1] w (g_X3_heightOf p1 w)) (p1 : Int32) (w : Wd) (fp1 : Bool) : Mt G true l yX3_heightOf (ws_ yX3_heightOf cX3_heightOf 2 (some .int)) (d + 1) (rrV G pI) [aR 3 (some 30), aB fp1 p1] w (fB_X3_heightOf d g_X3_heightOf p1 w) := by
  refine Mt.of (own := "IntervalTreeModel") hG hl (by decide +kernel) rfl rfl ?_
  intro M hM hr hnm hxt hnd K
  subst hM
  refine j_iload_n K dX3_heightOf_0 rfl ?_
  refine j_iconst (x := (-1)) K dX3_heightOf_1 rfl ?_
  refine j_icmp_ne 9 K dX3_heightOf_2 (by decide) ?_ ?_
  · refine j_iconstZ K dX3_heightOf_9 rfl (Or.inr rfl) ?_
    refine j_aload_n K dX3_heightOf_10 rfl ?_
    refine j_aload_n K dX3_heightOf_11 rfl ?_
    refine j_getA (k := 5) 19 K dX3_heightOf_12 rfl rfl rfl q1261 rfl rfl (by decide) rfl rfl rfl ?_
    refine j_iload_n K dX3_heightOf_15 rfl ?_
    refine j_ib (fun hi1 => ?_)
    refine j_ial K dX3_heightOf_16 rfl (fxLen 19 rfl rfl) hi1 ?_
    refine j_callV _ K (hg_X3_heightOf (gI w 35 p1.toNatClampNeg) w false) dX3_heightOf_17 rfl rfl q1504 q1506 qs64 q95 q1507 pm_X3_heightOf rfl rfl rfl rfl rfl (fun r2 _ => ?_)
    refine j_aload_n K dX3_heightOf_20 rfl ?_
    refine j_aload_n K dX3_heightOf_21 rfl ?_
    refine j_getA (k := 6) 20 K dX3_heightOf_22 rfl rfl rfl q1262 rfl rfl (by decide) rfl rfl rfl ?_
    refine j_iload_n K dX3_heightOf_25 rfl ?_
    refine j_ial K dX3_heightOf_26 rfl (fxLen 20 rfl rfl) hi1 ?_
    refine j_callV _ K (hg_X3_heightOf (gI r2.1 36 p1.toNatClampNeg) r2.1 false) dX3_heightOf_27 rfl rfl q1504 q1506 qs64 q95 q1507 pm_X3_heightOf rfl rfl rfl rfl rfl (fun r3 _ => ?_)
    refine j_mmax K dX3_heightOf_30 q1508 rfl ?_
    refine j_iadd K dX3_heightOf_33 ?_
    exact j_iret K hr dX3_heightOf_34
  · refine j_iconstZ K dX3_heightOf_5 rfl (Or.inl rfl) ?_
    refine j_goto 34 K dX3_heightOf_6 (by decide) ?_
    exact j_iret K hr dX3_heightOf_34
def f_X3_heightOf : Nat → Int32 → Wd → Option (Wd × Int32)
  | 0 => fun _ _ => none
  | d + 1 => fB_X3_heightOf d (f_X3_heightOf d)
theorem sim_X3_heightOf {G : Gx} (hG : GW G) {l : Launch} (hl : l.stackTraces = false) : ∀ (d : Nat) (p1 : Int32) (w : Wd) (fp1 : Bool), Mt G true l yX3_heightOf (ws_ yX3_heightOf cX3_heightOf 2 (some .int)) d (rrV G pI) [aR 3 (some 30), aB fp1 p1] w (f_X3_heightOf d p1 w) := by
  intro d
  induction d with
  | zero => intros; exact fun _ h => by cases h
  | succ d ih => exact simB_X3_heightOf hG hl d ih

theorem pm_X3_height : yX3_height.cls = RX3 ∧ yX3_height.cls ≠ "java/lang/invoke/MethodHandle" ∧ yX3_height.cls ≠ "java/lang/invoke/VarHandle" ∧ (parseMethodDescriptor yX3_height.desc).map (fun d => d.parameters.length) = some 0 := by decide +kernel
def f_X3_height (d : Nat) (w : Wd) : Option (Wd × Int32) :=
  match d with
  | 0 => none
  | d + 1 =>
    (f_X3_heightOf d (gI w 30 9) w).bind fun r1 =>
    some (r1.1, r1.2)
theorem sim_X3_height {G : Gx} (hG : GW G) {l : Launch} (hl : l.stackTraces = false) (d : Nat) (w : Wd) : Mt G true l yX3_height (ws_ yX3_height cX3_height 1 (some .int)) d (rrV G pI) [aR 3 (some 30)] w (f_X3_height d w) := by
  refine Mt.of (own := "IntervalTreeModel") hG hl (by decide +kernel) rfl rfl ?_
  intro M hM hr hnm hxt hnd K
  subst hM
  cases d with
  | zero => exact j_none
  | succ d =>
    refine j_aload_n K dX3_height_0 rfl ?_
    refine j_aload_n K dX3_height_1 rfl ?_
    refine j_getI (k := 9) K dX3_height_2 rfl rfl rfl q1265 rfl rfl rfl ?_
    refine j_callV _ K (sim_X3_heightOf hG hl d (gI w 30 9) w false) dX3_height_5 rfl rfl q1504 q1506 qs64 q95 q1507 pm_X3_heightOf rfl rfl rfl rfl rfl (fun r1 _ => ?_)
    exact j_iret K hr dX3_height_8

theorem pm_X3_rebuildCount : yX3_rebuildCount.cls = RX3 ∧ yX3_rebuildCount.cls ≠ "java/lang/invoke/MethodHandle" ∧ yX3_rebuildCount.cls ≠ "java/lang/invoke/VarHandle" ∧ (parseMethodDescriptor yX3_rebuildCount.desc).map (fun d => d.parameters.length) = some 0 := by decide +kernel
def f_X3_rebuildCount (d : Nat) (w : Wd) : Option (Wd × Int32) :=
  match d with
  | 0 => none
  | d + 1 =>
    some (w, (gI w 30 14))
theorem sim_X3_rebuildCount {G : Gx} (hG : GW G) {l : Launch} (hl : l.stackTraces = false) (d : Nat) (w : Wd) : Mt G true l yX3_rebuildCount (ws_ yX3_rebuildCount cX3_rebuildCount 1 (some .int)) d (rrV G pI) [aR 3 (some 30)] w (f_X3_rebuildCount d w) := by
  refine Mt.of (own := "IntervalTreeModel") hG hl (by decide +kernel) rfl rfl ?_
  intro M hM hr hnm hxt hnd K
  subst hM
  cases d with
  | zero => exact j_none
  | succ d =>
    refine j_aload_n K dX3_rebuildCount_0 rfl ?_
    refine j_getI (k := 14) K dX3_rebuildCount_1 rfl rfl rfl q1270 rfl rfl rfl ?_
    exact j_iret K hr dX3_rebuildCount_4

theorem pm_X3_rebuiltNodes : yX3_rebuiltNodes.cls = RX3 ∧ yX3_rebuiltNodes.cls ≠ "java/lang/invoke/MethodHandle" ∧ yX3_rebuiltNodes.cls ≠ "java/lang/invoke/VarHandle" ∧ (parseMethodDescriptor yX3_rebuiltNodes.desc).map (fun d => d.parameters.length) = some 0 := by decide +kernel
def f_X3_rebuiltNodes (d : Nat) (w : Wd) : Option (Wd × Int32) :=
  match d with
  | 0 => none
  | d + 1 =>
    some (w, (gI w 30 15))
theorem sim_X3_rebuiltNodes {G : Gx} (hG : GW G) {l : Launch} (hl : l.stackTraces = false) (d : Nat) (w : Wd) : Mt G true l yX3_rebuiltNodes (ws_ yX3_rebuiltNodes cX3_rebuiltNodes 1 (some .int)) d (rrV G pI) [aR 3 (some 30)] w (f_X3_rebuiltNodes d w) := by
  refine Mt.of (own := "IntervalTreeModel") hG hl (by decide +kernel) rfl rfl ?_
  intro M hM hr hnm hxt hnd K
  subst hM
  cases d with
  | zero => exact j_none
  | succ d =>
    refine j_aload_n K dX3_rebuiltNodes_0 rfl ?_
    refine j_getI (k := 15) K dX3_rebuiltNodes_1 rfl rfl rfl q1271 rfl rfl rfl ?_
    exact j_iret K hr dX3_rebuiltNodes_4

theorem pm_X3_state : yX3_state.cls = RX3 ∧ yX3_state.cls ≠ "java/lang/invoke/MethodHandle" ∧ yX3_state.cls ≠ "java/lang/invoke/VarHandle" ∧ (parseMethodDescriptor yX3_state.desc).map (fun d => d.parameters.length) = some 1 := by decide +kernel
def f_X3_state (d : Nat) (p1 : Int32) (w : Wd) : Option (Wd × Int32) :=
  match d with
  | 0 => none
  | d + 1 =>
    (f_X3_isInserted d p1 (sI w 30 0 0)).bind fun r1 =>
    if r1.2 = 0 then
      (f_X3_fails d 1 r1.1).bind fun r2 =>
      some (r2.1, r2.2)
    else
      if ib p1 500 = true then
        some (r1.1, (gI r1.1 34 p1.toNatClampNeg))
      else none
theorem sim_X3_state {G : Gx} (hG : GW G) {l : Launch} (hl : l.stackTraces = false) (d : Nat) (p1 : Int32) (w : Wd) (fp1 : Bool) : Mt G true l yX3_state (ws_ yX3_state cX3_state 2 (some .int)) d (rrV G pI) [aR 3 (some 30), aB fp1 p1] w (f_X3_state d p1 w) := by
  refine Mt.of (own := "IntervalTreeModel") hG hl (by decide +kernel) rfl rfl ?_
  intro M hM hr hnm hxt hnd K
  subst hM
  cases d with
  | zero => exact j_none
  | succ d =>
    refine j_aload_n K dX3_state_0 rfl ?_
    refine j_iconstZ K dX3_state_1 rfl (Or.inl rfl) ?_
    refine j_putI (k := 0) K dX3_state_2 rfl rfl q1256 rfl (Or.inl rfl) rfl rfl rfl rfl ?_
    refine j_aload_n K dX3_state_5 rfl ?_
    refine j_iload_n K dX3_state_6 rfl ?_
    refine j_callV _ K (sim_X3_isInserted hG hl d p1 (sI w 30 0 0) fp1) dX3_state_7 rfl rfl q1464 q1466 qs61 q95 q1467 pm_X3_isInserted rfl rfl rfl rfl rfl (fun r1 _ => ?_)
    refine j_if_eq 22 K dX3_state_10 (by decide) ?_ ?_
    · refine j_aload_n K dX3_state_22 rfl ?_
      refine j_iconstZ K dX3_state_23 rfl (Or.inr rfl) ?_
      refine j_callV _ K (sim_X3_fails hG hl d 1 r1.1 true) dX3_state_24 rfl rfl q1420 q1422 qs51 q95 q1423 pm_X3_fails rfl rfl rfl rfl rfl (fun r2 _ => ?_)
      exact j_iret K hr dX3_state_27
    · refine j_aload_n K dX3_state_13 rfl ?_
      refine j_getA (k := 4) 18 K dX3_state_14 rfl rfl rfl q1260 rfl rfl (by decide) rfl rfl rfl ?_
      refine j_iload_n K dX3_state_17 rfl ?_
      refine j_ib (fun hi3 => ?_)
      refine j_ial K dX3_state_18 rfl (fxLen 18 rfl rfl) hi3 ?_
      refine j_goto 27 K dX3_state_19 (by decide) ?_
      exact j_iret K hr dX3_state_27

theorem pm_X3_isInTree : yX3_isInTree.cls = RX3 ∧ yX3_isInTree.cls ≠ "java/lang/invoke/MethodHandle" ∧ yX3_isInTree.cls ≠ "java/lang/invoke/VarHandle" ∧ (parseMethodDescriptor yX3_isInTree.desc).map (fun d => d.parameters.length) = some 1 := by decide +kernel
def f_X3_isInTree (d : Nat) (p1 : Int32) (w : Wd) : Option (Wd × Int32) :=
  match d with
  | 0 => none
  | d + 1 =>
    (f_X3_isInserted d p1 w).bind fun r1 =>
    if r1.2 = 0 then
      some (r1.1, 0)
    else
      if ib p1 500 = true then
        if 2 ≤ (gI r1.1 34 p1.toNatClampNeg) then
          some (r1.1, 0)
        else
          some (r1.1, 1)
      else none
theorem sim_X3_isInTree {G : Gx} (hG : GW G) {l : Launch} (hl : l.stackTraces = false) (d : Nat) (p1 : Int32) (w : Wd) (fp1 : Bool) : Mt G true l yX3_isInTree (ws_ yX3_isInTree cX3_isInTree 2 (some .boolean)) d (rrV G pZ) [aR 3 (some 30), aB fp1 p1] w (f_X3_isInTree d p1 w) := by
  refine Mt.of (own := "IntervalTreeModel") hG hl (by decide +kernel) rfl rfl ?_
  intro M hM hr hnm hxt hnd K
  subst hM
  cases d with
  | zero => exact j_none
  | succ d =>
    refine j_aload_n K dX3_isInTree_0 rfl ?_
    refine j_iload_n K dX3_isInTree_1 rfl ?_
    refine j_callV _ K (sim_X3_isInserted hG hl d p1 w fp1) dX3_isInTree_2 rfl rfl q1464 q1466 qs61 q95 q1467 pm_X3_isInserted rfl rfl rfl rfl rfl (fun r1 _ => ?_)
    refine j_if_eq 22 K dX3_isInTree_5 (by decide) ?_ ?_
    · refine j_iconstZ K dX3_isInTree_22 rfl (Or.inl rfl) ?_
      exact j_zret K hr dX3_isInTree_23
    · refine j_aload_n K dX3_isInTree_8 rfl ?_
      refine j_getA (k := 4) 18 K dX3_isInTree_9 rfl rfl rfl q1260 rfl rfl (by decide) rfl rfl rfl ?_
      refine j_iload_n K dX3_isInTree_12 rfl ?_
      refine j_ib (fun hi2 => ?_)
      refine j_ial K dX3_isInTree_13 rfl (fxLen 18 rfl rfl) hi2 ?_
      refine j_iconst (x := 2) K dX3_isInTree_14 rfl ?_
      refine j_icmp_ge 22 K dX3_isInTree_15 (by decide) ?_ ?_
      · refine j_iconstZ K dX3_isInTree_22 rfl (Or.inl rfl) ?_
        exact j_zret K hr dX3_isInTree_23
      · refine j_iconstZ K dX3_isInTree_18 rfl (Or.inr rfl) ?_
        refine j_goto 23 K dX3_isInTree_19 (by decide) ?_
        exact j_zret K hr dX3_isInTree_23

theorem pm_X3_low : yX3_low.cls = RX3 ∧ yX3_low.cls ≠ "java/lang/invoke/MethodHandle" ∧ yX3_low.cls ≠ "java/lang/invoke/VarHandle" ∧ (parseMethodDescriptor yX3_low.desc).map (fun d => d.parameters.length) = some 1 := by decide +kernel
def f_X3_low (d : Nat) (p1 : Int32) (w : Wd) : Option (Wd × Int32) :=
  match d with
  | 0 => none
  | d + 1 =>
    (f_X3_isInTree d p1 (sI w 30 0 0)).bind fun r1 =>
    if r1.2 = 0 then
      (f_X3_fails d 1 r1.1).bind fun r2 =>
      some (r2.1, r2.2)
    else
      if ib p1 500 = true then
        some (r1.1, (gI r1.1 31 p1.toNatClampNeg))
      else none
theorem sim_X3_low {G : Gx} (hG : GW G) {l : Launch} (hl : l.stackTraces = false) (d : Nat) (p1 : Int32) (w : Wd) (fp1 : Bool) : Mt G true l yX3_low (ws_ yX3_low cX3_low 2 (some .int)) d (rrV G pI) [aR 3 (some 30), aB fp1 p1] w (f_X3_low d p1 w) := by
  refine Mt.of (own := "IntervalTreeModel") hG hl (by decide +kernel) rfl rfl ?_
  intro M hM hr hnm hxt hnd K
  subst hM
  cases d with
  | zero => exact j_none
  | succ d =>
    refine j_aload_n K dX3_low_0 rfl ?_
    refine j_iconstZ K dX3_low_1 rfl (Or.inl rfl) ?_
    refine j_putI (k := 0) K dX3_low_2 rfl rfl q1256 rfl (Or.inl rfl) rfl rfl rfl rfl ?_
    refine j_aload_n K dX3_low_5 rfl ?_
    refine j_iload_n K dX3_low_6 rfl ?_
    refine j_callV _ K (sim_X3_isInTree hG hl d p1 (sI w 30 0 0) fp1) dX3_low_7 rfl rfl q1525 q1527 qs65 q95 q1528 pm_X3_isInTree rfl rfl rfl rfl rfl (fun r1 _ => ?_)
    refine j_if_eq 22 K dX3_low_10 (by decide) ?_ ?_
    · refine j_aload_n K dX3_low_22 rfl ?_
      refine j_iconstZ K dX3_low_23 rfl (Or.inr rfl) ?_
      refine j_callV _ K (sim_X3_fails hG hl d 1 r1.1 true) dX3_low_24 rfl rfl q1420 q1422 qs51 q95 q1423 pm_X3_fails rfl rfl rfl rfl rfl (fun r2 _ => ?_)
      exact j_iret K hr dX3_low_27
    · refine j_aload_n K dX3_low_13 rfl ?_
      refine j_getA (k := 1) 15 K dX3_low_14 rfl rfl rfl q1257 rfl rfl (by decide) rfl rfl rfl ?_
      refine j_iload_n K dX3_low_17 rfl ?_
      refine j_ib (fun hi3 => ?_)
      refine j_ial K dX3_low_18 rfl (fxLen 15 rfl rfl) hi3 ?_
      refine j_goto 27 K dX3_low_19 (by decide) ?_
      exact j_iret K hr dX3_low_27

theorem pm_X3_high : yX3_high.cls = RX3 ∧ yX3_high.cls ≠ "java/lang/invoke/MethodHandle" ∧ yX3_high.cls ≠ "java/lang/invoke/VarHandle" ∧ (parseMethodDescriptor yX3_high.desc).map (fun d => d.parameters.length) = some 1 := by decide +kernel
def f_X3_high (d : Nat) (p1 : Int32) (w : Wd) : Option (Wd × Int32) :=
  match d with
  | 0 => none
  | d + 1 =>
    (f_X3_isInTree d p1 (sI w 30 0 0)).bind fun r1 =>
    if r1.2 = 0 then
      (f_X3_fails d 1 r1.1).bind fun r2 =>
      some (r2.1, r2.2)
    else
      if ib p1 500 = true then
        some (r1.1, (gI r1.1 32 p1.toNatClampNeg))
      else none
theorem sim_X3_high {G : Gx} (hG : GW G) {l : Launch} (hl : l.stackTraces = false) (d : Nat) (p1 : Int32) (w : Wd) (fp1 : Bool) : Mt G true l yX3_high (ws_ yX3_high cX3_high 2 (some .int)) d (rrV G pI) [aR 3 (some 30), aB fp1 p1] w (f_X3_high d p1 w) := by
  refine Mt.of (own := "IntervalTreeModel") hG hl (by decide +kernel) rfl rfl ?_
  intro M hM hr hnm hxt hnd K
  subst hM
  cases d with
  | zero => exact j_none
  | succ d =>
    refine j_aload_n K dX3_high_0 rfl ?_
    refine j_iconstZ K dX3_high_1 rfl (Or.inl rfl) ?_
    refine j_putI (k := 0) K dX3_high_2 rfl rfl q1256 rfl (Or.inl rfl) rfl rfl rfl rfl ?_
    refine j_aload_n K dX3_high_5 rfl ?_
    refine j_iload_n K dX3_high_6 rfl ?_
    refine j_callV _ K (sim_X3_isInTree hG hl d p1 (sI w 30 0 0) fp1) dX3_high_7 rfl rfl q1525 q1527 qs65 q95 q1528 pm_X3_isInTree rfl rfl rfl rfl rfl (fun r1 _ => ?_)
    refine j_if_eq 22 K dX3_high_10 (by decide) ?_ ?_
    · refine j_aload_n K dX3_high_22 rfl ?_
      refine j_iconstZ K dX3_high_23 rfl (Or.inr rfl) ?_
      refine j_callV _ K (sim_X3_fails hG hl d 1 r1.1 true) dX3_high_24 rfl rfl q1420 q1422 qs51 q95 q1423 pm_X3_fails rfl rfl rfl rfl rfl (fun r2 _ => ?_)
      exact j_iret K hr dX3_high_27
    · refine j_aload_n K dX3_high_13 rfl ?_
      refine j_getA (k := 2) 16 K dX3_high_14 rfl rfl rfl q1258 rfl rfl (by decide) rfl rfl rfl ?_
      refine j_iload_n K dX3_high_17 rfl ?_
      refine j_ib (fun hi3 => ?_)
      refine j_ial K dX3_high_18 rfl (fxLen 16 rfl rfl) hi3 ?_
      refine j_goto 27 K dX3_high_19 (by decide) ?_
      exact j_iret K hr dX3_high_27

theorem pm_X3_weight : yX3_weight.cls = RX3 ∧ yX3_weight.cls ≠ "java/lang/invoke/MethodHandle" ∧ yX3_weight.cls ≠ "java/lang/invoke/VarHandle" ∧ (parseMethodDescriptor yX3_weight.desc).map (fun d => d.parameters.length) = some 1 := by decide +kernel
def f_X3_weight (d : Nat) (p1 : Int32) (w : Wd) : Option (Wd × Int32) :=
  match d with
  | 0 => none
  | d + 1 =>
    (f_X3_isInTree d p1 (sI w 30 0 0)).bind fun r1 =>
    if r1.2 = 0 then
      (f_X3_fails d 1 r1.1).bind fun r2 =>
      some (r2.1, r2.2)
    else
      if ib p1 500 = true then
        some (r1.1, (gI r1.1 33 p1.toNatClampNeg))
      else none
theorem sim_X3_weight {G : Gx} (hG : GW G) {l : Launch} (hl : l.stackTraces = false) (d : Nat) (p1 : Int32) (w : Wd) (fp1 : Bool) : Mt G true l yX3_weight (ws_ yX3_weight cX3_weight 2 (some .int)) d (rrV G pI) [aR 3 (some 30), aB fp1 p1] w (f_X3_weight d p1 w) := by
  refine Mt.of (own := "IntervalTreeModel") hG hl (by decide +kernel) rfl rfl ?_
  intro M hM hr hnm hxt hnd K
  subst hM
  cases d with
  | zero => exact j_none
  | succ d =>
    refine j_aload_n K dX3_weight_0 rfl ?_
    refine j_iconstZ K dX3_weight_1 rfl (Or.inl rfl) ?_
    refine j_putI (k := 0) K dX3_weight_2 rfl rfl q1256 rfl (Or.inl rfl) rfl rfl rfl rfl ?_
    refine j_aload_n K dX3_weight_5 rfl ?_
    refine j_iload_n K dX3_weight_6 rfl ?_
    refine j_callV _ K (sim_X3_isInTree hG hl d p1 (sI w 30 0 0) fp1) dX3_weight_7 rfl rfl q1525 q1527 qs65 q95 q1528 pm_X3_isInTree rfl rfl rfl rfl rfl (fun r1 _ => ?_)
    refine j_if_eq 22 K dX3_weight_10 (by decide) ?_ ?_
    · refine j_aload_n K dX3_weight_22 rfl ?_
      refine j_iconstZ K dX3_weight_23 rfl (Or.inr rfl) ?_
      refine j_callV _ K (sim_X3_fails hG hl d 1 r1.1 true) dX3_weight_24 rfl rfl q1420 q1422 qs51 q95 q1423 pm_X3_fails rfl rfl rfl rfl rfl (fun r2 _ => ?_)
      exact j_iret K hr dX3_weight_27
    · refine j_aload_n K dX3_weight_13 rfl ?_
      refine j_getA (k := 3) 17 K dX3_weight_14 rfl rfl rfl q1259 rfl rfl (by decide) rfl rfl rfl ?_
      refine j_iload_n K dX3_weight_17 rfl ?_
      refine j_ib (fun hi3 => ?_)
      refine j_ial K dX3_weight_18 rfl (fxLen 17 rfl rfl) hi3 ?_
      refine j_goto 27 K dX3_weight_19 (by decide) ?_
      exact j_iret K hr dX3_weight_27

theorem pm_X3_parent : yX3_parent.cls = RX3 ∧ yX3_parent.cls ≠ "java/lang/invoke/MethodHandle" ∧ yX3_parent.cls ≠ "java/lang/invoke/VarHandle" ∧ (parseMethodDescriptor yX3_parent.desc).map (fun d => d.parameters.length) = some 1 := by decide +kernel
def f_X3_parent (d : Nat) (p1 : Int32) (w : Wd) : Option (Wd × Int32) :=
  match d with
  | 0 => none
  | d + 1 =>
    (f_X3_isInTree d p1 (sI w 30 0 0)).bind fun r1 =>
    if r1.2 = 0 then
      (f_X3_fails d 1 r1.1).bind fun r2 =>
      some (r2.1, r2.2)
    else
      if ib p1 500 = true then
        some (r1.1, (gI r1.1 37 p1.toNatClampNeg))
      else none
theorem sim_X3_parent {G : Gx} (hG : GW G) {l : Launch} (hl : l.stackTraces = false) (d : Nat) (p1 : Int32) (w : Wd) (fp1 : Bool) : Mt G true l yX3_parent (ws_ yX3_parent cX3_parent 2 (some .int)) d (rrV G pI) [aR 3 (some 30), aB fp1 p1] w (f_X3_parent d p1 w) := by
  refine Mt.of (own := "IntervalTreeModel") hG hl (by decide +kernel) rfl rfl ?_
  intro M hM hr hnm hxt hnd K
  subst hM
  cases d with
  | zero => exact j_none
  | succ d =>
    refine j_aload_n K dX3_parent_0 rfl ?_
    refine j_iconstZ K dX3_parent_1 rfl (Or.inl rfl) ?_
    refine j_putI (k := 0) K dX3_parent_2 rfl rfl q1256 rfl (Or.inl rfl) rfl rfl rfl rfl ?_
    refine j_aload_n K dX3_parent_5 rfl ?_
    refine j_iload_n K dX3_parent_6 rfl ?_
    refine j_callV _ K (sim_X3_isInTree hG hl d p1 (sI w 30 0 0) fp1) dX3_parent_7 rfl rfl q1525 q1527 qs65 q95 q1528 pm_X3_isInTree rfl rfl rfl rfl rfl (fun r1 _ => ?_)
    refine j_if_eq 22 K dX3_parent_10 (by decide) ?_ ?_
    · refine j_aload_n K dX3_parent_22 rfl ?_
      refine j_iconstZ K dX3_parent_23 rfl (Or.inr rfl) ?_
      refine j_callV _ K (sim_X3_fails hG hl d 1 r1.1 true) dX3_parent_24 rfl rfl q1420 q1422 qs51 q95 q1423 pm_X3_fails rfl rfl rfl rfl rfl (fun r2 _ => ?_)
      exact j_iret K hr dX3_parent_27
    · refine j_aload_n K dX3_parent_13 rfl ?_
      refine j_getA (k := 7) 21 K dX3_parent_14 rfl rfl rfl q1263 rfl rfl (by decide) rfl rfl rfl ?_
      refine j_iload_n K dX3_parent_17 rfl ?_
      refine j_ib (fun hi3 => ?_)
      refine j_ial K dX3_parent_18 rfl (fxLen 21 rfl rfl) hi3 ?_
      refine j_goto 27 K dX3_parent_19 (by decide) ?_
      exact j_iret K hr dX3_parent_27

theorem pm_X3_child : yX3_child.cls = RX3 ∧ yX3_child.cls ≠ "java/lang/invoke/MethodHandle" ∧ yX3_child.cls ≠ "java/lang/invoke/VarHandle" ∧ (parseMethodDescriptor yX3_child.desc).map (fun d => d.parameters.length) = some 2 := by decide +kernel
def f_X3_child (d : Nat) (p1 : Int32) (p2 : Int32) (w : Wd) : Option (Wd × Int32) :=
  match d with
  | 0 => none
  | d + 1 =>
    (f_X3_isInTree d p1 (sI w 30 0 0)).bind fun r1 =>
    if r1.2 = 0 then
      (f_X3_fails d 1 r1.1).bind fun r4 =>
      some (r4.1, r4.2)
    else
      if p2 = 0 then
        if ib p1 500 = true then
          some (r1.1, (gI r1.1 35 p1.toNatClampNeg))
        else none
      else
        if ib p1 500 = true then
          some (r1.1, (gI r1.1 36 p1.toNatClampNeg))
        else none
theorem sim_X3_child {G : Gx} (hG : GW G) {l : Launch} (hl : l.stackTraces = false) (d : Nat) (p1 : Int32) (p2 : Int32) (w : Wd) (fp1 : Bool) : Mt G true l yX3_child (ws_ yX3_child cX3_child 3 (some .int)) d (rrV G pI) [aR 3 (some 30), aB fp1 p1, aZ p2] w (f_X3_child d p1 p2 w) := by
  refine Mt.of (own := "IntervalTreeModel") hG hl (by decide +kernel) rfl rfl ?_
  intro M hM hr hnm hxt hnd K
  subst hM
  cases d with
  | zero => exact j_none
  | succ d =>
    refine j_aload_n K dX3_child_0 rfl ?_
    refine j_iconstZ K dX3_child_1 rfl (Or.inl rfl) ?_
    refine j_putI (k := 0) K dX3_child_2 rfl rfl q1256 rfl (Or.inl rfl) rfl rfl rfl rfl ?_
    refine j_aload_n K dX3_child_5 rfl ?_
    refine j_iload_n K dX3_child_6 rfl ?_
    refine j_callV _ K (sim_X3_isInTree hG hl d p1 (sI w 30 0 0) fp1) dX3_child_7 rfl rfl q1525 q1527 qs65 q95 q1528 pm_X3_isInTree rfl rfl rfl rfl rfl (fun r1 _ => ?_)
    refine j_if_ne 19 K dX3_child_10 (by decide) ?_ ?_
    · refine j_iload_n K dX3_child_19 rfl ?_
      refine j_if_eq 32 K dX3_child_20 (by decide) ?_ ?_
      · refine j_aload_n K dX3_child_32 rfl ?_
        refine j_getA (k := 5) 19 K dX3_child_33 rfl rfl rfl q1261 rfl rfl (by decide) rfl rfl rfl ?_
        refine j_iload_n K dX3_child_36 rfl ?_
        refine j_ib (fun hi2 => ?_)
        refine j_ial K dX3_child_37 rfl (fxLen 19 rfl rfl) hi2 ?_
        exact j_iret K hr dX3_child_38
      · refine j_aload_n K dX3_child_23 rfl ?_
        refine j_getA (k := 6) 20 K dX3_child_24 rfl rfl rfl q1262 rfl rfl (by decide) rfl rfl rfl ?_
        refine j_iload_n K dX3_child_27 rfl ?_
        refine j_ib (fun hi3 => ?_)
        refine j_ial K dX3_child_28 rfl (fxLen 20 rfl rfl) hi3 ?_
        refine j_goto 38 K dX3_child_29 (by decide) ?_
        exact j_iret K hr dX3_child_38
    · refine j_aload_n K dX3_child_13 rfl ?_
      refine j_iconstZ K dX3_child_14 rfl (Or.inr rfl) ?_
      refine j_callV _ K (sim_X3_fails hG hl d 1 r1.1 true) dX3_child_15 rfl rfl q1420 q1422 qs51 q95 q1423 pm_X3_fails rfl rfl rfl rfl rfl (fun r4 _ => ?_)
      exact j_iret K hr dX3_child_18

theorem pm_X3_isRed : yX3_isRed.cls = RX3 ∧ yX3_isRed.cls ≠ "java/lang/invoke/MethodHandle" ∧ yX3_isRed.cls ≠ "java/lang/invoke/VarHandle" ∧ (parseMethodDescriptor yX3_isRed.desc).map (fun d => d.parameters.length) = some 1 := by decide +kernel
def f_X3_isRed (d : Nat) (p1 : Int32) (w : Wd) : Option (Wd × Int32) :=
  match d with
  | 0 => none
  | d + 1 =>
    (f_X3_isInTree d p1 (sI w 30 0 0)).bind fun r1 =>
    if r1.2 = 0 then
      (f_X3_fails d 1 r1.1).bind fun r2 =>
      if r2.2 ≤ 0 then
        some (r2.1, 0)
      else
        some (r2.1, 1)
    else
      if ib p1 500 = true then
        some (r1.1, (gI r1.1 38 p1.toNatClampNeg))
      else none
theorem sim_X3_isRed {G : Gx} (hG : GW G) {l : Launch} (hl : l.stackTraces = false) (d : Nat) (p1 : Int32) (w : Wd) (fp1 : Bool) : Mt G true l yX3_isRed (ws_ yX3_isRed cX3_isRed 2 (some .boolean)) d (rrV G pZ) [aR 3 (some 30), aB fp1 p1] w (f_X3_isRed d p1 w) := by
  refine Mt.of (own := "IntervalTreeModel") hG hl (by decide +kernel) rfl rfl ?_
  intro M hM hr hnm hxt hnd K
  subst hM
  cases d with
  | zero => exact j_none
  | succ d =>
    refine j_aload_n K dX3_isRed_0 rfl ?_
    refine j_iconstZ K dX3_isRed_1 rfl (Or.inl rfl) ?_
    refine j_putI (k := 0) K dX3_isRed_2 rfl rfl q1256 rfl (Or.inl rfl) rfl rfl rfl rfl ?_
    refine j_aload_n K dX3_isRed_5 rfl ?_
    refine j_iload_n K dX3_isRed_6 rfl ?_
    refine j_callV _ K (sim_X3_isInTree hG hl d p1 (sI w 30 0 0) fp1) dX3_isRed_7 rfl rfl q1525 q1527 qs65 q95 q1528 pm_X3_isInTree rfl rfl rfl rfl rfl (fun r1 _ => ?_)
    refine j_if_eq 20 K dX3_isRed_10 (by decide) ?_ ?_
    · refine j_aload_n K dX3_isRed_20 rfl ?_
      refine j_iconstZ K dX3_isRed_21 rfl (Or.inr rfl) ?_
      refine j_callV _ K (sim_X3_fails hG hl d 1 r1.1 true) dX3_isRed_22 rfl rfl q1420 q1422 qs51 q95 q1423 pm_X3_fails rfl rfl rfl rfl rfl (fun r2 _ => ?_)
      refine j_if_le 32 K dX3_isRed_25 (by decide) ?_ ?_
      · refine j_iconstZ K dX3_isRed_32 rfl (Or.inl rfl) ?_
        exact j_zret K hr dX3_isRed_33
      · refine j_iconstZ K dX3_isRed_28 rfl (Or.inr rfl) ?_
        refine j_goto 33 K dX3_isRed_29 (by decide) ?_
        exact j_zret K hr dX3_isRed_33
    · refine j_aload_n K dX3_isRed_13 rfl ?_
      refine j_getA (k := 8) 22 K dX3_isRed_14 rfl rfl rfl q1264 rfl rfl (by decide) rfl rfl rfl ?_
      refine j_iload_n K dX3_isRed_17 rfl ?_
      refine j_ib (fun hi3 => ?_)
      refine j_zal K dX3_isRed_18 rfl (fxLen 22 rfl rfl) hi3 ?_
      exact j_zret K hr dX3_isRed_19

theorem pm_X3_sizeOf : yX3_sizeOf.cls = RX3 ∧ yX3_sizeOf.cls ≠ "java/lang/invoke/MethodHandle" ∧ yX3_sizeOf.cls ≠ "java/lang/invoke/VarHandle" ∧ (parseMethodDescriptor yX3_sizeOf.desc).map (fun d => d.parameters.length) = some 1 := by decide +kernel
def b_X3_sizeOf_23 (d : Nat) (g_X3_sizeOf : Int32 → Wd → Option (Wd × Int32)) (x1 : Int32) (s0 : Int32) (w : Wd) : Option (Wd × Int32) :=
  if ib x1 500 = true then
    (g_X3_sizeOf (gI w 35 x1.toNatClampNeg) w).bind fun r3 =>
    (g_X3_sizeOf (gI r3.1 36 x1.toNatClampNeg) r3.1).bind fun r4 =>
    some (r4.1, ((s0 + r3.2) + r4.2))
  else none
def fB_X3_sizeOf (d : Nat) (g_X3_sizeOf : Int32 → Wd → Option (Wd × Int32)) (p1 : Int32) (w : Wd) : Option (Wd × Int32) :=
  if p1 = (-1) then
    some (w, 0)
  else
    if ib p1 500 = true then
      if (gI w 34 p1.toNatClampNeg) = 0 then
        b_X3_sizeOf_23 d g_X3_sizeOf p1 1 w
      else
        b_X3_sizeOf_23 d g_X3_sizeOf p1 0 w
    else none
theorem sb_X3_sizeOf_23 {G : Gx} (hG : GW G) {M : Mx} (hl : (mL M).stackTraces = false) {w0 : Wd} {d : Nat} (K : Cx (G, true, M, 2, w0) cX3_sizeOf "IntervalTreeModel" (d + 1)) (hr : (mH M).sig.returnType = some .int) (hnm : (mH M).name = yX3_sizeOf.name) (hxt : ∀ x ∈ (mC M).exceptionTable.toList, False) (hnd : (mS M).methodNamed? yX3_sizeOf = some (mM M)) {g_X3_sizeOf : Int32 → Wd → Option (Wd × Int32)} (hg_X3_sizeOf : ∀ (p1 : Int32) (w : Wd) (fp1 : Bool), Mt G true (mL M) yX3_sizeOf (ws_ yX3_sizeOf cX3_sizeOf 2 (some .int)) d (rrV G pI) [aR 3 (some 30), aB fp1 p1] w (g_X3_sizeOf p1 w)) : ∀ (x1 : Int32) (s0 : Int32) (w : Wd) (fx1 : Bool), Jf (G, true, M, 2, w0) (rrV G pI) (b_X3_sizeOf_23 d g_X3_sizeOf x1 s0 w) w 23 [some (aR 3 (some 30)), some (aB fx1 x1)] [aB true s0] := by
  intro x1 s0 w fx1
  refine j_aload_n K dX3_sizeOf_23 rfl ?_
  refine j_aload_n K dX3_sizeOf_24 rfl ?_
  refine j_getA (k := 5) 19 K dX3_sizeOf_25 rfl rfl rfl q1261 rfl rfl (by decide) rfl rfl rfl ?_
  refine j_iload_n K dX3_sizeOf_28 rfl ?_
  refine j_ib (fun hi2 => ?_)
  refine j_ial K dX3_sizeOf_29 rfl (fxLen 19 rfl rfl) hi2 ?_
  refine j_callV _ K (hg_X3_sizeOf (gI w 35 x1.toNatClampNeg) w false) dX3_sizeOf_30 rfl rfl q1553 q1555 qs66 q95 q1556 pm_X3_sizeOf rfl rfl rfl rfl rfl (fun r3 _ => ?_)
  refine j_iadd K dX3_sizeOf_33 ?_
  refine j_aload_n K dX3_sizeOf_34 rfl ?_
  refine j_aload_n K dX3_sizeOf_35 rfl ?_
  refine j_getA (k := 6) 20 K dX3_sizeOf_36 rfl rfl rfl q1262 rfl rfl (by decide) rfl rfl rfl ?_
  refine j_iload_n K dX3_sizeOf_39 rfl ?_
  refine j_ial K dX3_sizeOf_40 rfl (fxLen 20 rfl rfl) hi2 ?_
  refine j_callV _ K (hg_X3_sizeOf (gI r3.1 36 x1.toNatClampNeg) r3.1 false) dX3_sizeOf_41 rfl rfl q1553 q1555 qs66 q95 q1556 pm_X3_sizeOf rfl rfl rfl rfl rfl (fun r4 _ => ?_)
  refine j_iadd K dX3_sizeOf_44 ?_
  exact j_iret K hr dX3_sizeOf_45
theorem simB_X3_sizeOf {G : Gx} (hG : GW G) {l : Launch} (hl : l.stackTraces = false) (d : Nat) {g_X3_sizeOf : Int32 → Wd → Option (Wd × Int32)} (hg_X3_sizeOf : ∀ (p1 : Int32) (w : Wd) (fp1 : Bool), Mt G true l yX3_sizeOf (ws_ yX3_sizeOf cX3_sizeOf 2 (some .int)) d (rrV G pI) [aR 3 (some 30), aB fp1 p1] w (g_X3_sizeOf p1 w)) (p1 : Int32) (w : Wd) (fp1 : Bool) : Mt G true l yX3_sizeOf (ws_ yX3_sizeOf cX3_sizeOf 2 (some .int)) (d + 1) (rrV G pI) [aR 3 (some 30), aB fp1 p1] w (fB_X3_sizeOf d g_X3_sizeOf p1 w) := by
  refine Mt.of (own := "IntervalTreeModel") hG hl (by decide +kernel) rfl rfl ?_
  intro M hM hr hnm hxt hnd K
  subst hM
  refine j_iload_n K dX3_sizeOf_0 rfl ?_
  refine j_iconst (x := (-1)) K dX3_sizeOf_1 rfl ?_
  refine j_icmp_ne 9 K dX3_sizeOf_2 (by decide) ?_ ?_
  · refine j_aload_n K dX3_sizeOf_9 rfl ?_
    refine j_getA (k := 4) 18 K dX3_sizeOf_10 rfl rfl rfl q1260 rfl rfl (by decide) rfl rfl rfl ?_
    refine j_iload_n K dX3_sizeOf_13 rfl ?_
    refine j_ib (fun hi1 => ?_)
    refine j_ial K dX3_sizeOf_14 rfl (fxLen 18 rfl rfl) hi1 ?_
    refine j_if_ne 22 K dX3_sizeOf_15 (by decide) ?_ ?_
    · refine j_iconstZ K dX3_sizeOf_22 rfl (Or.inl rfl) ?_
      exact sb_X3_sizeOf_23 hG hl K hr hnm hxt hnd hg_X3_sizeOf _ _ _ _
    · refine j_iconstZ K dX3_sizeOf_18 rfl (Or.inr rfl) ?_
      refine j_goto 23 K dX3_sizeOf_19 (by decide) ?_
      exact sb_X3_sizeOf_23 hG hl K hr hnm hxt hnd hg_X3_sizeOf _ _ _ _
  · refine j_iconstZ K dX3_sizeOf_5 rfl (Or.inl rfl) ?_
    refine j_goto 45 K dX3_sizeOf_6 (by decide) ?_
    exact j_iret K hr dX3_sizeOf_45
def f_X3_sizeOf : Nat → Int32 → Wd → Option (Wd × Int32)
  | 0 => fun _ _ => none
  | d + 1 => fB_X3_sizeOf d (f_X3_sizeOf d)
theorem sim_X3_sizeOf {G : Gx} (hG : GW G) {l : Launch} (hl : l.stackTraces = false) : ∀ (d : Nat) (p1 : Int32) (w : Wd) (fp1 : Bool), Mt G true l yX3_sizeOf (ws_ yX3_sizeOf cX3_sizeOf 2 (some .int)) d (rrV G pI) [aR 3 (some 30), aB fp1 p1] w (f_X3_sizeOf d p1 w) := by
  intro d
  induction d with
  | zero => intros; exact fun _ h => by cases h
  | succ d ih => exact simB_X3_sizeOf hG hl d ih

theorem pm_X3_subtreeSize : yX3_subtreeSize.cls = RX3 ∧ yX3_subtreeSize.cls ≠ "java/lang/invoke/MethodHandle" ∧ yX3_subtreeSize.cls ≠ "java/lang/invoke/VarHandle" ∧ (parseMethodDescriptor yX3_subtreeSize.desc).map (fun d => d.parameters.length) = some 1 := by decide +kernel
def f_X3_subtreeSize (d : Nat) (p1 : Int32) (w : Wd) : Option (Wd × Int32) :=
  match d with
  | 0 => none
  | d + 1 =>
    (f_X3_isInTree d p1 (sI w 30 0 0)).bind fun r1 =>
    if r1.2 = 0 then
      (f_X3_fails d 1 r1.1).bind fun r2 =>
      some (r2.1, r2.2)
    else
      (f_X3_sizeOf d p1 r1.1).bind fun r3 =>
      some (r3.1, r3.2)
theorem sim_X3_subtreeSize {G : Gx} (hG : GW G) {l : Launch} (hl : l.stackTraces = false) (d : Nat) (p1 : Int32) (w : Wd) (fp1 : Bool) : Mt G true l yX3_subtreeSize (ws_ yX3_subtreeSize cX3_subtreeSize 2 (some .int)) d (rrV G pI) [aR 3 (some 30), aB fp1 p1] w (f_X3_subtreeSize d p1 w) := by
  refine Mt.of (own := "IntervalTreeModel") hG hl (by decide +kernel) rfl rfl ?_
  intro M hM hr hnm hxt hnd K
  subst hM
  cases d with
  | zero => exact j_none
  | succ d =>
    refine j_aload_n K dX3_subtreeSize_0 rfl ?_
    refine j_iconstZ K dX3_subtreeSize_1 rfl (Or.inl rfl) ?_
    refine j_putI (k := 0) K dX3_subtreeSize_2 rfl rfl q1256 rfl (Or.inl rfl) rfl rfl rfl rfl ?_
    refine j_aload_n K dX3_subtreeSize_5 rfl ?_
    refine j_iload_n K dX3_subtreeSize_6 rfl ?_
    refine j_callV _ K (sim_X3_isInTree hG hl d p1 (sI w 30 0 0) fp1) dX3_subtreeSize_7 rfl rfl q1525 q1527 qs65 q95 q1528 pm_X3_isInTree rfl rfl rfl rfl rfl (fun r1 _ => ?_)
    refine j_if_eq 21 K dX3_subtreeSize_10 (by decide) ?_ ?_
    · refine j_aload_n K dX3_subtreeSize_21 rfl ?_
      refine j_iconstZ K dX3_subtreeSize_22 rfl (Or.inr rfl) ?_
      refine j_callV _ K (sim_X3_fails hG hl d 1 r1.1 true) dX3_subtreeSize_23 rfl rfl q1420 q1422 qs51 q95 q1423 pm_X3_fails rfl rfl rfl rfl rfl (fun r2 _ => ?_)
      exact j_iret K hr dX3_subtreeSize_26
    · refine j_aload_n K dX3_subtreeSize_13 rfl ?_
      refine j_iload_n K dX3_subtreeSize_14 rfl ?_
      refine j_callV _ K (sim_X3_sizeOf hG hl d p1 r1.1 fp1) dX3_subtreeSize_15 rfl rfl q1553 q1555 qs66 q95 q1556 pm_X3_sizeOf rfl rfl rfl rfl rfl (fun r3 _ => ?_)
      refine j_goto 26 K dX3_subtreeSize_18 (by decide) ?_
      exact j_iret K hr dX3_subtreeSize_26

theorem pm_X3_greatest : yX3_greatest.cls = RX3 ∧ yX3_greatest.cls ≠ "java/lang/invoke/MethodHandle" ∧ yX3_greatest.cls ≠ "java/lang/invoke/VarHandle" ∧ (parseMethodDescriptor yX3_greatest.desc).map (fun d => d.parameters.length) = some 2 := by decide +kernel
def b_X3_greatest_45 (d : Nat) (g_X3_greatest : Int32 → Int32 → Wd → Option (Wd × Unit)) (x1 : Int32) (x2 : Int32) (w : Wd) : Option (Wd × Unit) :=
  if ib x1 500 = true then
    (g_X3_greatest (gI w 35 x1.toNatClampNeg) x2 w).bind fun r3 =>
    (g_X3_greatest (gI r3.1 36 x1.toNatClampNeg) x2 r3.1).bind fun r4 =>
    some (r4.1, ())
  else none
def b_X3_greatest_39 (d : Nat) (g_X3_greatest : Int32 → Int32 → Wd → Option (Wd × Unit)) (x1 : Int32) (x2 : Int32) (s1 : Int32) (s2 : Int32) (w : Wd) : Option (Wd × Unit) :=
  b_X3_greatest_45 d g_X3_greatest x1 x2 (sI w 30 20 (mmax s1 s2))
def fB_X3_greatest (d : Nat) (g_X3_greatest : Int32 → Int32 → Wd → Option (Wd × Unit)) (p1 : Int32) (p2 : Int32) (w : Wd) : Option (Wd × Unit) :=
  if p1 = (-1) then
    some (w, ())
  else
    if ib p1 500 = true then
      if (gI w 34 p1.toNatClampNeg) = 0 then
        if p2 = 0 then
          b_X3_greatest_39 d g_X3_greatest p1 p2 (gI w 30 20) (gI w 33 p1.toNatClampNeg) w
        else
          b_X3_greatest_39 d g_X3_greatest p1 p2 (gI w 30 20) (gI w 32 p1.toNatClampNeg) w
      else
        b_X3_greatest_45 d g_X3_greatest p1 p2 w
    else none
theorem sb_X3_greatest_45 {G : Gx} (hG : GW G) {M : Mx} (hl : (mL M).stackTraces = false) {w0 : Wd} {d : Nat} (K : Cx (G, true, M, 3, w0) cX3_greatest "IntervalTreeModel" (d + 1)) (hr : (mH M).sig.returnType = none) (hnm : (mH M).name = yX3_greatest.name) (hxt : ∀ x ∈ (mC M).exceptionTable.toList, False) (hnd : (mS M).methodNamed? yX3_greatest = some (mM M)) {g_X3_greatest : Int32 → Int32 → Wd → Option (Wd × Unit)} (hg_X3_greatest : ∀ (p1 : Int32) (p2 : Int32) (w : Wd) (fp1 : Bool), Mt G true (mL M) yX3_greatest (ws_ yX3_greatest cX3_greatest 3 (none)) d (rrV G pU) [aR 3 (some 30), aB fp1 p1, aZ p2] w (g_X3_greatest p1 p2 w)) : ∀ (x1 : Int32) (x2 : Int32) (w : Wd) (fx1 : Bool), Jf (G, true, M, 3, w0) (rrV G pU) (b_X3_greatest_45 d g_X3_greatest x1 x2 w) w 45 [some (aR 3 (some 30)), some (aB fx1 x1), some (aB true x2)] [] := by
  intro x1 x2 w fx1
  refine j_aload_n K dX3_greatest_45 rfl ?_
  refine j_aload_n K dX3_greatest_46 rfl ?_
  refine j_getA (k := 5) 19 K dX3_greatest_47 rfl rfl rfl q1261 rfl rfl (by decide) rfl rfl rfl ?_
  refine j_iload_n K dX3_greatest_50 rfl ?_
  refine j_ib (fun hi2 => ?_)
  refine j_ial K dX3_greatest_51 rfl (fxLen 19 rfl rfl) hi2 ?_
  refine j_iload_n K dX3_greatest_52 rfl ?_
  refine j_callV _ K (hg_X3_greatest (gI w 35 x1.toNatClampNeg) x2 w false) dX3_greatest_53 rfl rfl q1566 q1568 qs68 q95 q1569 pm_X3_greatest rfl rfl rfl rfl rfl (fun r3 _ => ?_)
  refine j_aload_n K dX3_greatest_56 rfl ?_
  refine j_aload_n K dX3_greatest_57 rfl ?_
  refine j_getA (k := 6) 20 K dX3_greatest_58 rfl rfl rfl q1262 rfl rfl (by decide) rfl rfl rfl ?_
  refine j_iload_n K dX3_greatest_61 rfl ?_
  refine j_ial K dX3_greatest_62 rfl (fxLen 20 rfl rfl) hi2 ?_
  refine j_iload_n K dX3_greatest_63 rfl ?_
  refine j_callV _ K (hg_X3_greatest (gI r3.1 36 x1.toNatClampNeg) x2 r3.1 false) dX3_greatest_64 rfl rfl q1566 q1568 qs68 q95 q1569 pm_X3_greatest rfl rfl rfl rfl rfl (fun r4 _ => ?_)
  exact j_vret K hr dX3_greatest_67
theorem sb_X3_greatest_39 {G : Gx} (hG : GW G) {M : Mx} (hl : (mL M).stackTraces = false) {w0 : Wd} {d : Nat} (K : Cx (G, true, M, 3, w0) cX3_greatest "IntervalTreeModel" (d + 1)) (hr : (mH M).sig.returnType = none) (hnm : (mH M).name = yX3_greatest.name) (hxt : ∀ x ∈ (mC M).exceptionTable.toList, False) (hnd : (mS M).methodNamed? yX3_greatest = some (mM M)) {g_X3_greatest : Int32 → Int32 → Wd → Option (Wd × Unit)} (hg_X3_greatest : ∀ (p1 : Int32) (p2 : Int32) (w : Wd) (fp1 : Bool), Mt G true (mL M) yX3_greatest (ws_ yX3_greatest cX3_greatest 3 (none)) d (rrV G pU) [aR 3 (some 30), aB fp1 p1, aZ p2] w (g_X3_greatest p1 p2 w)) : ∀ (x1 : Int32) (x2 : Int32) (s1 : Int32) (s2 : Int32) (w : Wd) (fx1 : Bool) (fs1 : Bool) (fs2 : Bool), Jf (G, true, M, 3, w0) (rrV G pU) (b_X3_greatest_39 d g_X3_greatest x1 x2 s1 s2 w) w 39 [some (aR 3 (some 30)), some (aB fx1 x1), some (aB true x2)] [aB fs2 s2, aB fs1 s1, aR 3 (some 30)] := by
  intro x1 x2 s1 s2 w fx1 fs1 fs2
  refine j_mmax K dX3_greatest_39 q1508 rfl ?_
  refine j_putI (k := 20) K dX3_greatest_42 rfl rfl q1276 rfl (Or.inl rfl) rfl rfl rfl rfl ?_
  exact sb_X3_greatest_45 hG hl K hr hnm hxt hnd hg_X3_greatest _ _ _ _
theorem simB_X3_greatest {G : Gx} (hG : GW G) {l : Launch} (hl : l.stackTraces = false) (d : Nat) {g_X3_greatest : Int32 → Int32 → Wd → Option (Wd × Unit)} (hg_X3_greatest : ∀ (p1 : Int32) (p2 : Int32) (w : Wd) (fp1 : Bool), Mt G true l yX3_greatest (ws_ yX3_greatest cX3_greatest 3 (none)) d (rrV G pU) [aR 3 (some 30), aB fp1 p1, aZ p2] w (g_X3_greatest p1 p2 w)) (p1 : Int32) (p2 : Int32) (w : Wd) (fp1 : Bool) : Mt G true l yX3_greatest (ws_ yX3_greatest cX3_greatest 3 (none)) (d + 1) (rrV G pU) [aR 3 (some 30), aB fp1 p1, aZ p2] w (fB_X3_greatest d g_X3_greatest p1 p2 w) := by
  refine Mt.of (own := "IntervalTreeModel") hG hl (by decide +kernel) rfl rfl ?_
  intro M hM hr hnm hxt hnd K
  subst hM
  refine j_iload_n K dX3_greatest_0 rfl ?_
  refine j_iconst (x := (-1)) K dX3_greatest_1 rfl ?_
  refine j_icmp_ne 6 K dX3_greatest_2 (by decide) ?_ ?_
  · refine j_aload_n K dX3_greatest_6 rfl ?_
    refine j_getA (k := 4) 18 K dX3_greatest_7 rfl rfl rfl q1260 rfl rfl (by decide) rfl rfl rfl ?_
    refine j_iload_n K dX3_greatest_10 rfl ?_
    refine j_ib (fun hi1 => ?_)
    refine j_ial K dX3_greatest_11 rfl (fxLen 18 rfl rfl) hi1 ?_
    refine j_if_ne 45 K dX3_greatest_12 (by decide) ?_ ?_
    · exact sb_X3_greatest_45 hG hl K hr hnm hxt hnd hg_X3_greatest _ _ _ _
    · refine j_aload_n K dX3_greatest_15 rfl ?_
      refine j_aload_n K dX3_greatest_16 rfl ?_
      refine j_getI (k := 20) K dX3_greatest_17 rfl rfl rfl q1276 rfl rfl rfl ?_
      refine j_iload_n K dX3_greatest_20 rfl ?_
      refine j_if_eq 33 K dX3_greatest_21 (by decide) ?_ ?_
      · refine j_aload_n K dX3_greatest_33 rfl ?_
        refine j_getA (k := 3) 17 K dX3_greatest_34 rfl rfl rfl q1259 rfl rfl (by decide) rfl rfl rfl ?_
        refine j_iload_n K dX3_greatest_37 rfl ?_
        refine j_ial K dX3_greatest_38 rfl (fxLen 17 rfl rfl) hi1 ?_
        exact sb_X3_greatest_39 hG hl K hr hnm hxt hnd hg_X3_greatest _ _ _ _ _ _ _ _
      · refine j_aload_n K dX3_greatest_24 rfl ?_
        refine j_getA (k := 2) 16 K dX3_greatest_25 rfl rfl rfl q1258 rfl rfl (by decide) rfl rfl rfl ?_
        refine j_iload_n K dX3_greatest_28 rfl ?_
        refine j_ial K dX3_greatest_29 rfl (fxLen 16 rfl rfl) hi1 ?_
        refine j_goto 39 K dX3_greatest_30 (by decide) ?_
        exact sb_X3_greatest_39 hG hl K hr hnm hxt hnd hg_X3_greatest _ _ _ _ _ _ _ _
  · exact j_vret K hr dX3_greatest_5
def f_X3_greatest : Nat → Int32 → Int32 → Wd → Option (Wd × Unit)
  | 0 => fun _ _ _ => none
  | d + 1 => fB_X3_greatest d (f_X3_greatest d)
theorem sim_X3_greatest {G : Gx} (hG : GW G) {l : Launch} (hl : l.stackTraces = false) : ∀ (d : Nat) (p1 : Int32) (p2 : Int32) (w : Wd) (fp1 : Bool), Mt G true l yX3_greatest (ws_ yX3_greatest cX3_greatest 3 (none)) d (rrV G pU) [aR 3 (some 30), aB fp1 p1, aZ p2] w (f_X3_greatest d p1 p2 w) := by
  intro d
  induction d with
  | zero => intros; exact fun _ h => by cases h
  | succ d ih => exact simB_X3_greatest hG hl d ih

theorem pm_X3_greatestOf : yX3_greatestOf.cls = RX3 ∧ yX3_greatestOf.cls ≠ "java/lang/invoke/MethodHandle" ∧ yX3_greatestOf.cls ≠ "java/lang/invoke/VarHandle" ∧ (parseMethodDescriptor yX3_greatestOf.desc).map (fun d => d.parameters.length) = some 2 := by decide +kernel
def f_X3_greatestOf (d : Nat) (p1 : Int32) (p2 : Int32) (w : Wd) : Option (Wd × Int32) :=
  match d with
  | 0 => none
  | d + 1 =>
    (f_X3_isInTree d p1 (sI w 30 0 0)).bind fun r1 =>
    if r1.2 = 0 then
      (f_X3_fails d 1 r1.1).bind fun r5 =>
      some (r5.1, r5.2)
    else
      (f_X3_sizeOf d p1 r1.1).bind fun r2 =>
      if r2.2 = 0 then
        (f_X3_fails d 2 r2.1).bind fun r4 =>
        some (r4.1, r4.2)
      else
        (f_X3_greatest d p1 p2 (sI r2.1 30 20 (-2147483648))).bind fun r3 =>
        some (r3.1, (gI r3.1 30 20))
theorem sim_X3_greatestOf {G : Gx} (hG : GW G) {l : Launch} (hl : l.stackTraces = false) (d : Nat) (p1 : Int32) (p2 : Int32) (w : Wd) (fp1 : Bool) : Mt G true l yX3_greatestOf (ws_ yX3_greatestOf cX3_greatestOf 3 (some .int)) d (rrV G pI) [aR 3 (some 30), aB fp1 p1, aZ p2] w (f_X3_greatestOf d p1 p2 w) := by
  refine Mt.of (own := "IntervalTreeModel") hG hl (by decide +kernel) rfl rfl ?_
  intro M hM hr hnm hxt hnd K
  subst hM
  cases d with
  | zero => exact j_none
  | succ d =>
    refine j_aload_n K dX3_greatestOf_0 rfl ?_
    refine j_iconstZ K dX3_greatestOf_1 rfl (Or.inl rfl) ?_
    refine j_putI (k := 0) K dX3_greatestOf_2 rfl rfl q1256 rfl (Or.inl rfl) rfl rfl rfl rfl ?_
    refine j_aload_n K dX3_greatestOf_5 rfl ?_
    refine j_iload_n K dX3_greatestOf_6 rfl ?_
    refine j_callV _ K (sim_X3_isInTree hG hl d p1 (sI w 30 0 0) fp1) dX3_greatestOf_7 rfl rfl q1525 q1527 qs65 q95 q1528 pm_X3_isInTree rfl rfl rfl rfl rfl (fun r1 _ => ?_)
    refine j_if_ne 19 K dX3_greatestOf_10 (by decide) ?_ ?_
    · refine j_aload_n K dX3_greatestOf_19 rfl ?_
      refine j_iload_n K dX3_greatestOf_20 rfl ?_
      refine j_callV _ K (sim_X3_sizeOf hG hl d p1 r1.1 fp1) dX3_greatestOf_21 rfl rfl q1553 q1555 qs66 q95 q1556 pm_X3_sizeOf rfl rfl rfl rfl rfl (fun r2 _ => ?_)
      refine j_if_ne 33 K dX3_greatestOf_24 (by decide) ?_ ?_
      · refine j_aload_n K dX3_greatestOf_33 rfl ?_
        refine j_ldc (x := (-2147483648)) K dX3_greatestOf_34 q1565 ?_
        refine j_putI (k := 20) K dX3_greatestOf_36 rfl rfl q1276 rfl (Or.inl rfl) rfl rfl rfl rfl ?_
        refine j_aload_n K dX3_greatestOf_39 rfl ?_
        refine j_iload_n K dX3_greatestOf_40 rfl ?_
        refine j_iload_n K dX3_greatestOf_41 rfl ?_
        refine j_callV _ K (sim_X3_greatest hG hl d p1 p2 (sI r2.1 30 20 (-2147483648)) fp1) dX3_greatestOf_42 rfl rfl q1566 q1568 qs68 q95 q1569 pm_X3_greatest rfl rfl rfl rfl rfl (fun r3 _ => ?_)
        refine j_aload_n K dX3_greatestOf_45 rfl ?_
        refine j_getI (k := 20) K dX3_greatestOf_46 rfl rfl rfl q1276 rfl rfl rfl ?_
        exact j_iret K hr dX3_greatestOf_49
      · refine j_aload_n K dX3_greatestOf_27 rfl ?_
        refine j_iconst (x := 2) K dX3_greatestOf_28 rfl ?_
        refine j_callV _ K (sim_X3_fails hG hl d 2 r2.1 false) dX3_greatestOf_29 rfl rfl q1420 q1422 qs51 q95 q1423 pm_X3_fails rfl rfl rfl rfl rfl (fun r4 _ => ?_)
        exact j_iret K hr dX3_greatestOf_32
    · refine j_aload_n K dX3_greatestOf_13 rfl ?_
      refine j_iconstZ K dX3_greatestOf_14 rfl (Or.inr rfl) ?_
      refine j_callV _ K (sim_X3_fails hG hl d 1 r1.1 true) dX3_greatestOf_15 rfl rfl q1420 q1422 qs51 q95 q1423 pm_X3_fails rfl rfl rfl rfl rfl (fun r5 _ => ?_)
      exact j_iret K hr dX3_greatestOf_18

theorem pm_X3_subtreeHigh : yX3_subtreeHigh.cls = RX3 ∧ yX3_subtreeHigh.cls ≠ "java/lang/invoke/MethodHandle" ∧ yX3_subtreeHigh.cls ≠ "java/lang/invoke/VarHandle" ∧ (parseMethodDescriptor yX3_subtreeHigh.desc).map (fun d => d.parameters.length) = some 1 := by decide +kernel
def f_X3_subtreeHigh (d : Nat) (p1 : Int32) (w : Wd) : Option (Wd × Int32) :=
  match d with
  | 0 => none
  | d + 1 =>
    (f_X3_greatestOf d p1 1 w).bind fun r1 =>
    some (r1.1, r1.2)
theorem sim_X3_subtreeHigh {G : Gx} (hG : GW G) {l : Launch} (hl : l.stackTraces = false) (d : Nat) (p1 : Int32) (w : Wd) (fp1 : Bool) : Mt G true l yX3_subtreeHigh (ws_ yX3_subtreeHigh cX3_subtreeHigh 2 (some .int)) d (rrV G pI) [aR 3 (some 30), aB fp1 p1] w (f_X3_subtreeHigh d p1 w) := by
  refine Mt.of (own := "IntervalTreeModel") hG hl (by decide +kernel) rfl rfl ?_
  intro M hM hr hnm hxt hnd K
  subst hM
  cases d with
  | zero => exact j_none
  | succ d =>
    refine j_aload_n K dX3_subtreeHigh_0 rfl ?_
    refine j_iload_n K dX3_subtreeHigh_1 rfl ?_
    refine j_iconstZ K dX3_subtreeHigh_2 rfl (Or.inr rfl) ?_
    refine j_callV _ K (sim_X3_greatestOf hG hl d p1 1 w fp1) dX3_subtreeHigh_3 rfl rfl q1561 q1563 qs67 q95 q1564 pm_X3_greatestOf rfl rfl rfl rfl rfl (fun r1 _ => ?_)
    exact j_iret K hr dX3_subtreeHigh_6

theorem pm_X3_subtreeWeight : yX3_subtreeWeight.cls = RX3 ∧ yX3_subtreeWeight.cls ≠ "java/lang/invoke/MethodHandle" ∧ yX3_subtreeWeight.cls ≠ "java/lang/invoke/VarHandle" ∧ (parseMethodDescriptor yX3_subtreeWeight.desc).map (fun d => d.parameters.length) = some 1 := by decide +kernel
def f_X3_subtreeWeight (d : Nat) (p1 : Int32) (w : Wd) : Option (Wd × Int32) :=
  match d with
  | 0 => none
  | d + 1 =>
    (f_X3_greatestOf d p1 0 w).bind fun r1 =>
    some (r1.1, r1.2)
theorem sim_X3_subtreeWeight {G : Gx} (hG : GW G) {l : Launch} (hl : l.stackTraces = false) (d : Nat) (p1 : Int32) (w : Wd) (fp1 : Bool) : Mt G true l yX3_subtreeWeight (ws_ yX3_subtreeWeight cX3_subtreeWeight 2 (some .int)) d (rrV G pI) [aR 3 (some 30), aB fp1 p1] w (f_X3_subtreeWeight d p1 w) := by
  refine Mt.of (own := "IntervalTreeModel") hG hl (by decide +kernel) rfl rfl ?_
  intro M hM hr hnm hxt hnd K
  subst hM
  cases d with
  | zero => exact j_none
  | succ d =>
    refine j_aload_n K dX3_subtreeWeight_0 rfl ?_
    refine j_iload_n K dX3_subtreeWeight_1 rfl ?_
    refine j_iconstZ K dX3_subtreeWeight_2 rfl (Or.inl rfl) ?_
    refine j_callV _ K (sim_X3_greatestOf hG hl d p1 0 w fp1) dX3_subtreeWeight_3 rfl rfl q1561 q1563 qs67 q95 q1564 pm_X3_greatestOf rfl rfl rfl rfl rfl (fun r1 _ => ?_)
    exact j_iret K hr dX3_subtreeWeight_6

theorem pm_X3_absorbs : yX3_absorbs.cls = RX3 ∧ yX3_absorbs.cls ≠ "java/lang/invoke/MethodHandle" ∧ yX3_absorbs.cls ≠ "java/lang/invoke/VarHandle" ∧ (parseMethodDescriptor yX3_absorbs.desc).map (fun d => d.parameters.length) = some 1 := by decide +kernel
def b_X3_absorbs_38 (d : Nat) (k13 : Int32 → Int32 → Wd → Option (Wd × Unit)) (x3 : Int32) (s0 : Int32) (w : Wd) : Option (Wd × Unit) :=
  k13 s0 (x3 + 1) w
def b_X3_absorbs_13 (d : Nat) : Nat → Int32 → Int32 → Wd → Option (Wd × Unit)
  | 0, _, _, _ => none
  | n + 1, x2, x3, w =>
    if 8 ≤ x3 then
      some (sI w 30 21 ((ush (gI w 30 21) 8) ^^^ x2), ())
    else
      if (x2 &&& 1) = 1 then
        b_X3_absorbs_38 d (b_X3_absorbs_13 d n) x3 ((ush x2 1) ^^^ (-306674912)) w
      else
        b_X3_absorbs_38 d (b_X3_absorbs_13 d n) x3 (ush x2 1) w
def f_X3_absorbs (d : Nat) (p1 : Int32) (w : Wd) : Option (Wd × Unit) :=
  match d with
  | 0 => none
  | d + 1 =>
    b_X3_absorbs_13 d FU (((gI w 30 21) ^^^ p1) &&& 255) 0 w
theorem sb_X3_absorbs_38 {G : Gx} (hG : GW G) {M : Mx} (hl : (mL M).stackTraces = false) {w0 : Wd} {d : Nat} (K : Cx (G, true, M, 4, w0) cX3_absorbs "IntervalTreeModel" (d + 1)) (hr : (mH M).sig.returnType = none) (hnm : (mH M).name = yX3_absorbs.name) (hxt : ∀ x ∈ (mC M).exceptionTable.toList, False) (hnd : (mS M).methodNamed? yX3_absorbs = some (mM M)) {k13 : Int32 → Int32 → Wd → Option (Wd × Unit)} (hk13 : ∀ (x2 : Int32) (x3 : Int32) (w : Wd) (fx2 : Bool) (fx3 : Bool), Jf (G, true, M, 4, w0) (rrV G pU) (k13 x2 x3 w) w 13 [some (aR 3 (some 30)), none, some (aB fx2 x2), some (aB fx3 x3)] []) : ∀ (x3 : Int32) (s0 : Int32) (w : Wd) (fx3 : Bool) (fs0 : Bool), Jf (G, true, M, 4, w0) (rrV G pU) (b_X3_absorbs_38 d k13 x3 s0 w) w 38 [some (aR 3 (some 30)), none, none, some (aB fx3 x3)] [aB fs0 s0] := by
  intro x3 s0 w fx3 fs0
  refine j_istore_n K dX3_absorbs_38 rfl rfl ?_
  refine j_iinc (y := 1) K dX3_absorbs_39 rfl rfl rfl rfl ?_
  refine j_goto 13 K dX3_absorbs_42 (by decide) ?_
  exact j_wk (hk13 _ _ _ _ _) ⟨rfl, rfl, rfl, trivial⟩
theorem sb_X3_absorbs_13 {G : Gx} (hG : GW G) {M : Mx} (hl : (mL M).stackTraces = false) {w0 : Wd} {d : Nat} (K : Cx (G, true, M, 4, w0) cX3_absorbs "IntervalTreeModel" (d + 1)) (hr : (mH M).sig.returnType = none) (hnm : (mH M).name = yX3_absorbs.name) (hxt : ∀ x ∈ (mC M).exceptionTable.toList, False) (hnd : (mS M).methodNamed? yX3_absorbs = some (mM M)) : ∀ (n : Nat), ∀ (x2 : Int32) (x3 : Int32) (w : Wd) (fx2 : Bool) (fx3 : Bool), Jf (G, true, M, 4, w0) (rrV G pU) (b_X3_absorbs_13 d n x2 x3 w) w 13 [some (aR 3 (some 30)), none, some (aB fx2 x2), some (aB fx3 x3)] [] := by
  intro n
  induction n with
  | zero => intros; exact j_none
  | succ n ih =>
    intro x2 x3 w fx2 fx3
    refine j_iload_n K dX3_absorbs_13 rfl ?_
    refine j_bipush (x := 8) K dX3_absorbs_14 (by decide +kernel) ?_
    refine j_icmp_ge 45 K dX3_absorbs_16 (by decide) ?_ ?_
    · refine j_aload_n K dX3_absorbs_45 rfl ?_
      refine j_aload_n K dX3_absorbs_46 rfl ?_
      refine j_getI (k := 21) K dX3_absorbs_47 rfl rfl rfl q1277 rfl rfl rfl ?_
      refine j_bipush (x := 8) K dX3_absorbs_50 (by decide +kernel) ?_
      refine j_iushr K dX3_absorbs_52 ?_
      refine j_iload_n K dX3_absorbs_53 rfl ?_
      refine j_ixor K dX3_absorbs_54 ?_
      refine j_putI (k := 21) K dX3_absorbs_55 rfl rfl q1277 rfl (Or.inl rfl) rfl rfl rfl rfl ?_
      exact j_vret K hr dX3_absorbs_58
    · refine j_iload_n K dX3_absorbs_19 rfl ?_
      refine j_iconstZ K dX3_absorbs_20 rfl (Or.inr rfl) ?_
      refine j_iand K dX3_absorbs_21 ?_
      refine j_iconstZ K dX3_absorbs_22 rfl (Or.inr rfl) ?_
      refine j_icmp_ne 35 K dX3_absorbs_23 (by decide) ?_ ?_
      · refine j_iload_n K dX3_absorbs_35 rfl ?_
        refine j_iconstZ K dX3_absorbs_36 rfl (Or.inr rfl) ?_
        refine j_iushr K dX3_absorbs_37 ?_
        exact j_wk (sb_X3_absorbs_38 hG hl K hr hnm hxt hnd ih _ _ _ _ _) ⟨rfl, rfl, trivial⟩
      · refine j_iload_n K dX3_absorbs_26 rfl ?_
        refine j_iconstZ K dX3_absorbs_27 rfl (Or.inr rfl) ?_
        refine j_iushr K dX3_absorbs_28 ?_
        refine j_ldc (x := (-306674912)) K dX3_absorbs_29 q1586 ?_
        refine j_ixor K dX3_absorbs_31 ?_
        refine j_goto 38 K dX3_absorbs_32 (by decide) ?_
        exact j_wk (sb_X3_absorbs_38 hG hl K hr hnm hxt hnd ih _ _ _ _ _) ⟨rfl, rfl, trivial⟩
theorem sim_X3_absorbs {G : Gx} (hG : GW G) {l : Launch} (hl : l.stackTraces = false) (d : Nat) (p1 : Int32) (w : Wd) (fp1 : Bool) : Mt G true l yX3_absorbs (ws_ yX3_absorbs cX3_absorbs 4 (none)) d (rrV G pU) [aR 3 (some 30), aB fp1 p1] w (f_X3_absorbs d p1 w) := by
  refine Mt.of (own := "IntervalTreeModel") hG hl (by decide +kernel) rfl rfl ?_
  intro M hM hr hnm hxt hnd K
  subst hM
  cases d with
  | zero => exact j_none
  | succ d =>
    refine j_aload_n K dX3_absorbs_0 rfl ?_
    refine j_getI (k := 21) K dX3_absorbs_1 rfl rfl rfl q1277 rfl rfl rfl ?_
    refine j_iload_n K dX3_absorbs_4 rfl ?_
    refine j_ixor K dX3_absorbs_5 ?_
    refine j_sipush (x := 255) K dX3_absorbs_6 (by decide +kernel) ?_
    refine j_iand K dX3_absorbs_9 ?_
    refine j_istore_n K dX3_absorbs_10 rfl rfl ?_
    refine j_iconstZ K dX3_absorbs_11 rfl (Or.inl rfl) ?_
    refine j_istore_n K dX3_absorbs_12 rfl rfl ?_
    exact j_wk (sb_X3_absorbs_13 hG hl K hr hnm hxt hnd FU _ _ _ _ _) ⟨rfl, rfl, rfl, trivial⟩

theorem pm_X3_visits : yX3_visits.cls = RX3 ∧ yX3_visits.cls ≠ "java/lang/invoke/MethodHandle" ∧ yX3_visits.cls ≠ "java/lang/invoke/VarHandle" ∧ (parseMethodDescriptor yX3_visits.desc).map (fun d => d.parameters.length) = some 1 := by decide +kernel
def b_X3_visits_58 (d : Nat) (g_X3_visits : Int32 → Wd → Option (Wd × Unit)) (x1 : Int32) (s1 : Int32) (w : Wd) : Option (Wd × Unit) :=
  (f_X3_absorbs d s1 w).bind fun r6 =>
  if ib x1 500 = true then
    (g_X3_visits (gI r6.1 35 x1.toNatClampNeg) r6.1).bind fun r8 =>
    (g_X3_visits (gI r8.1 36 x1.toNatClampNeg) r8.1).bind fun r9 =>
    some (r9.1, ())
  else none
def b_X3_visits_39 (d : Nat) (g_X3_visits : Int32 → Wd → Option (Wd × Unit)) (x1 : Int32) (s1 : Int32) (w : Wd) : Option (Wd × Unit) :=
  (f_X3_absorbs d s1 w).bind fun r4 =>
  if ib x1 500 = true then
    if (gI r4.1 34 x1.toNatClampNeg) = 1 then
      b_X3_visits_58 d g_X3_visits x1 1 r4.1
    else
      b_X3_visits_58 d g_X3_visits x1 0 r4.1
  else none
def fB_X3_visits (d : Nat) (g_X3_visits : Int32 → Wd → Option (Wd × Unit)) (p1 : Int32) (w : Wd) : Option (Wd × Unit) :=
  if p1 = (-1) then
    some (w, ())
  else
    (f_X3_absorbs d (p1 - p1 / 256 * 256) w).bind fun r1 =>
    (f_X3_absorbs d (p1 / 256) r1.1).bind fun r2 =>
    if ib p1 500 = true then
      if (gI r2.1 38 p1.toNatClampNeg) = 0 then
        b_X3_visits_39 d g_X3_visits p1 0 r2.1
      else
        b_X3_visits_39 d g_X3_visits p1 1 r2.1
    else none
theorem sb_X3_visits_58 {G : Gx} (hG : GW G) {M : Mx} (hl : (mL M).stackTraces = false) {w0 : Wd} {d : Nat} (K : Cx (G, true, M, 2, w0) cX3_visits "IntervalTreeModel" (d + 1)) (hr : (mH M).sig.returnType = none) (hnm : (mH M).name = yX3_visits.name) (hxt : ∀ x ∈ (mC M).exceptionTable.toList, False) (hnd : (mS M).methodNamed? yX3_visits = some (mM M)) {g_X3_visits : Int32 → Wd → Option (Wd × Unit)} (hg_X3_visits : ∀ (p1 : Int32) (w : Wd) (fp1 : Bool), Mt G true (mL M) yX3_visits (ws_ yX3_visits cX3_visits 2 (none)) d (rrV G pU) [aR 3 (some 30), aB fp1 p1] w (g_X3_visits p1 w)) : ∀ (x1 : Int32) (s1 : Int32) (w : Wd) (fx1 : Bool), Jf (G, true, M, 2, w0) (rrV G pU) (b_X3_visits_58 d g_X3_visits x1 s1 w) w 58 [some (aR 3 (some 30)), some (aB fx1 x1)] [aB true s1, aR 3 (some 30)] := by
  intro x1 s1 w fx1
  refine j_callV _ K (sim_X3_absorbs hG hl d s1 w true) dX3_visits_58 rfl rfl q1582 q1584 qs70 q95 q1585 pm_X3_absorbs rfl rfl rfl rfl rfl (fun r6 _ => ?_)
  refine j_aload_n K dX3_visits_61 rfl ?_
  refine j_aload_n K dX3_visits_62 rfl ?_
  refine j_getA (k := 5) 19 K dX3_visits_63 rfl rfl rfl q1261 rfl rfl (by decide) rfl rfl rfl ?_
  refine j_iload_n K dX3_visits_66 rfl ?_
  refine j_ib (fun hi7 => ?_)
  refine j_ial K dX3_visits_67 rfl (fxLen 19 rfl rfl) hi7 ?_
  refine j_callV _ K (hg_X3_visits (gI r6.1 35 x1.toNatClampNeg) r6.1 false) dX3_visits_68 rfl rfl q1578 q1580 qs69 q95 q1581 pm_X3_visits rfl rfl rfl rfl rfl (fun r8 _ => ?_)
  refine j_aload_n K dX3_visits_71 rfl ?_
  refine j_aload_n K dX3_visits_72 rfl ?_
  refine j_getA (k := 6) 20 K dX3_visits_73 rfl rfl rfl q1262 rfl rfl (by decide) rfl rfl rfl ?_
  refine j_iload_n K dX3_visits_76 rfl ?_
  refine j_ial K dX3_visits_77 rfl (fxLen 20 rfl rfl) hi7 ?_
  refine j_callV _ K (hg_X3_visits (gI r8.1 36 x1.toNatClampNeg) r8.1 false) dX3_visits_78 rfl rfl q1578 q1580 qs69 q95 q1581 pm_X3_visits rfl rfl rfl rfl rfl (fun r9 _ => ?_)
  exact j_vret K hr dX3_visits_81
theorem sb_X3_visits_39 {G : Gx} (hG : GW G) {M : Mx} (hl : (mL M).stackTraces = false) {w0 : Wd} {d : Nat} (K : Cx (G, true, M, 2, w0) cX3_visits "IntervalTreeModel" (d + 1)) (hr : (mH M).sig.returnType = none) (hnm : (mH M).name = yX3_visits.name) (hxt : ∀ x ∈ (mC M).exceptionTable.toList, False) (hnd : (mS M).methodNamed? yX3_visits = some (mM M)) {g_X3_visits : Int32 → Wd → Option (Wd × Unit)} (hg_X3_visits : ∀ (p1 : Int32) (w : Wd) (fp1 : Bool), Mt G true (mL M) yX3_visits (ws_ yX3_visits cX3_visits 2 (none)) d (rrV G pU) [aR 3 (some 30), aB fp1 p1] w (g_X3_visits p1 w)) : ∀ (x1 : Int32) (s1 : Int32) (w : Wd) (fx1 : Bool), Jf (G, true, M, 2, w0) (rrV G pU) (b_X3_visits_39 d g_X3_visits x1 s1 w) w 39 [some (aR 3 (some 30)), some (aB fx1 x1)] [aB true s1, aR 3 (some 30)] := by
  intro x1 s1 w fx1
  refine j_callV _ K (sim_X3_absorbs hG hl d s1 w true) dX3_visits_39 rfl rfl q1582 q1584 qs70 q95 q1585 pm_X3_absorbs rfl rfl rfl rfl rfl (fun r4 _ => ?_)
  refine j_aload_n K dX3_visits_42 rfl ?_
  refine j_aload_n K dX3_visits_43 rfl ?_
  refine j_getA (k := 4) 18 K dX3_visits_44 rfl rfl rfl q1260 rfl rfl (by decide) rfl rfl rfl ?_
  refine j_iload_n K dX3_visits_47 rfl ?_
  refine j_ib (fun hi5 => ?_)
  refine j_ial K dX3_visits_48 rfl (fxLen 18 rfl rfl) hi5 ?_
  refine j_iconstZ K dX3_visits_49 rfl (Or.inr rfl) ?_
  refine j_icmp_ne 57 K dX3_visits_50 (by decide) ?_ ?_
  · refine j_iconstZ K dX3_visits_57 rfl (Or.inl rfl) ?_
    exact sb_X3_visits_58 hG hl K hr hnm hxt hnd hg_X3_visits _ _ _ _
  · refine j_iconstZ K dX3_visits_53 rfl (Or.inr rfl) ?_
    refine j_goto 58 K dX3_visits_54 (by decide) ?_
    exact sb_X3_visits_58 hG hl K hr hnm hxt hnd hg_X3_visits _ _ _ _
theorem simB_X3_visits {G : Gx} (hG : GW G) {l : Launch} (hl : l.stackTraces = false) (d : Nat) {g_X3_visits : Int32 → Wd → Option (Wd × Unit)} (hg_X3_visits : ∀ (p1 : Int32) (w : Wd) (fp1 : Bool), Mt G true l yX3_visits (ws_ yX3_visits cX3_visits 2 (none)) d (rrV G pU) [aR 3 (some 30), aB fp1 p1] w (g_X3_visits p1 w)) (p1 : Int32) (w : Wd) (fp1 : Bool) : Mt G true l yX3_visits (ws_ yX3_visits cX3_visits 2 (none)) (d + 1) (rrV G pU) [aR 3 (some 30), aB fp1 p1] w (fB_X3_visits d g_X3_visits p1 w) := by
  refine Mt.of (own := "IntervalTreeModel") hG hl (by decide +kernel) rfl rfl ?_
  intro M hM hr hnm hxt hnd K
  subst hM
  refine j_iload_n K dX3_visits_0 rfl ?_
  refine j_iconst (x := (-1)) K dX3_visits_1 rfl ?_
  refine j_icmp_ne 6 K dX3_visits_2 (by decide) ?_ ?_
  · refine j_aload_n K dX3_visits_6 rfl ?_
    refine j_iload_n K dX3_visits_7 rfl ?_
    refine j_sipush (x := 256) K dX3_visits_8 (by decide +kernel) ?_
    refine j_irem K dX3_visits_11 (by decide) ?_
    refine j_callV _ K (sim_X3_absorbs hG hl d (p1 - p1 / 256 * 256) w false) dX3_visits_12 rfl rfl q1582 q1584 qs70 q95 q1585 pm_X3_absorbs rfl rfl rfl rfl rfl (fun r1 _ => ?_)
    refine j_aload_n K dX3_visits_15 rfl ?_
    refine j_iload_n K dX3_visits_16 rfl ?_
    refine j_sipush (x := 256) K dX3_visits_17 (by decide +kernel) ?_
    refine j_idiv K dX3_visits_20 (by decide) ?_
    refine j_callV _ K (sim_X3_absorbs hG hl d (p1 / 256) r1.1 false) dX3_visits_21 rfl rfl q1582 q1584 qs70 q95 q1585 pm_X3_absorbs rfl rfl rfl rfl rfl (fun r2 _ => ?_)
    refine j_aload_n K dX3_visits_24 rfl ?_
    refine j_aload_n K dX3_visits_25 rfl ?_
    refine j_getA (k := 8) 22 K dX3_visits_26 rfl rfl rfl q1264 rfl rfl (by decide) rfl rfl rfl ?_
    refine j_iload_n K dX3_visits_29 rfl ?_
    refine j_ib (fun hi3 => ?_)
    refine j_zal K dX3_visits_30 rfl (fxLen 22 rfl rfl) hi3 ?_
    refine j_if_eq 38 K dX3_visits_31 (by decide) ?_ ?_
    · refine j_iconstZ K dX3_visits_38 rfl (Or.inl rfl) ?_
      exact sb_X3_visits_39 hG hl K hr hnm hxt hnd hg_X3_visits _ _ _ _
    · refine j_iconstZ K dX3_visits_34 rfl (Or.inr rfl) ?_
      refine j_goto 39 K dX3_visits_35 (by decide) ?_
      exact sb_X3_visits_39 hG hl K hr hnm hxt hnd hg_X3_visits _ _ _ _
  · exact j_vret K hr dX3_visits_5
def f_X3_visits : Nat → Int32 → Wd → Option (Wd × Unit)
  | 0 => fun _ _ => none
  | d + 1 => fB_X3_visits d (f_X3_visits d)
theorem sim_X3_visits {G : Gx} (hG : GW G) {l : Launch} (hl : l.stackTraces = false) : ∀ (d : Nat) (p1 : Int32) (w : Wd) (fp1 : Bool), Mt G true l yX3_visits (ws_ yX3_visits cX3_visits 2 (none)) d (rrV G pU) [aR 3 (some 30), aB fp1 p1] w (f_X3_visits d p1 w) := by
  intro d
  induction d with
  | zero => intros; exact fun _ h => by cases h
  | succ d ih => exact simB_X3_visits hG hl d ih

theorem pm_X3_digest : yX3_digest.cls = RX3 ∧ yX3_digest.cls ≠ "java/lang/invoke/MethodHandle" ∧ yX3_digest.cls ≠ "java/lang/invoke/VarHandle" ∧ (parseMethodDescriptor yX3_digest.desc).map (fun d => d.parameters.length) = some 0 := by decide +kernel
def f_X3_digest (d : Nat) (w : Wd) : Option (Wd × Int32) :=
  match d with
  | 0 => none
  | d + 1 =>
    (f_X3_visits d (gI (sI w 30 21 (-1)) 30 9) (sI w 30 21 (-1))).bind fun r1 =>
    some (r1.1, (gI r1.1 30 21))
theorem sim_X3_digest {G : Gx} (hG : GW G) {l : Launch} (hl : l.stackTraces = false) (d : Nat) (w : Wd) : Mt G true l yX3_digest (ws_ yX3_digest cX3_digest 1 (some .int)) d (rrV G pI) [aR 3 (some 30)] w (f_X3_digest d w) := by
  refine Mt.of (own := "IntervalTreeModel") hG hl (by decide +kernel) rfl rfl ?_
  intro M hM hr hnm hxt hnd K
  subst hM
  cases d with
  | zero => exact j_none
  | succ d =>
    refine j_aload_n K dX3_digest_0 rfl ?_
    refine j_iconst (x := (-1)) K dX3_digest_1 rfl ?_
    refine j_putI (k := 21) K dX3_digest_2 rfl rfl q1277 rfl (Or.inl rfl) rfl rfl rfl rfl ?_
    refine j_aload_n K dX3_digest_5 rfl ?_
    refine j_aload_n K dX3_digest_6 rfl ?_
    refine j_getI (k := 9) K dX3_digest_7 rfl rfl rfl q1265 rfl rfl rfl ?_
    refine j_callV _ K (sim_X3_visits hG hl d (gI (sI w 30 21 (-1)) 30 9) (sI w 30 21 (-1)) false) dX3_digest_10 rfl rfl q1578 q1580 qs69 q95 q1581 pm_X3_visits rfl rfl rfl rfl rfl (fun r1 _ => ?_)
    refine j_aload_n K dX3_digest_13 rfl ?_
    refine j_getI (k := 21) K dX3_digest_14 rfl rfl rfl q1277 rfl rfl rfl ?_
    exact j_iret K hr dX3_digest_17

theorem pm_X3_overlaps : yX3_overlaps.cls = RX3 ∧ yX3_overlaps.cls ≠ "java/lang/invoke/MethodHandle" ∧ yX3_overlaps.cls ≠ "java/lang/invoke/VarHandle" ∧ (parseMethodDescriptor yX3_overlaps.desc).map (fun d => d.parameters.length) = some 3 := by decide +kernel
def f_X3_overlaps (d : Nat) (p1 : Int32) (p2 : Int32) (p3 : Int32) (w : Wd) : Option (Wd × Int32) :=
  match d with
  | 0 => none
  | d + 1 =>
    if ib p1 500 = true then
      if p3 < (gI w 31 p1.toNatClampNeg) then
        some (w, 0)
      else
        if (gI w 32 p1.toNatClampNeg) < p2 then
          some (w, 0)
        else
          some (w, 1)
    else none
theorem sim_X3_overlaps {G : Gx} (hG : GW G) {l : Launch} (hl : l.stackTraces = false) (d : Nat) (p1 : Int32) (p2 : Int32) (p3 : Int32) (w : Wd) (fp1 : Bool) (fp2 : Bool) (fp3 : Bool) : Mt G true l yX3_overlaps (ws_ yX3_overlaps cX3_overlaps 4 (some .boolean)) d (rrV G pZ) [aR 3 (some 30), aB fp1 p1, aB fp2 p2, aB fp3 p3] w (f_X3_overlaps d p1 p2 p3 w) := by
  refine Mt.of (own := "IntervalTreeModel") hG hl (by decide +kernel) rfl rfl ?_
  intro M hM hr hnm hxt hnd K
  subst hM
  cases d with
  | zero => exact j_none
  | succ d =>
    refine j_aload_n K dX3_overlaps_0 rfl ?_
    refine j_getA (k := 1) 15 K dX3_overlaps_1 rfl rfl rfl q1257 rfl rfl (by decide) rfl rfl rfl ?_
    refine j_iload_n K dX3_overlaps_4 rfl ?_
    refine j_ib (fun hi1 => ?_)
    refine j_ial K dX3_overlaps_5 rfl (fxLen 15 rfl rfl) hi1 ?_
    refine j_iload_n K dX3_overlaps_6 rfl ?_
    refine j_icmp_gt 24 K dX3_overlaps_7 (by decide) ?_ ?_
    · refine j_iconstZ K dX3_overlaps_24 rfl (Or.inl rfl) ?_
      exact j_zret K hr dX3_overlaps_25
    · refine j_iload_n K dX3_overlaps_10 rfl ?_
      refine j_aload_n K dX3_overlaps_11 rfl ?_
      refine j_getA (k := 2) 16 K dX3_overlaps_12 rfl rfl rfl q1258 rfl rfl (by decide) rfl rfl rfl ?_
      refine j_iload_n K dX3_overlaps_15 rfl ?_
      refine j_ial K dX3_overlaps_16 rfl (fxLen 16 rfl rfl) hi1 ?_
      refine j_icmp_gt 24 K dX3_overlaps_17 (by decide) ?_ ?_
      · refine j_iconstZ K dX3_overlaps_24 rfl (Or.inl rfl) ?_
        exact j_zret K hr dX3_overlaps_25
      · refine j_iconstZ K dX3_overlaps_20 rfl (Or.inr rfl) ?_
        refine j_goto 25 K dX3_overlaps_21 (by decide) ?_
        exact j_zret K hr dX3_overlaps_25

theorem pm_X3_stabCount : yX3_stabCount.cls = RX3 ∧ yX3_stabCount.cls ≠ "java/lang/invoke/MethodHandle" ∧ yX3_stabCount.cls ≠ "java/lang/invoke/VarHandle" ∧ (parseMethodDescriptor yX3_stabCount.desc).map (fun d => d.parameters.length) = some 1 := by decide +kernel
def b_X3_stabCount_37 (d : Nat) (k4 : Int32 → Int32 → Int32 → Wd → Option (Wd × Int32)) (x1 : Int32) (x3 : Int32) (s0 : Int32) (s1 : Int32) (w : Wd) : Option (Wd × Int32) :=
  k4 x1 (s0 + s1) (x3 + 1) w
def b_X3_stabCount_36 (d : Nat) (k4 : Int32 → Int32 → Int32 → Wd → Option (Wd × Int32)) (x1 : Int32) (x3 : Int32) (s0 : Int32) (w : Wd) : Option (Wd × Int32) :=
  b_X3_stabCount_37 d k4 x1 x3 s0 0 w
def b_X3_stabCount_4 (d : Nat) : Nat → Int32 → Int32 → Int32 → Wd → Option (Wd × Int32)
  | 0, _, _, _, _ => none
  | n + 1, x1, x2, x3, w =>
    if (gI w 30 10) ≤ x3 then
      some (w, x2)
    else
      if ib x3 500 = true then
        if (gI w 34 x3.toNatClampNeg) = 0 then
          (f_X3_overlaps d x3 x1 x1 w).bind fun r2 =>
          if r2.2 = 0 then
            b_X3_stabCount_36 d (b_X3_stabCount_4 d n) x1 x3 x2 r2.1
          else
            b_X3_stabCount_37 d (b_X3_stabCount_4 d n) x1 x3 x2 1 r2.1
        else
          b_X3_stabCount_36 d (b_X3_stabCount_4 d n) x1 x3 x2 w
      else none
def f_X3_stabCount (d : Nat) (p1 : Int32) (w : Wd) : Option (Wd × Int32) :=
  match d with
  | 0 => none
  | d + 1 =>
    b_X3_stabCount_4 d FU p1 0 0 w
theorem sb_X3_stabCount_37 {G : Gx} (hG : GW G) {M : Mx} (hl : (mL M).stackTraces = false) {w0 : Wd} {d : Nat} (K : Cx (G, true, M, 4, w0) cX3_stabCount "IntervalTreeModel" (d + 1)) (hr : (mH M).sig.returnType = some .int) (hnm : (mH M).name = yX3_stabCount.name) (hxt : ∀ x ∈ (mC M).exceptionTable.toList, False) (hnd : (mS M).methodNamed? yX3_stabCount = some (mM M)) {k4 : Int32 → Int32 → Int32 → Wd → Option (Wd × Int32)} (hk4 : ∀ (x1 : Int32) (x2 : Int32) (x3 : Int32) (w : Wd) (fx1 : Bool) (fx2 : Bool) (fx3 : Bool), Jf (G, true, M, 4, w0) (rrV G pI) (k4 x1 x2 x3 w) w 4 [some (aR 3 (some 30)), some (aB fx1 x1), some (aB fx2 x2), some (aB fx3 x3)] []) : ∀ (x1 : Int32) (x3 : Int32) (s0 : Int32) (s1 : Int32) (w : Wd) (fx1 : Bool) (fx3 : Bool) (fs0 : Bool), Jf (G, true, M, 4, w0) (rrV G pI) (b_X3_stabCount_37 d k4 x1 x3 s0 s1 w) w 37 [some (aR 3 (some 30)), some (aB fx1 x1), none, some (aB fx3 x3)] [aB true s1, aB fs0 s0] := by
  intro x1 x3 s0 s1 w fx1 fx3 fs0
  refine j_iadd K dX3_stabCount_37 ?_
  refine j_istore_n K dX3_stabCount_38 rfl rfl ?_
  refine j_iinc (y := 1) K dX3_stabCount_39 rfl rfl rfl rfl ?_
  refine j_goto 4 K dX3_stabCount_42 (by decide) ?_
  exact hk4 _ _ _ _ _ _ _
theorem sb_X3_stabCount_36 {G : Gx} (hG : GW G) {M : Mx} (hl : (mL M).stackTraces = false) {w0 : Wd} {d : Nat} (K : Cx (G, true, M, 4, w0) cX3_stabCount "IntervalTreeModel" (d + 1)) (hr : (mH M).sig.returnType = some .int) (hnm : (mH M).name = yX3_stabCount.name) (hxt : ∀ x ∈ (mC M).exceptionTable.toList, False) (hnd : (mS M).methodNamed? yX3_stabCount = some (mM M)) {k4 : Int32 → Int32 → Int32 → Wd → Option (Wd × Int32)} (hk4 : ∀ (x1 : Int32) (x2 : Int32) (x3 : Int32) (w : Wd) (fx1 : Bool) (fx2 : Bool) (fx3 : Bool), Jf (G, true, M, 4, w0) (rrV G pI) (k4 x1 x2 x3 w) w 4 [some (aR 3 (some 30)), some (aB fx1 x1), some (aB fx2 x2), some (aB fx3 x3)] []) : ∀ (x1 : Int32) (x3 : Int32) (s0 : Int32) (w : Wd) (fx1 : Bool) (fx3 : Bool) (fs0 : Bool), Jf (G, true, M, 4, w0) (rrV G pI) (b_X3_stabCount_36 d k4 x1 x3 s0 w) w 36 [some (aR 3 (some 30)), some (aB fx1 x1), none, some (aB fx3 x3)] [aB fs0 s0] := by
  intro x1 x3 s0 w fx1 fx3 fs0
  refine j_iconstZ K dX3_stabCount_36 rfl (Or.inl rfl) ?_
  exact j_wk (sb_X3_stabCount_37 hG hl K hr hnm hxt hnd hk4 _ _ _ _ _ _ _ _) ⟨rfl, rfl, rfl, trivial⟩
theorem sb_X3_stabCount_4 {G : Gx} (hG : GW G) {M : Mx} (hl : (mL M).stackTraces = false) {w0 : Wd} {d : Nat} (K : Cx (G, true, M, 4, w0) cX3_stabCount "IntervalTreeModel" (d + 1)) (hr : (mH M).sig.returnType = some .int) (hnm : (mH M).name = yX3_stabCount.name) (hxt : ∀ x ∈ (mC M).exceptionTable.toList, False) (hnd : (mS M).methodNamed? yX3_stabCount = some (mM M)) : ∀ (n : Nat), ∀ (x1 : Int32) (x2 : Int32) (x3 : Int32) (w : Wd) (fx1 : Bool) (fx2 : Bool) (fx3 : Bool), Jf (G, true, M, 4, w0) (rrV G pI) (b_X3_stabCount_4 d n x1 x2 x3 w) w 4 [some (aR 3 (some 30)), some (aB fx1 x1), some (aB fx2 x2), some (aB fx3 x3)] [] := by
  intro n
  induction n with
  | zero => intros; exact j_none
  | succ n ih =>
    intro x1 x2 x3 w fx1 fx2 fx3
    refine j_iload_n K dX3_stabCount_4 rfl ?_
    refine j_aload_n K dX3_stabCount_5 rfl ?_
    refine j_getI (k := 10) K dX3_stabCount_6 rfl rfl rfl q1266 rfl rfl rfl ?_
    refine j_icmp_ge 45 K dX3_stabCount_9 (by decide) ?_ ?_
    · refine j_iload_n K dX3_stabCount_45 rfl ?_
      exact j_iret K hr dX3_stabCount_46
    · refine j_iload_n K dX3_stabCount_12 rfl ?_
      refine j_aload_n K dX3_stabCount_13 rfl ?_
      refine j_getA (k := 4) 18 K dX3_stabCount_14 rfl rfl rfl q1260 rfl rfl (by decide) rfl rfl rfl ?_
      refine j_iload_n K dX3_stabCount_17 rfl ?_
      refine j_ib (fun hi1 => ?_)
      refine j_ial K dX3_stabCount_18 rfl (fxLen 18 rfl rfl) hi1 ?_
      refine j_if_ne 36 K dX3_stabCount_19 (by decide) ?_ ?_
      · exact j_wk (sb_X3_stabCount_36 hG hl K hr hnm hxt hnd ih _ _ _ _ _ _ _) ⟨rfl, rfl, rfl, trivial⟩
      · refine j_aload_n K dX3_stabCount_22 rfl ?_
        refine j_iload_n K dX3_stabCount_23 rfl ?_
        refine j_iload_n K dX3_stabCount_24 rfl ?_
        refine j_iload_n K dX3_stabCount_25 rfl ?_
        refine j_callV _ K (sim_X3_overlaps hG hl d x3 x1 x1 w fx3 fx1 fx1) dX3_stabCount_26 rfl rfl q1591 q1593 qs71 q95 q1594 pm_X3_overlaps rfl rfl rfl rfl rfl (fun r2 _ => ?_)
        refine j_if_eq 36 K dX3_stabCount_29 (by decide) ?_ ?_
        · exact j_wk (sb_X3_stabCount_36 hG hl K hr hnm hxt hnd ih _ _ _ _ _ _ _) ⟨rfl, rfl, rfl, trivial⟩
        · refine j_iconstZ K dX3_stabCount_32 rfl (Or.inr rfl) ?_
          refine j_goto 37 K dX3_stabCount_33 (by decide) ?_
          exact j_wk (sb_X3_stabCount_37 hG hl K hr hnm hxt hnd ih _ _ _ _ _ _ _ _) ⟨rfl, rfl, rfl, trivial⟩
theorem sim_X3_stabCount {G : Gx} (hG : GW G) {l : Launch} (hl : l.stackTraces = false) (d : Nat) (p1 : Int32) (w : Wd) (fp1 : Bool) : Mt G true l yX3_stabCount (ws_ yX3_stabCount cX3_stabCount 4 (some .int)) d (rrV G pI) [aR 3 (some 30), aB fp1 p1] w (f_X3_stabCount d p1 w) := by
  refine Mt.of (own := "IntervalTreeModel") hG hl (by decide +kernel) rfl rfl ?_
  intro M hM hr hnm hxt hnd K
  subst hM
  cases d with
  | zero => exact j_none
  | succ d =>
    refine j_iconstZ K dX3_stabCount_0 rfl (Or.inl rfl) ?_
    refine j_istore_n K dX3_stabCount_1 rfl rfl ?_
    refine j_iconstZ K dX3_stabCount_2 rfl (Or.inl rfl) ?_
    refine j_istore_n K dX3_stabCount_3 rfl rfl ?_
    exact sb_X3_stabCount_4 hG hl K hr hnm hxt hnd FU _ _ _ _ _ _ _

theorem pm_X3_stabWeight : yX3_stabWeight.cls = RX3 ∧ yX3_stabWeight.cls ≠ "java/lang/invoke/MethodHandle" ∧ yX3_stabWeight.cls ≠ "java/lang/invoke/VarHandle" ∧ (parseMethodDescriptor yX3_stabWeight.desc).map (fun d => d.parameters.length) = some 1 := by decide +kernel
def b_X3_stabWeight_42 (d : Nat) (k4 : Int32 → Int32 → Int32 → Wd → Option (Wd × Int32)) (x1 : Int32) (x3 : Int32) (s0 : Int32) (s1 : Int32) (w : Wd) : Option (Wd × Int32) :=
  k4 x1 (s0 + s1) (x3 + 1) w
def b_X3_stabWeight_41 (d : Nat) (k4 : Int32 → Int32 → Int32 → Wd → Option (Wd × Int32)) (x1 : Int32) (x3 : Int32) (s0 : Int32) (w : Wd) : Option (Wd × Int32) :=
  b_X3_stabWeight_42 d k4 x1 x3 s0 0 w
def b_X3_stabWeight_4 (d : Nat) : Nat → Int32 → Int32 → Int32 → Wd → Option (Wd × Int32)
  | 0, _, _, _, _ => none
  | n + 1, x1, x2, x3, w =>
    if (gI w 30 10) ≤ x3 then
      some (w, x2)
    else
      if ib x3 500 = true then
        if (gI w 34 x3.toNatClampNeg) = 0 then
          (f_X3_overlaps d x3 x1 x1 w).bind fun r2 =>
          if r2.2 = 0 then
            b_X3_stabWeight_41 d (b_X3_stabWeight_4 d n) x1 x3 x2 r2.1
          else
            b_X3_stabWeight_42 d (b_X3_stabWeight_4 d n) x1 x3 x2 (gI r2.1 33 x3.toNatClampNeg) r2.1
        else
          b_X3_stabWeight_41 d (b_X3_stabWeight_4 d n) x1 x3 x2 w
      else none
def f_X3_stabWeight (d : Nat) (p1 : Int32) (w : Wd) : Option (Wd × Int32) :=
  match d with
  | 0 => none
  | d + 1 =>
    b_X3_stabWeight_4 d FU p1 0 0 w
theorem sb_X3_stabWeight_42 {G : Gx} (hG : GW G) {M : Mx} (hl : (mL M).stackTraces = false) {w0 : Wd} {d : Nat} (K : Cx (G, true, M, 4, w0) cX3_stabWeight "IntervalTreeModel" (d + 1)) (hr : (mH M).sig.returnType = some .int) (hnm : (mH M).name = yX3_stabWeight.name) (hxt : ∀ x ∈ (mC M).exceptionTable.toList, False) (hnd : (mS M).methodNamed? yX3_stabWeight = some (mM M)) {k4 : Int32 → Int32 → Int32 → Wd → Option (Wd × Int32)} (hk4 : ∀ (x1 : Int32) (x2 : Int32) (x3 : Int32) (w : Wd) (fx1 : Bool) (fx2 : Bool) (fx3 : Bool), Jf (G, true, M, 4, w0) (rrV G pI) (k4 x1 x2 x3 w) w 4 [some (aR 3 (some 30)), some (aB fx1 x1), some (aB fx2 x2), some (aB fx3 x3)] []) : ∀ (x1 : Int32) (x3 : Int32) (s0 : Int32) (s1 : Int32) (w : Wd) (fx1 : Bool) (fx3 : Bool) (fs0 : Bool) (fs1 : Bool), Jf (G, true, M, 4, w0) (rrV G pI) (b_X3_stabWeight_42 d k4 x1 x3 s0 s1 w) w 42 [some (aR 3 (some 30)), some (aB fx1 x1), none, some (aB fx3 x3)] [aB fs1 s1, aB fs0 s0] := by
  intro x1 x3 s0 s1 w fx1 fx3 fs0 fs1
  refine j_iadd K dX3_stabWeight_42 ?_
  refine j_istore_n K dX3_stabWeight_43 rfl rfl ?_
  refine j_iinc (y := 1) K dX3_stabWeight_44 rfl rfl rfl rfl ?_
  refine j_goto 4 K dX3_stabWeight_47 (by decide) ?_
  exact hk4 _ _ _ _ _ _ _
theorem sb_X3_stabWeight_41 {G : Gx} (hG : GW G) {M : Mx} (hl : (mL M).stackTraces = false) {w0 : Wd} {d : Nat} (K : Cx (G, true, M, 4, w0) cX3_stabWeight "IntervalTreeModel" (d + 1)) (hr : (mH M).sig.returnType = some .int) (hnm : (mH M).name = yX3_stabWeight.name) (hxt : ∀ x ∈ (mC M).exceptionTable.toList, False) (hnd : (mS M).methodNamed? yX3_stabWeight = some (mM M)) {k4 : Int32 → Int32 → Int32 → Wd → Option (Wd × Int32)} (hk4 : ∀ (x1 : Int32) (x2 : Int32) (x3 : Int32) (w : Wd) (fx1 : Bool) (fx2 : Bool) (fx3 : Bool), Jf (G, true, M, 4, w0) (rrV G pI) (k4 x1 x2 x3 w) w 4 [some (aR 3 (some 30)), some (aB fx1 x1), some (aB fx2 x2), some (aB fx3 x3)] []) : ∀ (x1 : Int32) (x3 : Int32) (s0 : Int32) (w : Wd) (fx1 : Bool) (fx3 : Bool) (fs0 : Bool), Jf (G, true, M, 4, w0) (rrV G pI) (b_X3_stabWeight_41 d k4 x1 x3 s0 w) w 41 [some (aR 3 (some 30)), some (aB fx1 x1), none, some (aB fx3 x3)] [aB fs0 s0] := by
  intro x1 x3 s0 w fx1 fx3 fs0
  refine j_iconstZ K dX3_stabWeight_41 rfl (Or.inl rfl) ?_
  exact j_wk (sb_X3_stabWeight_42 hG hl K hr hnm hxt hnd hk4 _ _ _ _ _ _ _ _ _) ⟨rfl, rfl, rfl, trivial⟩
theorem sb_X3_stabWeight_4 {G : Gx} (hG : GW G) {M : Mx} (hl : (mL M).stackTraces = false) {w0 : Wd} {d : Nat} (K : Cx (G, true, M, 4, w0) cX3_stabWeight "IntervalTreeModel" (d + 1)) (hr : (mH M).sig.returnType = some .int) (hnm : (mH M).name = yX3_stabWeight.name) (hxt : ∀ x ∈ (mC M).exceptionTable.toList, False) (hnd : (mS M).methodNamed? yX3_stabWeight = some (mM M)) : ∀ (n : Nat), ∀ (x1 : Int32) (x2 : Int32) (x3 : Int32) (w : Wd) (fx1 : Bool) (fx2 : Bool) (fx3 : Bool), Jf (G, true, M, 4, w0) (rrV G pI) (b_X3_stabWeight_4 d n x1 x2 x3 w) w 4 [some (aR 3 (some 30)), some (aB fx1 x1), some (aB fx2 x2), some (aB fx3 x3)] [] := by
  intro n
  induction n with
  | zero => intros; exact j_none
  | succ n ih =>
    intro x1 x2 x3 w fx1 fx2 fx3
    refine j_iload_n K dX3_stabWeight_4 rfl ?_
    refine j_aload_n K dX3_stabWeight_5 rfl ?_
    refine j_getI (k := 10) K dX3_stabWeight_6 rfl rfl rfl q1266 rfl rfl rfl ?_
    refine j_icmp_ge 50 K dX3_stabWeight_9 (by decide) ?_ ?_
    · refine j_iload_n K dX3_stabWeight_50 rfl ?_
      exact j_iret K hr dX3_stabWeight_51
    · refine j_iload_n K dX3_stabWeight_12 rfl ?_
      refine j_aload_n K dX3_stabWeight_13 rfl ?_
      refine j_getA (k := 4) 18 K dX3_stabWeight_14 rfl rfl rfl q1260 rfl rfl (by decide) rfl rfl rfl ?_
      refine j_iload_n K dX3_stabWeight_17 rfl ?_
      refine j_ib (fun hi1 => ?_)
      refine j_ial K dX3_stabWeight_18 rfl (fxLen 18 rfl rfl) hi1 ?_
      refine j_if_ne 41 K dX3_stabWeight_19 (by decide) ?_ ?_
      · exact j_wk (sb_X3_stabWeight_41 hG hl K hr hnm hxt hnd ih _ _ _ _ _ _ _) ⟨rfl, rfl, rfl, trivial⟩
      · refine j_aload_n K dX3_stabWeight_22 rfl ?_
        refine j_iload_n K dX3_stabWeight_23 rfl ?_
        refine j_iload_n K dX3_stabWeight_24 rfl ?_
        refine j_iload_n K dX3_stabWeight_25 rfl ?_
        refine j_callV _ K (sim_X3_overlaps hG hl d x3 x1 x1 w fx3 fx1 fx1) dX3_stabWeight_26 rfl rfl q1591 q1593 qs71 q95 q1594 pm_X3_overlaps rfl rfl rfl rfl rfl (fun r2 _ => ?_)
        refine j_if_eq 41 K dX3_stabWeight_29 (by decide) ?_ ?_
        · exact j_wk (sb_X3_stabWeight_41 hG hl K hr hnm hxt hnd ih _ _ _ _ _ _ _) ⟨rfl, rfl, rfl, trivial⟩
        · refine j_aload_n K dX3_stabWeight_32 rfl ?_
          refine j_getA (k := 3) 17 K dX3_stabWeight_33 rfl rfl rfl q1259 rfl rfl (by decide) rfl rfl rfl ?_
          refine j_iload_n K dX3_stabWeight_36 rfl ?_
          refine j_ial K dX3_stabWeight_37 rfl (fxLen 17 rfl rfl) hi1 ?_
          refine j_goto 42 K dX3_stabWeight_38 (by decide) ?_
          exact j_wk (sb_X3_stabWeight_42 hG hl K hr hnm hxt hnd ih _ _ _ _ _ _ _ _ _) ⟨rfl, rfl, rfl, trivial⟩
theorem sim_X3_stabWeight {G : Gx} (hG : GW G) {l : Launch} (hl : l.stackTraces = false) (d : Nat) (p1 : Int32) (w : Wd) (fp1 : Bool) : Mt G true l yX3_stabWeight (ws_ yX3_stabWeight cX3_stabWeight 4 (some .int)) d (rrV G pI) [aR 3 (some 30), aB fp1 p1] w (f_X3_stabWeight d p1 w) := by
  refine Mt.of (own := "IntervalTreeModel") hG hl (by decide +kernel) rfl rfl ?_
  intro M hM hr hnm hxt hnd K
  subst hM
  cases d with
  | zero => exact j_none
  | succ d =>
    refine j_iconstZ K dX3_stabWeight_0 rfl (Or.inl rfl) ?_
    refine j_istore_n K dX3_stabWeight_1 rfl rfl ?_
    refine j_iconstZ K dX3_stabWeight_2 rfl (Or.inl rfl) ?_
    refine j_istore_n K dX3_stabWeight_3 rfl rfl ?_
    exact sb_X3_stabWeight_4 hG hl K hr hnm hxt hnd FU _ _ _ _ _ _ _

theorem pm_X3_ranked : yX3_ranked.cls = RX3 ∧ yX3_ranked.cls ≠ "java/lang/invoke/MethodHandle" ∧ yX3_ranked.cls ≠ "java/lang/invoke/VarHandle" ∧ (parseMethodDescriptor yX3_ranked.desc).map (fun d => d.parameters.length) = some 3 := by decide +kernel
def b_X3_ranked_138 (d : Nat) (k3 : Int32 → Int32 → Int32 → Int32 → Wd → Option (Wd × Int32)) (x1 : Int32) (x2 : Int32) (x3 : Int32) (x4 : Int32) (w : Wd) : Option (Wd × Int32) :=
  k3 x1 x2 x3 (x4 + 1) w
def b_X3_ranked_120 (d : Nat) (k42 : Int32 → Int32 → Int32 → Int32 → Int32 → Int32 → Wd → Option (Wd × Int32)) (x1 : Int32) (x2 : Int32) (x3 : Int32) (x4 : Int32) (x6 : Int32) (s0 : Int32) (s1 : Int32) (w : Wd) : Option (Wd × Int32) :=
  k42 x1 x2 x3 x4 (s0 + s1) (x6 + 1) w
def b_X3_ranked_119 (d : Nat) (k42 : Int32 → Int32 → Int32 → Int32 → Int32 → Int32 → Wd → Option (Wd × Int32)) (x1 : Int32) (x2 : Int32) (x3 : Int32) (x4 : Int32) (x6 : Int32) (s0 : Int32) (w : Wd) : Option (Wd × Int32) :=
  b_X3_ranked_120 d k42 x1 x2 x3 x4 x6 s0 0 w
def b_X3_ranked_115 (d : Nat) (k42 : Int32 → Int32 → Int32 → Int32 → Int32 → Int32 → Wd → Option (Wd × Int32)) (x1 : Int32) (x2 : Int32) (x3 : Int32) (x4 : Int32) (x6 : Int32) (s0 : Int32) (w : Wd) : Option (Wd × Int32) :=
  b_X3_ranked_120 d k42 x1 x2 x3 x4 x6 s0 1 w
def b_X3_ranked_42 (d : Nat) : Nat → (Int32 → Int32 → Int32 → Int32 → Wd → Option (Wd × Int32)) → Int32 → Int32 → Int32 → Int32 → Int32 → Int32 → Wd → Option (Wd × Int32)
  | 0, _, _, _, _, _, _, _, _ => none
  | n + 1, k3, x1, x2, x3, x4, x5, x6, w =>
    if (gI w 30 10) ≤ x6 then
      if x5 = x3 then
        some (w, x4)
      else
        b_X3_ranked_138 d k3 x1 x2 x3 x4 w
    else
      if ib x6 500 = true then
        if (gI w 34 x6.toNatClampNeg) = 0 then
          (f_X3_overlaps d x6 x1 x2 w).bind fun r4 =>
          if r4.2 = 0 then
            b_X3_ranked_119 d (b_X3_ranked_42 d n k3) x1 x2 x3 x4 x6 x5 r4.1
          else
            if ib x4 500 = true then
              if (gI r4.1 33 x4.toNatClampNeg) < (gI r4.1 33 x6.toNatClampNeg) then
                b_X3_ranked_115 d (b_X3_ranked_42 d n k3) x1 x2 x3 x4 x6 x5 r4.1
              else
                if (gI r4.1 33 x6.toNatClampNeg) = (gI r4.1 33 x4.toNatClampNeg) then
                  if x4 ≤ x6 then
                    b_X3_ranked_119 d (b_X3_ranked_42 d n k3) x1 x2 x3 x4 x6 x5 r4.1
                  else
                    b_X3_ranked_115 d (b_X3_ranked_42 d n k3) x1 x2 x3 x4 x6 x5 r4.1
                else
                  b_X3_ranked_119 d (b_X3_ranked_42 d n k3) x1 x2 x3 x4 x6 x5 r4.1
            else none
        else
          b_X3_ranked_119 d (b_X3_ranked_42 d n k3) x1 x2 x3 x4 x6 x5 w
      else none
def b_X3_ranked_3 (d : Nat) : Nat → Int32 → Int32 → Int32 → Int32 → Wd → Option (Wd × Int32)
  | 0, _, _, _, _, _ => none
  | n + 1, x1, x2, x3, x4, w =>
    if (gI w 30 10) ≤ x4 then
      some (w, (-1))
    else
      if ib x4 500 = true then
        if (gI w 34 x4.toNatClampNeg) = 0 then
          (f_X3_overlaps d x4 x1 x2 w).bind fun r2 =>
          if r2.2 = 0 then
            b_X3_ranked_138 d (b_X3_ranked_3 d n) x1 x2 x3 x4 r2.1
          else
            b_X3_ranked_42 d FU (b_X3_ranked_3 d n) x1 x2 x3 x4 0 0 r2.1
        else
          b_X3_ranked_138 d (b_X3_ranked_3 d n) x1 x2 x3 x4 w
      else none
def f_X3_ranked (d : Nat) (p1 : Int32) (p2 : Int32) (p3 : Int32) (w : Wd) : Option (Wd × Int32) :=
  match d with
  | 0 => none
  | d + 1 =>
    b_X3_ranked_3 d FU p1 p2 p3 0 w
theorem sb_X3_ranked_138 {G : Gx} (hG : GW G) {M : Mx} (hl : (mL M).stackTraces = false) {w0 : Wd} {d : Nat} (K : Cx (G, true, M, 7, w0) cX3_ranked "IntervalTreeModel" (d + 1)) (hr : (mH M).sig.returnType = some .int) (hnm : (mH M).name = yX3_ranked.name) (hxt : ∀ x ∈ (mC M).exceptionTable.toList, False) (hnd : (mS M).methodNamed? yX3_ranked = some (mM M)) {k3 : Int32 → Int32 → Int32 → Int32 → Wd → Option (Wd × Int32)} (hk3 : ∀ (x1 : Int32) (x2 : Int32) (x3 : Int32) (x4 : Int32) (w : Wd) (fx1 : Bool) (fx2 : Bool) (fx3 : Bool) (fx4 : Bool), Jf (G, true, M, 7, w0) (rrV G pI) (k3 x1 x2 x3 x4 w) w 3 [some (aR 3 (some 30)), some (aB fx1 x1), some (aB fx2 x2), some (aB fx3 x3), some (aB fx4 x4), none, none] []) : ∀ (x1 : Int32) (x2 : Int32) (x3 : Int32) (x4 : Int32) (w : Wd) (fx1 : Bool) (fx2 : Bool) (fx3 : Bool) (fx4 : Bool), Jf (G, true, M, 7, w0) (rrV G pI) (b_X3_ranked_138 d k3 x1 x2 x3 x4 w) w 138 [some (aR 3 (some 30)), some (aB fx1 x1), some (aB fx2 x2), some (aB fx3 x3), some (aB fx4 x4), none, none] [] := by
  intro x1 x2 x3 x4 w fx1 fx2 fx3 fx4
  refine j_iinc (y := 1) K dX3_ranked_138 rfl rfl rfl rfl ?_
  refine j_goto 3 K dX3_ranked_141 (by decide) ?_
  exact j_wk (hk3 _ _ _ _ _ _ _ _ _) ⟨rfl, rfl, rfl, rfl, rfl, trivial⟩
theorem sb_X3_ranked_120 {G : Gx} (hG : GW G) {M : Mx} (hl : (mL M).stackTraces = false) {w0 : Wd} {d : Nat} (K : Cx (G, true, M, 7, w0) cX3_ranked "IntervalTreeModel" (d + 1)) (hr : (mH M).sig.returnType = some .int) (hnm : (mH M).name = yX3_ranked.name) (hxt : ∀ x ∈ (mC M).exceptionTable.toList, False) (hnd : (mS M).methodNamed? yX3_ranked = some (mM M)) {k42 : Int32 → Int32 → Int32 → Int32 → Int32 → Int32 → Wd → Option (Wd × Int32)} (hk42 : ∀ (x1 : Int32) (x2 : Int32) (x3 : Int32) (x4 : Int32) (x5 : Int32) (x6 : Int32) (w : Wd) (fx1 : Bool) (fx2 : Bool) (fx3 : Bool) (fx4 : Bool) (fx5 : Bool) (fx6 : Bool), Jf (G, true, M, 7, w0) (rrV G pI) (k42 x1 x2 x3 x4 x5 x6 w) w 42 [some (aR 3 (some 30)), some (aB fx1 x1), some (aB fx2 x2), some (aB fx3 x3), some (aB fx4 x4), some (aB fx5 x5), some (aB fx6 x6)] []) : ∀ (x1 : Int32) (x2 : Int32) (x3 : Int32) (x4 : Int32) (x6 : Int32) (s0 : Int32) (s1 : Int32) (w : Wd) (fx1 : Bool) (fx2 : Bool) (fx3 : Bool) (fx4 : Bool) (fx6 : Bool) (fs0 : Bool), Jf (G, true, M, 7, w0) (rrV G pI) (b_X3_ranked_120 d k42 x1 x2 x3 x4 x6 s0 s1 w) w 120 [some (aR 3 (some 30)), some (aB fx1 x1), some (aB fx2 x2), some (aB fx3 x3), some (aB fx4 x4), none, some (aB fx6 x6)] [aB true s1, aB fs0 s0] := by
  intro x1 x2 x3 x4 x6 s0 s1 w fx1 fx2 fx3 fx4 fx6 fs0
  refine j_iadd K dX3_ranked_120 ?_
  refine j_istore K dX3_ranked_121 rfl rfl ?_
  refine j_iinc (y := 1) K dX3_ranked_123 rfl rfl rfl rfl ?_
  refine j_goto 42 K dX3_ranked_126 (by decide) ?_
  exact hk42 _ _ _ _ _ _ _ _ _ _ _ _ _
theorem sb_X3_ranked_119 {G : Gx} (hG : GW G) {M : Mx} (hl : (mL M).stackTraces = false) {w0 : Wd} {d : Nat} (K : Cx (G, true, M, 7, w0) cX3_ranked "IntervalTreeModel" (d + 1)) (hr : (mH M).sig.returnType = some .int) (hnm : (mH M).name = yX3_ranked.name) (hxt : ∀ x ∈ (mC M).exceptionTable.toList, False) (hnd : (mS M).methodNamed? yX3_ranked = some (mM M)) {k42 : Int32 → Int32 → Int32 → Int32 → Int32 → Int32 → Wd → Option (Wd × Int32)} (hk42 : ∀ (x1 : Int32) (x2 : Int32) (x3 : Int32) (x4 : Int32) (x5 : Int32) (x6 : Int32) (w : Wd) (fx1 : Bool) (fx2 : Bool) (fx3 : Bool) (fx4 : Bool) (fx5 : Bool) (fx6 : Bool), Jf (G, true, M, 7, w0) (rrV G pI) (k42 x1 x2 x3 x4 x5 x6 w) w 42 [some (aR 3 (some 30)), some (aB fx1 x1), some (aB fx2 x2), some (aB fx3 x3), some (aB fx4 x4), some (aB fx5 x5), some (aB fx6 x6)] []) : ∀ (x1 : Int32) (x2 : Int32) (x3 : Int32) (x4 : Int32) (x6 : Int32) (s0 : Int32) (w : Wd) (fx1 : Bool) (fx2 : Bool) (fx3 : Bool) (fx4 : Bool) (fx6 : Bool) (fs0 : Bool), Jf (G, true, M, 7, w0) (rrV G pI) (b_X3_ranked_119 d k42 x1 x2 x3 x4 x6 s0 w) w 119 [some (aR 3 (some 30)), some (aB fx1 x1), some (aB fx2 x2), some (aB fx3 x3), some (aB fx4 x4), none, some (aB fx6 x6)] [aB fs0 s0] := by
  intro x1 x2 x3 x4 x6 s0 w fx1 fx2 fx3 fx4 fx6 fs0
  refine j_iconstZ K dX3_ranked_119 rfl (Or.inl rfl) ?_
  exact j_wk (sb_X3_ranked_120 hG hl K hr hnm hxt hnd hk42 _ _ _ _ _ _ _ _ _ _ _ _ _ _) ⟨rfl, rfl, rfl, rfl, rfl, rfl, trivial⟩
theorem sb_X3_ranked_115 {G : Gx} (hG : GW G) {M : Mx} (hl : (mL M).stackTraces = false) {w0 : Wd} {d : Nat} (K : Cx (G, true, M, 7, w0) cX3_ranked "IntervalTreeModel" (d + 1)) (hr : (mH M).sig.returnType = some .int) (hnm : (mH M).name = yX3_ranked.name) (hxt : ∀ x ∈ (mC M).exceptionTable.toList, False) (hnd : (mS M).methodNamed? yX3_ranked = some (mM M)) {k42 : Int32 → Int32 → Int32 → Int32 → Int32 → Int32 → Wd → Option (Wd × Int32)} (hk42 : ∀ (x1 : Int32) (x2 : Int32) (x3 : Int32) (x4 : Int32) (x5 : Int32) (x6 : Int32) (w : Wd) (fx1 : Bool) (fx2 : Bool) (fx3 : Bool) (fx4 : Bool) (fx5 : Bool) (fx6 : Bool), Jf (G, true, M, 7, w0) (rrV G pI) (k42 x1 x2 x3 x4 x5 x6 w) w 42 [some (aR 3 (some 30)), some (aB fx1 x1), some (aB fx2 x2), some (aB fx3 x3), some (aB fx4 x4), some (aB fx5 x5), some (aB fx6 x6)] []) : ∀ (x1 : Int32) (x2 : Int32) (x3 : Int32) (x4 : Int32) (x6 : Int32) (s0 : Int32) (w : Wd) (fx1 : Bool) (fx2 : Bool) (fx3 : Bool) (fx4 : Bool) (fx6 : Bool) (fs0 : Bool), Jf (G, true, M, 7, w0) (rrV G pI) (b_X3_ranked_115 d k42 x1 x2 x3 x4 x6 s0 w) w 115 [some (aR 3 (some 30)), some (aB fx1 x1), some (aB fx2 x2), some (aB fx3 x3), some (aB fx4 x4), none, some (aB fx6 x6)] [aB fs0 s0] := by
  intro x1 x2 x3 x4 x6 s0 w fx1 fx2 fx3 fx4 fx6 fs0
  refine j_iconstZ K dX3_ranked_115 rfl (Or.inr rfl) ?_
  refine j_goto 120 K dX3_ranked_116 (by decide) ?_
  exact j_wk (sb_X3_ranked_120 hG hl K hr hnm hxt hnd hk42 _ _ _ _ _ _ _ _ _ _ _ _ _ _) ⟨rfl, rfl, rfl, rfl, rfl, rfl, trivial⟩
theorem sb_X3_ranked_42 {G : Gx} (hG : GW G) {M : Mx} (hl : (mL M).stackTraces = false) {w0 : Wd} {d : Nat} (K : Cx (G, true, M, 7, w0) cX3_ranked "IntervalTreeModel" (d + 1)) (hr : (mH M).sig.returnType = some .int) (hnm : (mH M).name = yX3_ranked.name) (hxt : ∀ x ∈ (mC M).exceptionTable.toList, False) (hnd : (mS M).methodNamed? yX3_ranked = some (mM M)) {k3 : Int32 → Int32 → Int32 → Int32 → Wd → Option (Wd × Int32)} (hk3 : ∀ (x1 : Int32) (x2 : Int32) (x3 : Int32) (x4 : Int32) (w : Wd) (fx1 : Bool) (fx2 : Bool) (fx3 : Bool) (fx4 : Bool), Jf (G, true, M, 7, w0) (rrV G pI) (k3 x1 x2 x3 x4 w) w 3 [some (aR 3 (some 30)), some (aB fx1 x1), some (aB fx2 x2), some (aB fx3 x3), some (aB fx4 x4), none, none] []) : ∀ (n : Nat), ∀ (x1 : Int32) (x2 : Int32) (x3 : Int32) (x4 : Int32) (x5 : Int32) (x6 : Int32) (w : Wd) (fx1 : Bool) (fx2 : Bool) (fx3 : Bool) (fx4 : Bool) (fx5 : Bool) (fx6 : Bool), Jf (G, true, M, 7, w0) (rrV G pI) (b_X3_ranked_42 d n k3 x1 x2 x3 x4 x5 x6 w) w 42 [some (aR 3 (some 30)), some (aB fx1 x1), some (aB fx2 x2), some (aB fx3 x3), some (aB fx4 x4), some (aB fx5 x5), some (aB fx6 x6)] [] := by
  intro n
  induction n with
  | zero => intros; exact j_none
  | succ n ih =>
    intro x1 x2 x3 x4 x5 x6 w fx1 fx2 fx3 fx4 fx5 fx6
    refine j_iload K dX3_ranked_42 rfl ?_
    refine j_aload_n K dX3_ranked_44 rfl ?_
    refine j_getI (k := 10) K dX3_ranked_45 rfl rfl rfl q1266 rfl rfl rfl ?_
    refine j_icmp_ge 129 K dX3_ranked_48 (by decide) ?_ ?_
    · refine j_iload K dX3_ranked_129 rfl ?_
      refine j_iload_n K dX3_ranked_131 rfl ?_
      refine j_icmp_ne 138 K dX3_ranked_132 (by decide) ?_ ?_
      · exact j_wk (sb_X3_ranked_138 hG hl K hr hnm hxt hnd hk3 _ _ _ _ _ _ _ _ _) ⟨rfl, rfl, rfl, rfl, rfl, trivial⟩
      · refine j_iload K dX3_ranked_135 rfl ?_
        exact j_iret K hr dX3_ranked_137
    · refine j_iload K dX3_ranked_51 rfl ?_
      refine j_aload_n K dX3_ranked_53 rfl ?_
      refine j_getA (k := 4) 18 K dX3_ranked_54 rfl rfl rfl q1260 rfl rfl (by decide) rfl rfl rfl ?_
      refine j_iload K dX3_ranked_57 rfl ?_
      refine j_ib (fun hi3 => ?_)
      refine j_ial K dX3_ranked_59 rfl (fxLen 18 rfl rfl) hi3 ?_
      refine j_if_ne 119 K dX3_ranked_60 (by decide) ?_ ?_
      · exact j_wk (sb_X3_ranked_119 hG hl K hr hnm hxt hnd ih _ _ _ _ _ _ _ _ _ _ _ _ _) ⟨rfl, rfl, rfl, rfl, rfl, rfl, trivial⟩
      · refine j_aload_n K dX3_ranked_63 rfl ?_
        refine j_iload K dX3_ranked_64 rfl ?_
        refine j_iload_n K dX3_ranked_66 rfl ?_
        refine j_iload_n K dX3_ranked_67 rfl ?_
        refine j_callV _ K (sim_X3_overlaps hG hl d x6 x1 x2 w fx6 fx1 fx2) dX3_ranked_68 rfl rfl q1591 q1593 qs71 q95 q1594 pm_X3_overlaps rfl rfl rfl rfl rfl (fun r4 _ => ?_)
        refine j_if_eq 119 K dX3_ranked_71 (by decide) ?_ ?_
        · exact j_wk (sb_X3_ranked_119 hG hl K hr hnm hxt hnd ih _ _ _ _ _ _ _ _ _ _ _ _ _) ⟨rfl, rfl, rfl, rfl, rfl, rfl, trivial⟩
        · refine j_aload_n K dX3_ranked_74 rfl ?_
          refine j_getA (k := 3) 17 K dX3_ranked_75 rfl rfl rfl q1259 rfl rfl (by decide) rfl rfl rfl ?_
          refine j_iload K dX3_ranked_78 rfl ?_
          refine j_ial K dX3_ranked_80 rfl (fxLen 17 rfl rfl) hi3 ?_
          refine j_aload_n K dX3_ranked_81 rfl ?_
          refine j_getA (k := 3) 17 K dX3_ranked_82 rfl rfl rfl q1259 rfl rfl (by decide) rfl rfl rfl ?_
          refine j_iload K dX3_ranked_85 rfl ?_
          refine j_ib (fun hi5 => ?_)
          refine j_ial K dX3_ranked_87 rfl (fxLen 17 rfl rfl) hi5 ?_
          refine j_icmp_gt 115 K dX3_ranked_88 (by decide) ?_ ?_
          · exact j_wk (sb_X3_ranked_115 hG hl K hr hnm hxt hnd ih _ _ _ _ _ _ _ _ _ _ _ _ _) ⟨rfl, rfl, rfl, rfl, rfl, rfl, trivial⟩
          · refine j_aload_n K dX3_ranked_91 rfl ?_
            refine j_getA (k := 3) 17 K dX3_ranked_92 rfl rfl rfl q1259 rfl rfl (by decide) rfl rfl rfl ?_
            refine j_iload K dX3_ranked_95 rfl ?_
            refine j_ial K dX3_ranked_97 rfl (fxLen 17 rfl rfl) hi3 ?_
            refine j_aload_n K dX3_ranked_98 rfl ?_
            refine j_getA (k := 3) 17 K dX3_ranked_99 rfl rfl rfl q1259 rfl rfl (by decide) rfl rfl rfl ?_
            refine j_iload K dX3_ranked_102 rfl ?_
            refine j_ial K dX3_ranked_104 rfl (fxLen 17 rfl rfl) hi5 ?_
            refine j_icmp_ne 119 K dX3_ranked_105 (by decide) ?_ ?_
            · exact j_wk (sb_X3_ranked_119 hG hl K hr hnm hxt hnd ih _ _ _ _ _ _ _ _ _ _ _ _ _) ⟨rfl, rfl, rfl, rfl, rfl, rfl, trivial⟩
            · refine j_iload K dX3_ranked_108 rfl ?_
              refine j_iload K dX3_ranked_110 rfl ?_
              refine j_icmp_ge 119 K dX3_ranked_112 (by decide) ?_ ?_
              · exact j_wk (sb_X3_ranked_119 hG hl K hr hnm hxt hnd ih _ _ _ _ _ _ _ _ _ _ _ _ _) ⟨rfl, rfl, rfl, rfl, rfl, rfl, trivial⟩
              · exact j_wk (sb_X3_ranked_115 hG hl K hr hnm hxt hnd ih _ _ _ _ _ _ _ _ _ _ _ _ _) ⟨rfl, rfl, rfl, rfl, rfl, rfl, trivial⟩
theorem sb_X3_ranked_3 {G : Gx} (hG : GW G) {M : Mx} (hl : (mL M).stackTraces = false) {w0 : Wd} {d : Nat} (K : Cx (G, true, M, 7, w0) cX3_ranked "IntervalTreeModel" (d + 1)) (hr : (mH M).sig.returnType = some .int) (hnm : (mH M).name = yX3_ranked.name) (hxt : ∀ x ∈ (mC M).exceptionTable.toList, False) (hnd : (mS M).methodNamed? yX3_ranked = some (mM M)) : ∀ (n : Nat), ∀ (x1 : Int32) (x2 : Int32) (x3 : Int32) (x4 : Int32) (w : Wd) (fx1 : Bool) (fx2 : Bool) (fx3 : Bool) (fx4 : Bool), Jf (G, true, M, 7, w0) (rrV G pI) (b_X3_ranked_3 d n x1 x2 x3 x4 w) w 3 [some (aR 3 (some 30)), some (aB fx1 x1), some (aB fx2 x2), some (aB fx3 x3), some (aB fx4 x4), none, none] [] := by
  intro n
  induction n with
  | zero => intros; exact j_none
  | succ n ih =>
    intro x1 x2 x3 x4 w fx1 fx2 fx3 fx4
    refine j_iload K dX3_ranked_3 rfl ?_
    refine j_aload_n K dX3_ranked_5 rfl ?_
    refine j_getI (k := 10) K dX3_ranked_6 rfl rfl rfl q1266 rfl rfl rfl ?_
    refine j_icmp_ge 144 K dX3_ranked_9 (by decide) ?_ ?_
    · refine j_iconst (x := (-1)) K dX3_ranked_144 rfl ?_
      exact j_iret K hr dX3_ranked_145
    · refine j_aload_n K dX3_ranked_12 rfl ?_
      refine j_getA (k := 4) 18 K dX3_ranked_13 rfl rfl rfl q1260 rfl rfl (by decide) rfl rfl rfl ?_
      refine j_iload K dX3_ranked_16 rfl ?_
      refine j_ib (fun hi1 => ?_)
      refine j_ial K dX3_ranked_18 rfl (fxLen 18 rfl rfl) hi1 ?_
      refine j_if_ne 138 K dX3_ranked_19 (by decide) ?_ ?_
      · exact j_wk (sb_X3_ranked_138 hG hl K hr hnm hxt hnd ih _ _ _ _ _ _ _ _ _) ⟨rfl, rfl, rfl, rfl, rfl, trivial⟩
      · refine j_aload_n K dX3_ranked_22 rfl ?_
        refine j_iload K dX3_ranked_23 rfl ?_
        refine j_iload_n K dX3_ranked_25 rfl ?_
        refine j_iload_n K dX3_ranked_26 rfl ?_
        refine j_callV _ K (sim_X3_overlaps hG hl d x4 x1 x2 w fx4 fx1 fx2) dX3_ranked_27 rfl rfl q1591 q1593 qs71 q95 q1594 pm_X3_overlaps rfl rfl rfl rfl rfl (fun r2 _ => ?_)
        refine j_if_ne 36 K dX3_ranked_30 (by decide) ?_ ?_
        · refine j_iconstZ K dX3_ranked_36 rfl (Or.inl rfl) ?_
          refine j_istore K dX3_ranked_37 rfl rfl ?_
          refine j_iconstZ K dX3_ranked_39 rfl (Or.inl rfl) ?_
          refine j_istore K dX3_ranked_40 rfl rfl ?_
          exact sb_X3_ranked_42 hG hl K hr hnm hxt hnd ih FU _ _ _ _ _ _ _ _ _ _ _ _ _
        · refine j_goto 138 K dX3_ranked_33 (by decide) ?_
          exact j_wk (sb_X3_ranked_138 hG hl K hr hnm hxt hnd ih _ _ _ _ _ _ _ _ _) ⟨rfl, rfl, rfl, rfl, rfl, trivial⟩
theorem sim_X3_ranked {G : Gx} (hG : GW G) {l : Launch} (hl : l.stackTraces = false) (d : Nat) (p1 : Int32) (p2 : Int32) (p3 : Int32) (w : Wd) (fp1 : Bool) (fp2 : Bool) (fp3 : Bool) : Mt G true l yX3_ranked (ws_ yX3_ranked cX3_ranked 7 (some .int)) d (rrV G pI) [aR 3 (some 30), aB fp1 p1, aB fp2 p2, aB fp3 p3] w (f_X3_ranked d p1 p2 p3 w) := by
  refine Mt.of (own := "IntervalTreeModel") hG hl (by decide +kernel) rfl rfl ?_
  intro M hM hr hnm hxt hnd K
  subst hM
  cases d with
  | zero => exact j_none
  | succ d =>
    refine j_iconstZ K dX3_ranked_0 rfl (Or.inl rfl) ?_
    refine j_istore K dX3_ranked_1 rfl rfl ?_
    exact j_wk (sb_X3_ranked_3 hG hl K hr hnm hxt hnd FU _ _ _ _ _ _ _ _ _) ⟨rfl, rfl, rfl, rfl, rfl, trivial⟩

theorem pm_X3_heaviest : yX3_heaviest.cls = RX3 ∧ yX3_heaviest.cls ≠ "java/lang/invoke/MethodHandle" ∧ yX3_heaviest.cls ≠ "java/lang/invoke/VarHandle" ∧ (parseMethodDescriptor yX3_heaviest.desc).map (fun d => d.parameters.length) = some 2 := by decide +kernel
def f_X3_heaviest (d : Nat) (p1 : Int32) (p2 : Int32) (w : Wd) : Option (Wd × Int32) :=
  match d with
  | 0 => none
  | d + 1 =>
    if 0 ≤ p2 then
      (f_X3_ranked d p1 p1 p2 (sI w 30 0 0)).bind fun r1 =>
      some (r1.1, r1.2)
    else
      (f_X3_fails d 1 (sI w 30 0 0)).bind fun r2 =>
      some (r2.1, r2.2)
theorem sim_X3_heaviest {G : Gx} (hG : GW G) {l : Launch} (hl : l.stackTraces = false) (d : Nat) (p1 : Int32) (p2 : Int32) (w : Wd) (fp1 : Bool) (fp2 : Bool) : Mt G true l yX3_heaviest (ws_ yX3_heaviest cX3_heaviest 3 (some .int)) d (rrV G pI) [aR 3 (some 30), aB fp1 p1, aB fp2 p2] w (f_X3_heaviest d p1 p2 w) := by
  refine Mt.of (own := "IntervalTreeModel") hG hl (by decide +kernel) rfl rfl ?_
  intro M hM hr hnm hxt hnd K
  subst hM
  cases d with
  | zero => exact j_none
  | succ d =>
    refine j_aload_n K dX3_heaviest_0 rfl ?_
    refine j_iconstZ K dX3_heaviest_1 rfl (Or.inl rfl) ?_
    refine j_putI (k := 0) K dX3_heaviest_2 rfl rfl q1256 rfl (Or.inl rfl) rfl rfl rfl rfl ?_
    refine j_iload_n K dX3_heaviest_5 rfl ?_
    refine j_if_ge 17 K dX3_heaviest_6 (by decide) ?_ ?_
    · refine j_aload_n K dX3_heaviest_17 rfl ?_
      refine j_iload_n K dX3_heaviest_18 rfl ?_
      refine j_iload_n K dX3_heaviest_19 rfl ?_
      refine j_iload_n K dX3_heaviest_20 rfl ?_
      refine j_callV _ K (sim_X3_ranked hG hl d p1 p1 p2 (sI w 30 0 0) fp1 fp1 fp2) dX3_heaviest_21 rfl rfl q1603 q1605 qs72 q95 q1606 pm_X3_ranked rfl rfl rfl rfl rfl (fun r1 _ => ?_)
      exact j_iret K hr dX3_heaviest_24
    · refine j_aload_n K dX3_heaviest_9 rfl ?_
      refine j_iconstZ K dX3_heaviest_10 rfl (Or.inr rfl) ?_
      refine j_callV _ K (sim_X3_fails hG hl d 1 (sI w 30 0 0) true) dX3_heaviest_11 rfl rfl q1420 q1422 qs51 q95 q1423 pm_X3_fails rfl rfl rfl rfl rfl (fun r2 _ => ?_)
      refine j_goto 24 K dX3_heaviest_14 (by decide) ?_
      exact j_iret K hr dX3_heaviest_24

theorem pm_X3_heaviestOverlap : yX3_heaviestOverlap.cls = RX3 ∧ yX3_heaviestOverlap.cls ≠ "java/lang/invoke/MethodHandle" ∧ yX3_heaviestOverlap.cls ≠ "java/lang/invoke/VarHandle" ∧ (parseMethodDescriptor yX3_heaviestOverlap.desc).map (fun d => d.parameters.length) = some 3 := by decide +kernel
def b_X3_heaviestOverlap_14 (d : Nat) (w : Wd) : Option (Wd × Int32) :=
  (f_X3_fails d 1 w).bind fun r1 =>
  some (r1.1, r1.2)
def f_X3_heaviestOverlap (d : Nat) (p1 : Int32) (p2 : Int32) (p3 : Int32) (w : Wd) : Option (Wd × Int32) :=
  match d with
  | 0 => none
  | d + 1 =>
    if p2 < p1 then
      b_X3_heaviestOverlap_14 d (sI w 30 0 0)
    else
      if 0 ≤ p3 then
        (f_X3_ranked d p1 p2 p3 (sI w 30 0 0)).bind fun r2 =>
        some (r2.1, r2.2)
      else
        b_X3_heaviestOverlap_14 d (sI w 30 0 0)
theorem sb_X3_heaviestOverlap_14 {G : Gx} (hG : GW G) {M : Mx} (hl : (mL M).stackTraces = false) {w0 : Wd} {d : Nat} (K : Cx (G, true, M, 4, w0) cX3_heaviestOverlap "IntervalTreeModel" (d + 1)) (hr : (mH M).sig.returnType = some .int) (hnm : (mH M).name = yX3_heaviestOverlap.name) (hxt : ∀ x ∈ (mC M).exceptionTable.toList, False) (hnd : (mS M).methodNamed? yX3_heaviestOverlap = some (mM M)) : ∀ (w : Wd), Jf (G, true, M, 4, w0) (rrV G pI) (b_X3_heaviestOverlap_14 d w) w 14 [some (aR 3 (some 30)), none, none, none] [] := by
  intro w
  refine j_aload_n K dX3_heaviestOverlap_14 rfl ?_
  refine j_iconstZ K dX3_heaviestOverlap_15 rfl (Or.inr rfl) ?_
  refine j_callV _ K (sim_X3_fails hG hl d 1 w true) dX3_heaviestOverlap_16 rfl rfl q1420 q1422 qs51 q95 q1423 pm_X3_fails rfl rfl rfl rfl rfl (fun r1 _ => ?_)
  refine j_goto 29 K dX3_heaviestOverlap_19 (by decide) ?_
  exact j_iret K hr dX3_heaviestOverlap_29
theorem sim_X3_heaviestOverlap {G : Gx} (hG : GW G) {l : Launch} (hl : l.stackTraces = false) (d : Nat) (p1 : Int32) (p2 : Int32) (p3 : Int32) (w : Wd) (fp1 : Bool) (fp2 : Bool) (fp3 : Bool) : Mt G true l yX3_heaviestOverlap (ws_ yX3_heaviestOverlap cX3_heaviestOverlap 4 (some .int)) d (rrV G pI) [aR 3 (some 30), aB fp1 p1, aB fp2 p2, aB fp3 p3] w (f_X3_heaviestOverlap d p1 p2 p3 w) := by
  refine Mt.of (own := "IntervalTreeModel") hG hl (by decide +kernel) rfl rfl ?_
  intro M hM hr hnm hxt hnd K
  subst hM
  cases d with
  | zero => exact j_none
  | succ d =>
    refine j_aload_n K dX3_heaviestOverlap_0 rfl ?_
    refine j_iconstZ K dX3_heaviestOverlap_1 rfl (Or.inl rfl) ?_
    refine j_putI (k := 0) K dX3_heaviestOverlap_2 rfl rfl q1256 rfl (Or.inl rfl) rfl rfl rfl rfl ?_
    refine j_iload_n K dX3_heaviestOverlap_5 rfl ?_
    refine j_iload_n K dX3_heaviestOverlap_6 rfl ?_
    refine j_icmp_gt 14 K dX3_heaviestOverlap_7 (by decide) ?_ ?_
    · exact j_wk (sb_X3_heaviestOverlap_14 hG hl K hr hnm hxt hnd _) ⟨rfl, trivial⟩
    · refine j_iload_n K dX3_heaviestOverlap_10 rfl ?_
      refine j_if_ge 22 K dX3_heaviestOverlap_11 (by decide) ?_ ?_
      · refine j_aload_n K dX3_heaviestOverlap_22 rfl ?_
        refine j_iload_n K dX3_heaviestOverlap_23 rfl ?_
        refine j_iload_n K dX3_heaviestOverlap_24 rfl ?_
        refine j_iload_n K dX3_heaviestOverlap_25 rfl ?_
        refine j_callV _ K (sim_X3_ranked hG hl d p1 p2 p3 (sI w 30 0 0) fp1 fp2 fp3) dX3_heaviestOverlap_26 rfl rfl q1603 q1605 qs72 q95 q1606 pm_X3_ranked rfl rfl rfl rfl rfl (fun r2 _ => ?_)
        exact j_iret K hr dX3_heaviestOverlap_29
      · exact j_wk (sb_X3_heaviestOverlap_14 hG hl K hr hnm hxt hnd _) ⟨rfl, trivial⟩

theorem pm_X3_firstOverlap : yX3_firstOverlap.cls = RX3 ∧ yX3_firstOverlap.cls ≠ "java/lang/invoke/MethodHandle" ∧ yX3_firstOverlap.cls ≠ "java/lang/invoke/VarHandle" ∧ (parseMethodDescriptor yX3_firstOverlap.desc).map (fun d => d.parameters.length) = some 2 := by decide +kernel
def b_X3_firstOverlap_22 (d : Nat) : Nat → Int32 → Int32 → Int32 → Wd → Option (Wd × Int32)
  | 0, _, _, _, _ => none
  | n + 1, x1, x2, x3, w =>
    if (gI w 30 17) ≤ x3 then
      some (w, (-1))
    else
      if ib x3 500 = true then
        (f_X3_overlaps d (gI w 39 x3.toNatClampNeg) x1 x2 w).bind fun r3 =>
        if r3.2 = 0 then
          b_X3_firstOverlap_22 d n x1 x2 (x3 + 1) r3.1
        else
          some (r3.1, (gI r3.1 39 x3.toNatClampNeg))
      else none
def f_X3_firstOverlap (d : Nat) (p1 : Int32) (p2 : Int32) (w : Wd) : Option (Wd × Int32) :=
  match d with
  | 0 => none
  | d + 1 =>
    if p1 ≤ p2 then
      (f_X3_layRow d (sI w 30 0 0)).bind fun r1 =>
      b_X3_firstOverlap_22 d FU p1 p2 0 r1.1
    else
      (f_X3_fails d 1 (sI w 30 0 0)).bind fun r4 =>
      some (r4.1, r4.2)
theorem sb_X3_firstOverlap_22 {G : Gx} (hG : GW G) {M : Mx} (hl : (mL M).stackTraces = false) {w0 : Wd} {d : Nat} (K : Cx (G, true, M, 4, w0) cX3_firstOverlap "IntervalTreeModel" (d + 1)) (hr : (mH M).sig.returnType = some .int) (hnm : (mH M).name = yX3_firstOverlap.name) (hxt : ∀ x ∈ (mC M).exceptionTable.toList, False) (hnd : (mS M).methodNamed? yX3_firstOverlap = some (mM M)) : ∀ (n : Nat), ∀ (x1 : Int32) (x2 : Int32) (x3 : Int32) (w : Wd) (fx1 : Bool) (fx2 : Bool) (fx3 : Bool), Jf (G, true, M, 4, w0) (rrV G pI) (b_X3_firstOverlap_22 d n x1 x2 x3 w) w 22 [some (aR 3 (some 30)), some (aB fx1 x1), some (aB fx2 x2), some (aB fx3 x3)] [] := by
  intro n
  induction n with
  | zero => intros; exact j_none
  | succ n ih =>
    intro x1 x2 x3 w fx1 fx2 fx3
    refine j_iload_n K dX3_firstOverlap_22 rfl ?_
    refine j_aload_n K dX3_firstOverlap_23 rfl ?_
    refine j_getI (k := 17) K dX3_firstOverlap_24 rfl rfl rfl q1273 rfl rfl rfl ?_
    refine j_icmp_ge 58 K dX3_firstOverlap_27 (by decide) ?_ ?_
    · refine j_iconst (x := (-1)) K dX3_firstOverlap_58 rfl ?_
      exact j_iret K hr dX3_firstOverlap_59
    · refine j_aload_n K dX3_firstOverlap_30 rfl ?_
      refine j_aload_n K dX3_firstOverlap_31 rfl ?_
      refine j_getA (k := 16) 23 K dX3_firstOverlap_32 rfl rfl rfl q1272 rfl rfl (by decide) rfl rfl rfl ?_
      refine j_iload_n K dX3_firstOverlap_35 rfl ?_
      refine j_ib (fun hi2 => ?_)
      refine j_ial K dX3_firstOverlap_36 rfl (fxLen 23 rfl rfl) hi2 ?_
      refine j_iload_n K dX3_firstOverlap_37 rfl ?_
      refine j_iload_n K dX3_firstOverlap_38 rfl ?_
      refine j_callV _ K (sim_X3_overlaps hG hl d (gI w 39 x3.toNatClampNeg) x1 x2 w false fx1 fx2) dX3_firstOverlap_39 rfl rfl q1591 q1593 qs71 q95 q1594 pm_X3_overlaps rfl rfl rfl rfl rfl (fun r3 _ => ?_)
      refine j_if_eq 52 K dX3_firstOverlap_42 (by decide) ?_ ?_
      · refine j_iinc (y := 1) K dX3_firstOverlap_52 rfl rfl rfl rfl ?_
        refine j_goto 22 K dX3_firstOverlap_55 (by decide) ?_
        exact ih _ _ _ _ _ _ _
      · refine j_aload_n K dX3_firstOverlap_45 rfl ?_
        refine j_getA (k := 16) 23 K dX3_firstOverlap_46 rfl rfl rfl q1272 rfl rfl (by decide) rfl rfl rfl ?_
        refine j_iload_n K dX3_firstOverlap_49 rfl ?_
        refine j_ial K dX3_firstOverlap_50 rfl (fxLen 23 rfl rfl) hi2 ?_
        exact j_iret K hr dX3_firstOverlap_51
theorem sim_X3_firstOverlap {G : Gx} (hG : GW G) {l : Launch} (hl : l.stackTraces = false) (d : Nat) (p1 : Int32) (p2 : Int32) (w : Wd) (fp1 : Bool) (fp2 : Bool) : Mt G true l yX3_firstOverlap (ws_ yX3_firstOverlap cX3_firstOverlap 4 (some .int)) d (rrV G pI) [aR 3 (some 30), aB fp1 p1, aB fp2 p2] w (f_X3_firstOverlap d p1 p2 w) := by
  refine Mt.of (own := "IntervalTreeModel") hG hl (by decide +kernel) rfl rfl ?_
  intro M hM hr hnm hxt hnd K
  subst hM
  cases d with
  | zero => exact j_none
  | succ d =>
    refine j_aload_n K dX3_firstOverlap_0 rfl ?_
    refine j_iconstZ K dX3_firstOverlap_1 rfl (Or.inl rfl) ?_
    refine j_putI (k := 0) K dX3_firstOverlap_2 rfl rfl q1256 rfl (Or.inl rfl) rfl rfl rfl rfl ?_
    refine j_iload_n K dX3_firstOverlap_5 rfl ?_
    refine j_iload_n K dX3_firstOverlap_6 rfl ?_
    refine j_icmp_le 16 K dX3_firstOverlap_7 (by decide) ?_ ?_
    · refine j_aload_n K dX3_firstOverlap_16 rfl ?_
      refine j_callV _ K (sim_X3_layRow hG hl d (sI w 30 0 0)) dX3_firstOverlap_17 rfl rfl q1428 q1430 qs53 q95 q1431 pm_X3_layRow rfl rfl rfl rfl rfl (fun r1 _ => ?_)
      refine j_iconstZ K dX3_firstOverlap_20 rfl (Or.inl rfl) ?_
      refine j_istore_n K dX3_firstOverlap_21 rfl rfl ?_
      exact sb_X3_firstOverlap_22 hG hl K hr hnm hxt hnd FU _ _ _ _ _ _ _
    · refine j_aload_n K dX3_firstOverlap_10 rfl ?_
      refine j_iconstZ K dX3_firstOverlap_11 rfl (Or.inr rfl) ?_
      refine j_callV _ K (sim_X3_fails hG hl d 1 (sI w 30 0 0) true) dX3_firstOverlap_12 rfl rfl q1420 q1422 qs51 q95 q1423 pm_X3_fails rfl rfl rfl rfl rfl (fun r4 _ => ?_)
      exact j_iret K hr dX3_firstOverlap_15

theorem pm_X3_floor : yX3_floor.cls = RX3 ∧ yX3_floor.cls ≠ "java/lang/invoke/MethodHandle" ∧ yX3_floor.cls ≠ "java/lang/invoke/VarHandle" ∧ (parseMethodDescriptor yX3_floor.desc).map (fun d => d.parameters.length) = some 1 := by decide +kernel
def b_X3_floor_38 (d : Nat) (k8 : Int32 → Int32 → Int32 → Wd → Option (Wd × Int32)) (x1 : Int32) (x2 : Int32) (x3 : Int32) (w : Wd) : Option (Wd × Int32) :=
  k8 x1 x2 (x3 + 1) w
def b_X3_floor_8 (d : Nat) : Nat → Int32 → Int32 → Int32 → Wd → Option (Wd × Int32)
  | 0, _, _, _, _ => none
  | n + 1, x1, x2, x3, w =>
    if (gI w 30 17) ≤ x3 then
      some (w, x2)
    else
      if ib x3 500 = true then
        if ib (gI w 39 x3.toNatClampNeg) 500 = true then
          if x1 < (gI w 31 (gI w 39 x3.toNatClampNeg).toNatClampNeg) then
            b_X3_floor_38 d (b_X3_floor_8 d n) x1 x2 x3 w
          else
            b_X3_floor_38 d (b_X3_floor_8 d n) x1 (gI w 39 x3.toNatClampNeg) x3 w
        else none
      else none
def f_X3_floor (d : Nat) (p1 : Int32) (w : Wd) : Option (Wd × Int32) :=
  match d with
  | 0 => none
  | d + 1 =>
    (f_X3_layRow d w).bind fun r1 =>
    b_X3_floor_8 d FU p1 (-1) 0 r1.1
theorem sb_X3_floor_38 {G : Gx} (hG : GW G) {M : Mx} (hl : (mL M).stackTraces = false) {w0 : Wd} {d : Nat} (K : Cx (G, true, M, 4, w0) cX3_floor "IntervalTreeModel" (d + 1)) (hr : (mH M).sig.returnType = some .int) (hnm : (mH M).name = yX3_floor.name) (hxt : ∀ x ∈ (mC M).exceptionTable.toList, False) (hnd : (mS M).methodNamed? yX3_floor = some (mM M)) {k8 : Int32 → Int32 → Int32 → Wd → Option (Wd × Int32)} (hk8 : ∀ (x1 : Int32) (x2 : Int32) (x3 : Int32) (w : Wd) (fx1 : Bool) (fx2 : Bool) (fx3 : Bool), Jf (G, true, M, 4, w0) (rrV G pI) (k8 x1 x2 x3 w) w 8 [some (aR 3 (some 30)), some (aB fx1 x1), some (aB fx2 x2), some (aB fx3 x3)] []) : ∀ (x1 : Int32) (x2 : Int32) (x3 : Int32) (w : Wd) (fx1 : Bool) (fx2 : Bool) (fx3 : Bool), Jf (G, true, M, 4, w0) (rrV G pI) (b_X3_floor_38 d k8 x1 x2 x3 w) w 38 [some (aR 3 (some 30)), some (aB fx1 x1), some (aB fx2 x2), some (aB fx3 x3)] [] := by
  intro x1 x2 x3 w fx1 fx2 fx3
  refine j_iinc (y := 1) K dX3_floor_38 rfl rfl rfl rfl ?_
  refine j_goto 8 K dX3_floor_41 (by decide) ?_
  exact hk8 _ _ _ _ _ _ _
theorem sb_X3_floor_8 {G : Gx} (hG : GW G) {M : Mx} (hl : (mL M).stackTraces = false) {w0 : Wd} {d : Nat} (K : Cx (G, true, M, 4, w0) cX3_floor "IntervalTreeModel" (d + 1)) (hr : (mH M).sig.returnType = some .int) (hnm : (mH M).name = yX3_floor.name) (hxt : ∀ x ∈ (mC M).exceptionTable.toList, False) (hnd : (mS M).methodNamed? yX3_floor = some (mM M)) : ∀ (n : Nat), ∀ (x1 : Int32) (x2 : Int32) (x3 : Int32) (w : Wd) (fx1 : Bool) (fx2 : Bool) (fx3 : Bool), Jf (G, true, M, 4, w0) (rrV G pI) (b_X3_floor_8 d n x1 x2 x3 w) w 8 [some (aR 3 (some 30)), some (aB fx1 x1), some (aB fx2 x2), some (aB fx3 x3)] [] := by
  intro n
  induction n with
  | zero => intros; exact j_none
  | succ n ih =>
    intro x1 x2 x3 w fx1 fx2 fx3
    refine j_iload_n K dX3_floor_8 rfl ?_
    refine j_aload_n K dX3_floor_9 rfl ?_
    refine j_getI (k := 17) K dX3_floor_10 rfl rfl rfl q1273 rfl rfl rfl ?_
    refine j_icmp_ge 44 K dX3_floor_13 (by decide) ?_ ?_
    · refine j_iload_n K dX3_floor_44 rfl ?_
      exact j_iret K hr dX3_floor_45
    · refine j_aload_n K dX3_floor_16 rfl ?_
      refine j_getA (k := 1) 15 K dX3_floor_17 rfl rfl rfl q1257 rfl rfl (by decide) rfl rfl rfl ?_
      refine j_aload_n K dX3_floor_20 rfl ?_
      refine j_getA (k := 16) 23 K dX3_floor_21 rfl rfl rfl q1272 rfl rfl (by decide) rfl rfl rfl ?_
      refine j_iload_n K dX3_floor_24 rfl ?_
      refine j_ib (fun hi2 => ?_)
      refine j_ial K dX3_floor_25 rfl (fxLen 23 rfl rfl) hi2 ?_
      refine j_ib (fun hi3 => ?_)
      refine j_ial K dX3_floor_26 rfl (fxLen 15 rfl rfl) hi3 ?_
      refine j_iload_n K dX3_floor_27 rfl ?_
      refine j_icmp_gt 38 K dX3_floor_28 (by decide) ?_ ?_
      · exact sb_X3_floor_38 hG hl K hr hnm hxt hnd ih _ _ _ _ _ _ _
      · refine j_aload_n K dX3_floor_31 rfl ?_
        refine j_getA (k := 16) 23 K dX3_floor_32 rfl rfl rfl q1272 rfl rfl (by decide) rfl rfl rfl ?_
        refine j_iload_n K dX3_floor_35 rfl ?_
        refine j_ial K dX3_floor_36 rfl (fxLen 23 rfl rfl) hi2 ?_
        refine j_istore_n K dX3_floor_37 rfl rfl ?_
        exact sb_X3_floor_38 hG hl K hr hnm hxt hnd ih _ _ _ _ _ _ _
theorem sim_X3_floor {G : Gx} (hG : GW G) {l : Launch} (hl : l.stackTraces = false) (d : Nat) (p1 : Int32) (w : Wd) (fp1 : Bool) : Mt G true l yX3_floor (ws_ yX3_floor cX3_floor 4 (some .int)) d (rrV G pI) [aR 3 (some 30), aB fp1 p1] w (f_X3_floor d p1 w) := by
  refine Mt.of (own := "IntervalTreeModel") hG hl (by decide +kernel) rfl rfl ?_
  intro M hM hr hnm hxt hnd K
  subst hM
  cases d with
  | zero => exact j_none
  | succ d =>
    refine j_aload_n K dX3_floor_0 rfl ?_
    refine j_callV _ K (sim_X3_layRow hG hl d w) dX3_floor_1 rfl rfl q1428 q1430 qs53 q95 q1431 pm_X3_layRow rfl rfl rfl rfl rfl (fun r1 _ => ?_)
    refine j_iconst (x := (-1)) K dX3_floor_4 rfl ?_
    refine j_istore_n K dX3_floor_5 rfl rfl ?_
    refine j_iconstZ K dX3_floor_6 rfl (Or.inl rfl) ?_
    refine j_istore_n K dX3_floor_7 rfl rfl ?_
    exact sb_X3_floor_8 hG hl K hr hnm hxt hnd FU _ _ _ _ _ _ _

theorem pm_X3_ceiling : yX3_ceiling.cls = RX3 ∧ yX3_ceiling.cls ≠ "java/lang/invoke/MethodHandle" ∧ yX3_ceiling.cls ≠ "java/lang/invoke/VarHandle" ∧ (parseMethodDescriptor yX3_ceiling.desc).map (fun d => d.parameters.length) = some 1 := by decide +kernel
def b_X3_ceiling_6 (d : Nat) : Nat → Int32 → Int32 → Wd → Option (Wd × Int32)
  | 0, _, _, _ => none
  | n + 1, x1, x2, w =>
    if (gI w 30 17) ≤ x2 then
      some (w, (-1))
    else
      if ib x2 500 = true then
        if ib (gI w 39 x2.toNatClampNeg) 500 = true then
          if (gI w 31 (gI w 39 x2.toNatClampNeg).toNatClampNeg) < x1 then
            b_X3_ceiling_6 d n x1 (x2 + 1) w
          else
            some (w, (gI w 39 x2.toNatClampNeg))
        else none
      else none
def f_X3_ceiling (d : Nat) (p1 : Int32) (w : Wd) : Option (Wd × Int32) :=
  match d with
  | 0 => none
  | d + 1 =>
    (f_X3_layRow d w).bind fun r1 =>
    b_X3_ceiling_6 d FU p1 0 r1.1
theorem sb_X3_ceiling_6 {G : Gx} (hG : GW G) {M : Mx} (hl : (mL M).stackTraces = false) {w0 : Wd} {d : Nat} (K : Cx (G, true, M, 3, w0) cX3_ceiling "IntervalTreeModel" (d + 1)) (hr : (mH M).sig.returnType = some .int) (hnm : (mH M).name = yX3_ceiling.name) (hxt : ∀ x ∈ (mC M).exceptionTable.toList, False) (hnd : (mS M).methodNamed? yX3_ceiling = some (mM M)) : ∀ (n : Nat), ∀ (x1 : Int32) (x2 : Int32) (w : Wd) (fx1 : Bool) (fx2 : Bool), Jf (G, true, M, 3, w0) (rrV G pI) (b_X3_ceiling_6 d n x1 x2 w) w 6 [some (aR 3 (some 30)), some (aB fx1 x1), some (aB fx2 x2)] [] := by
  intro n
  induction n with
  | zero => intros; exact j_none
  | succ n ih =>
    intro x1 x2 w fx1 fx2
    refine j_iload_n K dX3_ceiling_6 rfl ?_
    refine j_aload_n K dX3_ceiling_7 rfl ?_
    refine j_getI (k := 17) K dX3_ceiling_8 rfl rfl rfl q1273 rfl rfl rfl ?_
    refine j_icmp_ge 42 K dX3_ceiling_11 (by decide) ?_ ?_
    · refine j_iconst (x := (-1)) K dX3_ceiling_42 rfl ?_
      exact j_iret K hr dX3_ceiling_43
    · refine j_aload_n K dX3_ceiling_14 rfl ?_
      refine j_getA (k := 1) 15 K dX3_ceiling_15 rfl rfl rfl q1257 rfl rfl (by decide) rfl rfl rfl ?_
      refine j_aload_n K dX3_ceiling_18 rfl ?_
      refine j_getA (k := 16) 23 K dX3_ceiling_19 rfl rfl rfl q1272 rfl rfl (by decide) rfl rfl rfl ?_
      refine j_iload_n K dX3_ceiling_22 rfl ?_
      refine j_ib (fun hi2 => ?_)
      refine j_ial K dX3_ceiling_23 rfl (fxLen 23 rfl rfl) hi2 ?_
      refine j_ib (fun hi3 => ?_)
      refine j_ial K dX3_ceiling_24 rfl (fxLen 15 rfl rfl) hi3 ?_
      refine j_iload_n K dX3_ceiling_25 rfl ?_
      refine j_icmp_lt 36 K dX3_ceiling_26 (by decide) ?_ ?_
      · refine j_iinc (y := 1) K dX3_ceiling_36 rfl rfl rfl rfl ?_
        refine j_goto 6 K dX3_ceiling_39 (by decide) ?_
        exact ih _ _ _ _ _
      · refine j_aload_n K dX3_ceiling_29 rfl ?_
        refine j_getA (k := 16) 23 K dX3_ceiling_30 rfl rfl rfl q1272 rfl rfl (by decide) rfl rfl rfl ?_
        refine j_iload_n K dX3_ceiling_33 rfl ?_
        refine j_ial K dX3_ceiling_34 rfl (fxLen 23 rfl rfl) hi2 ?_
        exact j_iret K hr dX3_ceiling_35
theorem sim_X3_ceiling {G : Gx} (hG : GW G) {l : Launch} (hl : l.stackTraces = false) (d : Nat) (p1 : Int32) (w : Wd) (fp1 : Bool) : Mt G true l yX3_ceiling (ws_ yX3_ceiling cX3_ceiling 3 (some .int)) d (rrV G pI) [aR 3 (some 30), aB fp1 p1] w (f_X3_ceiling d p1 w) := by
  refine Mt.of (own := "IntervalTreeModel") hG hl (by decide +kernel) rfl rfl ?_
  intro M hM hr hnm hxt hnd K
  subst hM
  cases d with
  | zero => exact j_none
  | succ d =>
    refine j_aload_n K dX3_ceiling_0 rfl ?_
    refine j_callV _ K (sim_X3_layRow hG hl d w) dX3_ceiling_1 rfl rfl q1428 q1430 qs53 q95 q1431 pm_X3_layRow rfl rfl rfl rfl rfl (fun r1 _ => ?_)
    refine j_iconstZ K dX3_ceiling_4 rfl (Or.inl rfl) ?_
    refine j_istore_n K dX3_ceiling_5 rfl rfl ?_
    exact sb_X3_ceiling_6 hG hl K hr hnm hxt hnd FU _ _ _ _ _

theorem pm_X3_rank : yX3_rank.cls = RX3 ∧ yX3_rank.cls ≠ "java/lang/invoke/MethodHandle" ∧ yX3_rank.cls ≠ "java/lang/invoke/VarHandle" ∧ (parseMethodDescriptor yX3_rank.desc).map (fun d => d.parameters.length) = some 1 := by decide +kernel
def b_X3_rank_55 (d : Nat) (k23 : Int32 → Int32 → Int32 → Wd → Option (Wd × Int32)) (x1 : Int32) (x3 : Int32) (s0 : Int32) (s1 : Int32) (w : Wd) : Option (Wd × Int32) :=
  k23 x1 (s0 + s1) (x3 + 1) w
def b_X3_rank_54 (d : Nat) (k23 : Int32 → Int32 → Int32 → Wd → Option (Wd × Int32)) (x1 : Int32) (x3 : Int32) (s0 : Int32) (w : Wd) : Option (Wd × Int32) :=
  b_X3_rank_55 d k23 x1 x3 s0 0 w
def b_X3_rank_23 (d : Nat) : Nat → Int32 → Int32 → Int32 → Wd → Option (Wd × Int32)
  | 0, _, _, _, _ => none
  | n + 1, x1, x2, x3, w =>
    if (gI w 30 10) ≤ x3 then
      some (w, x2)
    else
      if ib x3 500 = true then
        if (gI w 34 x3.toNatClampNeg) = 0 then
          (f_X3_isLess d x3 x1 w).bind fun r3 =>
          if r3.2 = 0 then
            b_X3_rank_54 d (b_X3_rank_23 d n) x1 x3 x2 r3.1
          else
            b_X3_rank_55 d (b_X3_rank_23 d n) x1 x3 x2 1 r3.1
        else
          b_X3_rank_54 d (b_X3_rank_23 d n) x1 x3 x2 w
      else none
def f_X3_rank (d : Nat) (p1 : Int32) (w : Wd) : Option (Wd × Int32) :=
  match d with
  | 0 => none
  | d + 1 =>
    (f_X3_isLive d p1 (sI w 30 0 0)).bind fun r1 =>
    if r1.2 = 0 then
      (f_X3_fails d 1 r1.1).bind fun r4 =>
      some (r4.1, r4.2)
    else
      b_X3_rank_23 d FU p1 0 0 r1.1
theorem sb_X3_rank_55 {G : Gx} (hG : GW G) {M : Mx} (hl : (mL M).stackTraces = false) {w0 : Wd} {d : Nat} (K : Cx (G, true, M, 4, w0) cX3_rank "IntervalTreeModel" (d + 1)) (hr : (mH M).sig.returnType = some .int) (hnm : (mH M).name = yX3_rank.name) (hxt : ∀ x ∈ (mC M).exceptionTable.toList, False) (hnd : (mS M).methodNamed? yX3_rank = some (mM M)) {k23 : Int32 → Int32 → Int32 → Wd → Option (Wd × Int32)} (hk23 : ∀ (x1 : Int32) (x2 : Int32) (x3 : Int32) (w : Wd) (fx1 : Bool) (fx2 : Bool) (fx3 : Bool), Jf (G, true, M, 4, w0) (rrV G pI) (k23 x1 x2 x3 w) w 23 [some (aR 3 (some 30)), some (aB fx1 x1), some (aB fx2 x2), some (aB fx3 x3)] []) : ∀ (x1 : Int32) (x3 : Int32) (s0 : Int32) (s1 : Int32) (w : Wd) (fx1 : Bool) (fx3 : Bool) (fs0 : Bool), Jf (G, true, M, 4, w0) (rrV G pI) (b_X3_rank_55 d k23 x1 x3 s0 s1 w) w 55 [some (aR 3 (some 30)), some (aB fx1 x1), none, some (aB fx3 x3)] [aB true s1, aB fs0 s0] := by
  intro x1 x3 s0 s1 w fx1 fx3 fs0
  refine j_iadd K dX3_rank_55 ?_
  refine j_istore_n K dX3_rank_56 rfl rfl ?_
  refine j_iinc (y := 1) K dX3_rank_57 rfl rfl rfl rfl ?_
  refine j_goto 23 K dX3_rank_60 (by decide) ?_
  exact hk23 _ _ _ _ _ _ _
theorem sb_X3_rank_54 {G : Gx} (hG : GW G) {M : Mx} (hl : (mL M).stackTraces = false) {w0 : Wd} {d : Nat} (K : Cx (G, true, M, 4, w0) cX3_rank "IntervalTreeModel" (d + 1)) (hr : (mH M).sig.returnType = some .int) (hnm : (mH M).name = yX3_rank.name) (hxt : ∀ x ∈ (mC M).exceptionTable.toList, False) (hnd : (mS M).methodNamed? yX3_rank = some (mM M)) {k23 : Int32 → Int32 → Int32 → Wd → Option (Wd × Int32)} (hk23 : ∀ (x1 : Int32) (x2 : Int32) (x3 : Int32) (w : Wd) (fx1 : Bool) (fx2 : Bool) (fx3 : Bool), Jf (G, true, M, 4, w0) (rrV G pI) (k23 x1 x2 x3 w) w 23 [some (aR 3 (some 30)), some (aB fx1 x1), some (aB fx2 x2), some (aB fx3 x3)] []) : ∀ (x1 : Int32) (x3 : Int32) (s0 : Int32) (w : Wd) (fx1 : Bool) (fx3 : Bool) (fs0 : Bool), Jf (G, true, M, 4, w0) (rrV G pI) (b_X3_rank_54 d k23 x1 x3 s0 w) w 54 [some (aR 3 (some 30)), some (aB fx1 x1), none, some (aB fx3 x3)] [aB fs0 s0] := by
  intro x1 x3 s0 w fx1 fx3 fs0
  refine j_iconstZ K dX3_rank_54 rfl (Or.inl rfl) ?_
  exact j_wk (sb_X3_rank_55 hG hl K hr hnm hxt hnd hk23 _ _ _ _ _ _ _ _) ⟨rfl, rfl, rfl, trivial⟩
theorem sb_X3_rank_23 {G : Gx} (hG : GW G) {M : Mx} (hl : (mL M).stackTraces = false) {w0 : Wd} {d : Nat} (K : Cx (G, true, M, 4, w0) cX3_rank "IntervalTreeModel" (d + 1)) (hr : (mH M).sig.returnType = some .int) (hnm : (mH M).name = yX3_rank.name) (hxt : ∀ x ∈ (mC M).exceptionTable.toList, False) (hnd : (mS M).methodNamed? yX3_rank = some (mM M)) : ∀ (n : Nat), ∀ (x1 : Int32) (x2 : Int32) (x3 : Int32) (w : Wd) (fx1 : Bool) (fx2 : Bool) (fx3 : Bool), Jf (G, true, M, 4, w0) (rrV G pI) (b_X3_rank_23 d n x1 x2 x3 w) w 23 [some (aR 3 (some 30)), some (aB fx1 x1), some (aB fx2 x2), some (aB fx3 x3)] [] := by
  intro n
  induction n with
  | zero => intros; exact j_none
  | succ n ih =>
    intro x1 x2 x3 w fx1 fx2 fx3
    refine j_iload_n K dX3_rank_23 rfl ?_
    refine j_aload_n K dX3_rank_24 rfl ?_
    refine j_getI (k := 10) K dX3_rank_25 rfl rfl rfl q1266 rfl rfl rfl ?_
    refine j_icmp_ge 63 K dX3_rank_28 (by decide) ?_ ?_
    · refine j_iload_n K dX3_rank_63 rfl ?_
      exact j_iret K hr dX3_rank_64
    · refine j_iload_n K dX3_rank_31 rfl ?_
      refine j_aload_n K dX3_rank_32 rfl ?_
      refine j_getA (k := 4) 18 K dX3_rank_33 rfl rfl rfl q1260 rfl rfl (by decide) rfl rfl rfl ?_
      refine j_iload_n K dX3_rank_36 rfl ?_
      refine j_ib (fun hi2 => ?_)
      refine j_ial K dX3_rank_37 rfl (fxLen 18 rfl rfl) hi2 ?_
      refine j_if_ne 54 K dX3_rank_38 (by decide) ?_ ?_
      · exact j_wk (sb_X3_rank_54 hG hl K hr hnm hxt hnd ih _ _ _ _ _ _ _) ⟨rfl, rfl, rfl, trivial⟩
      · refine j_aload_n K dX3_rank_41 rfl ?_
        refine j_iload_n K dX3_rank_42 rfl ?_
        refine j_iload_n K dX3_rank_43 rfl ?_
        refine j_callV _ K (sim_X3_isLess hG hl d x3 x1 w fx3 fx1) dX3_rank_44 rfl rfl q1432 q1434 qs54 q95 q1435 pm_X3_isLess rfl rfl rfl rfl rfl (fun r3 _ => ?_)
        refine j_if_eq 54 K dX3_rank_47 (by decide) ?_ ?_
        · exact j_wk (sb_X3_rank_54 hG hl K hr hnm hxt hnd ih _ _ _ _ _ _ _) ⟨rfl, rfl, rfl, trivial⟩
        · refine j_iconstZ K dX3_rank_50 rfl (Or.inr rfl) ?_
          refine j_goto 55 K dX3_rank_51 (by decide) ?_
          exact j_wk (sb_X3_rank_55 hG hl K hr hnm hxt hnd ih _ _ _ _ _ _ _ _) ⟨rfl, rfl, rfl, trivial⟩
theorem sim_X3_rank {G : Gx} (hG : GW G) {l : Launch} (hl : l.stackTraces = false) (d : Nat) (p1 : Int32) (w : Wd) (fp1 : Bool) : Mt G true l yX3_rank (ws_ yX3_rank cX3_rank 4 (some .int)) d (rrV G pI) [aR 3 (some 30), aB fp1 p1] w (f_X3_rank d p1 w) := by
  refine Mt.of (own := "IntervalTreeModel") hG hl (by decide +kernel) rfl rfl ?_
  intro M hM hr hnm hxt hnd K
  subst hM
  cases d with
  | zero => exact j_none
  | succ d =>
    refine j_aload_n K dX3_rank_0 rfl ?_
    refine j_iconstZ K dX3_rank_1 rfl (Or.inl rfl) ?_
    refine j_putI (k := 0) K dX3_rank_2 rfl rfl q1256 rfl (Or.inl rfl) rfl rfl rfl rfl ?_
    refine j_aload_n K dX3_rank_5 rfl ?_
    refine j_iload_n K dX3_rank_6 rfl ?_
    refine j_callV _ K (sim_X3_isLive hG hl d p1 (sI w 30 0 0) fp1) dX3_rank_7 rfl rfl q1460 q1462 qs60 q95 q1463 pm_X3_isLive rfl rfl rfl rfl rfl (fun r1 _ => ?_)
    refine j_if_ne 19 K dX3_rank_10 (by decide) ?_ ?_
    · refine j_iconstZ K dX3_rank_19 rfl (Or.inl rfl) ?_
      refine j_istore_n K dX3_rank_20 rfl rfl ?_
      refine j_iconstZ K dX3_rank_21 rfl (Or.inl rfl) ?_
      refine j_istore_n K dX3_rank_22 rfl rfl ?_
      exact sb_X3_rank_23 hG hl K hr hnm hxt hnd FU _ _ _ _ _ _ _
    · refine j_aload_n K dX3_rank_13 rfl ?_
      refine j_iconstZ K dX3_rank_14 rfl (Or.inr rfl) ?_
      refine j_callV _ K (sim_X3_fails hG hl d 1 r1.1 true) dX3_rank_15 rfl rfl q1420 q1422 qs51 q95 q1423 pm_X3_fails rfl rfl rfl rfl rfl (fun r4 _ => ?_)
      exact j_iret K hr dX3_rank_18

theorem pm_X3_select : yX3_select.cls = RX3 ∧ yX3_select.cls ≠ "java/lang/invoke/MethodHandle" ∧ yX3_select.cls ≠ "java/lang/invoke/VarHandle" ∧ (parseMethodDescriptor yX3_select.desc).map (fun d => d.parameters.length) = some 1 := by decide +kernel
def f_X3_select (d : Nat) (p1 : Int32) (w : Wd) : Option (Wd × Int32) :=
  match d with
  | 0 => none
  | d + 1 =>
    (f_X3_live d (sI w 30 0 0)).bind fun r1 =>
    (f_X3_in d p1 0 (r1.2 - 1) r1.1).bind fun r2 =>
    if r2.2 = 0 then
      (f_X3_fails d 1 r2.1).bind fun r5 =>
      some (r5.1, r5.2)
    else
      (f_X3_layRow d r2.1).bind fun r3 =>
      if ib p1 500 = true then
        some (r3.1, (gI r3.1 39 p1.toNatClampNeg))
      else none
theorem sim_X3_select {G : Gx} (hG : GW G) {l : Launch} (hl : l.stackTraces = false) (d : Nat) (p1 : Int32) (w : Wd) (fp1 : Bool) : Mt G true l yX3_select (ws_ yX3_select cX3_select 2 (some .int)) d (rrV G pI) [aR 3 (some 30), aB fp1 p1] w (f_X3_select d p1 w) := by
  refine Mt.of (own := "IntervalTreeModel") hG hl (by decide +kernel) rfl rfl ?_
  intro M hM hr hnm hxt hnd K
  subst hM
  cases d with
  | zero => exact j_none
  | succ d =>
    refine j_aload_n K dX3_select_0 rfl ?_
    refine j_iconstZ K dX3_select_1 rfl (Or.inl rfl) ?_
    refine j_putI (k := 0) K dX3_select_2 rfl rfl q1256 rfl (Or.inl rfl) rfl rfl rfl rfl ?_
    refine j_iload_n K dX3_select_5 rfl ?_
    refine j_iconstZ K dX3_select_6 rfl (Or.inl rfl) ?_
    refine j_aload_n K dX3_select_7 rfl ?_
    refine j_callV _ K (sim_X3_live hG hl d (sI w 30 0 0)) dX3_select_8 rfl rfl q1472 q1474 qs63 q95 q1475 pm_X3_live rfl rfl rfl rfl rfl (fun r1 _ => ?_)
    refine j_iconstZ K dX3_select_11 rfl (Or.inr rfl) ?_
    refine j_isub K dX3_select_12 ?_
    refine j_callS _ K (sim_X3_in hG hl d p1 0 (r1.2 - 1) r1.1 fp1 true false) dX3_select_13 q1417 q1418 q95 q1419 pm_X3_in.2 rfl rfl rfl rfl (fun r2 _ => ?_)
    refine j_if_ne 25 K dX3_select_16 (by decide) ?_ ?_
    · refine j_aload_n K dX3_select_25 rfl ?_
      refine j_callV _ K (sim_X3_layRow hG hl d r2.1) dX3_select_26 rfl rfl q1428 q1430 qs53 q95 q1431 pm_X3_layRow rfl rfl rfl rfl rfl (fun r3 _ => ?_)
      refine j_aload_n K dX3_select_29 rfl ?_
      refine j_getA (k := 16) 23 K dX3_select_30 rfl rfl rfl q1272 rfl rfl (by decide) rfl rfl rfl ?_
      refine j_iload_n K dX3_select_33 rfl ?_
      refine j_ib (fun hi4 => ?_)
      refine j_ial K dX3_select_34 rfl (fxLen 23 rfl rfl) hi4 ?_
      exact j_iret K hr dX3_select_35
    · refine j_aload_n K dX3_select_19 rfl ?_
      refine j_iconstZ K dX3_select_20 rfl (Or.inr rfl) ?_
      refine j_callV _ K (sim_X3_fails hG hl d 1 r2.1 true) dX3_select_21 rfl rfl q1420 q1422 qs51 q95 q1423 pm_X3_fails rfl rfl rfl rfl rfl (fun r5 _ => ?_)
      exact j_iret K hr dX3_select_24

theorem pm_X3_nearest : yX3_nearest.cls = RX3 ∧ yX3_nearest.cls ≠ "java/lang/invoke/MethodHandle" ∧ yX3_nearest.cls ≠ "java/lang/invoke/VarHandle" ∧ (parseMethodDescriptor yX3_nearest.desc).map (fun d => d.parameters.length) = some 1 := by decide +kernel
def b_X3_nearest_122 (d : Nat) (k35 : Int32 → Int32 → Int32 → Int32 → Wd → Option (Wd × Int32)) (x1 : Int32) (x2 : Int32) (x3 : Int32) (x4 : Int32) (w : Wd) : Option (Wd × Int32) :=
  k35 x1 x2 x3 (x4 + 1) w
def b_X3_nearest_116 (d : Nat) (k35 : Int32 → Int32 → Int32 → Int32 → Wd → Option (Wd × Int32)) (x1 : Int32) (x4 : Int32) (x5 : Int32) (x6 : Int32) (w : Wd) : Option (Wd × Int32) :=
  b_X3_nearest_122 d k35 x1 x5 x6 x4 w
def b_X3_nearest_100 (d : Nat) (k35 : Int32 → Int32 → Int32 → Int32 → Wd → Option (Wd × Int32)) (x1 : Int32) (x2 : Int32) (x3 : Int32) (x4 : Int32) (x5 : Int32) (s0 : Int32) (w : Wd) : Option (Wd × Int32) :=
  if x2 = (-1) then
    b_X3_nearest_116 d k35 x1 x4 x5 s0 w
  else
    if s0 < x3 then
      b_X3_nearest_116 d k35 x1 x4 x5 s0 w
    else
      b_X3_nearest_122 d k35 x1 x2 x3 x4 w
def b_X3_nearest_35 (d : Nat) : Nat → Int32 → Int32 → Int32 → Int32 → Wd → Option (Wd × Int32)
  | 0, _, _, _, _, _ => none
  | n + 1, x1, x2, x3, x4, w =>
    if (gI w 30 17) ≤ x4 then
      some (w, x2)
    else
      if ib x4 500 = true then
        if ib (gI w 39 x4.toNatClampNeg) 500 = true then
          if (gI w 31 (gI w 39 x4.toNatClampNeg).toNatClampNeg) ≤ x1 then
            if x1 ≤ (gI w 32 (gI w 39 x4.toNatClampNeg).toNatClampNeg) then
              b_X3_nearest_100 d (b_X3_nearest_35 d n) x1 x2 x3 x4 (gI w 39 x4.toNatClampNeg) 0 w
            else
              b_X3_nearest_100 d (b_X3_nearest_35 d n) x1 x2 x3 x4 (gI w 39 x4.toNatClampNeg) (x1 - (gI w 32 (gI w 39 x4.toNatClampNeg).toNatClampNeg)) w
          else
            b_X3_nearest_100 d (b_X3_nearest_35 d n) x1 x2 x3 x4 (gI w 39 x4.toNatClampNeg) ((gI w 31 (gI w 39 x4.toNatClampNeg).toNatClampNeg) - x1) w
        else none
      else none
def f_X3_nearest (d : Nat) (p1 : Int32) (w : Wd) : Option (Wd × Int32) :=
  match d with
  | 0 => none
  | d + 1 =>
    (f_X3_in d p1 (-2000) 2000 (sI w 30 0 0)).bind fun r1 =>
    if r1.2 = 0 then
      (f_X3_fails d 1 r1.1).bind fun r5 =>
      some (r5.1, r5.2)
    else
      (f_X3_layRow d r1.1).bind fun r2 =>
      b_X3_nearest_35 d FU p1 (-1) 0 0 r2.1
theorem sb_X3_nearest_122 {G : Gx} (hG : GW G) {M : Mx} (hl : (mL M).stackTraces = false) {w0 : Wd} {d : Nat} (K : Cx (G, true, M, 7, w0) cX3_nearest "IntervalTreeModel" (d + 1)) (hr : (mH M).sig.returnType = some .int) (hnm : (mH M).name = yX3_nearest.name) (hxt : ∀ x ∈ (mC M).exceptionTable.toList, False) (hnd : (mS M).methodNamed? yX3_nearest = some (mM M)) {k35 : Int32 → Int32 → Int32 → Int32 → Wd → Option (Wd × Int32)} (hk35 : ∀ (x1 : Int32) (x2 : Int32) (x3 : Int32) (x4 : Int32) (w : Wd) (fx1 : Bool) (fx2 : Bool) (fx3 : Bool) (fx4 : Bool), Jf (G, true, M, 7, w0) (rrV G pI) (k35 x1 x2 x3 x4 w) w 35 [some (aR 3 (some 30)), some (aB fx1 x1), some (aB fx2 x2), some (aB fx3 x3), some (aB fx4 x4), none, none] []) : ∀ (x1 : Int32) (x2 : Int32) (x3 : Int32) (x4 : Int32) (w : Wd) (fx1 : Bool) (fx2 : Bool) (fx3 : Bool) (fx4 : Bool), Jf (G, true, M, 7, w0) (rrV G pI) (b_X3_nearest_122 d k35 x1 x2 x3 x4 w) w 122 [some (aR 3 (some 30)), some (aB fx1 x1), some (aB fx2 x2), some (aB fx3 x3), some (aB fx4 x4), none, none] [] := by
  intro x1 x2 x3 x4 w fx1 fx2 fx3 fx4
  refine j_iinc (y := 1) K dX3_nearest_122 rfl rfl rfl rfl ?_
  refine j_goto 35 K dX3_nearest_125 (by decide) ?_
  exact j_wk (hk35 _ _ _ _ _ _ _ _ _) ⟨rfl, rfl, rfl, rfl, rfl, trivial⟩
theorem sb_X3_nearest_116 {G : Gx} (hG : GW G) {M : Mx} (hl : (mL M).stackTraces = false) {w0 : Wd} {d : Nat} (K : Cx (G, true, M, 7, w0) cX3_nearest "IntervalTreeModel" (d + 1)) (hr : (mH M).sig.returnType = some .int) (hnm : (mH M).name = yX3_nearest.name) (hxt : ∀ x ∈ (mC M).exceptionTable.toList, False) (hnd : (mS M).methodNamed? yX3_nearest = some (mM M)) {k35 : Int32 → Int32 → Int32 → Int32 → Wd → Option (Wd × Int32)} (hk35 : ∀ (x1 : Int32) (x2 : Int32) (x3 : Int32) (x4 : Int32) (w : Wd) (fx1 : Bool) (fx2 : Bool) (fx3 : Bool) (fx4 : Bool), Jf (G, true, M, 7, w0) (rrV G pI) (k35 x1 x2 x3 x4 w) w 35 [some (aR 3 (some 30)), some (aB fx1 x1), some (aB fx2 x2), some (aB fx3 x3), some (aB fx4 x4), none, none] []) : ∀ (x1 : Int32) (x4 : Int32) (x5 : Int32) (x6 : Int32) (w : Wd) (fx1 : Bool) (fx4 : Bool) (fx5 : Bool) (fx6 : Bool), Jf (G, true, M, 7, w0) (rrV G pI) (b_X3_nearest_116 d k35 x1 x4 x5 x6 w) w 116 [some (aR 3 (some 30)), some (aB fx1 x1), none, none, some (aB fx4 x4), some (aB fx5 x5), some (aB fx6 x6)] [] := by
  intro x1 x4 x5 x6 w fx1 fx4 fx5 fx6
  refine j_iload K dX3_nearest_116 rfl ?_
  refine j_istore_n K dX3_nearest_118 rfl rfl ?_
  refine j_iload K dX3_nearest_119 rfl ?_
  refine j_istore_n K dX3_nearest_121 rfl rfl ?_
  exact j_wk (sb_X3_nearest_122 hG hl K hr hnm hxt hnd hk35 _ _ _ _ _ _ _ _ _) ⟨rfl, rfl, rfl, rfl, rfl, trivial⟩
theorem sb_X3_nearest_100 {G : Gx} (hG : GW G) {M : Mx} (hl : (mL M).stackTraces = false) {w0 : Wd} {d : Nat} (K : Cx (G, true, M, 7, w0) cX3_nearest "IntervalTreeModel" (d + 1)) (hr : (mH M).sig.returnType = some .int) (hnm : (mH M).name = yX3_nearest.name) (hxt : ∀ x ∈ (mC M).exceptionTable.toList, False) (hnd : (mS M).methodNamed? yX3_nearest = some (mM M)) {k35 : Int32 → Int32 → Int32 → Int32 → Wd → Option (Wd × Int32)} (hk35 : ∀ (x1 : Int32) (x2 : Int32) (x3 : Int32) (x4 : Int32) (w : Wd) (fx1 : Bool) (fx2 : Bool) (fx3 : Bool) (fx4 : Bool), Jf (G, true, M, 7, w0) (rrV G pI) (k35 x1 x2 x3 x4 w) w 35 [some (aR 3 (some 30)), some (aB fx1 x1), some (aB fx2 x2), some (aB fx3 x3), some (aB fx4 x4), none, none] []) : ∀ (x1 : Int32) (x2 : Int32) (x3 : Int32) (x4 : Int32) (x5 : Int32) (s0 : Int32) (w : Wd) (fx1 : Bool) (fx2 : Bool) (fx3 : Bool) (fx4 : Bool) (fx5 : Bool) (fs0 : Bool), Jf (G, true, M, 7, w0) (rrV G pI) (b_X3_nearest_100 d k35 x1 x2 x3 x4 x5 s0 w) w 100 [some (aR 3 (some 30)), some (aB fx1 x1), some (aB fx2 x2), some (aB fx3 x3), some (aB fx4 x4), some (aB fx5 x5), none] [aB fs0 s0] := by
  intro x1 x2 x3 x4 x5 s0 w fx1 fx2 fx3 fx4 fx5 fs0
  refine j_istore K dX3_nearest_100 rfl rfl ?_
  refine j_iload_n K dX3_nearest_102 rfl ?_
  refine j_iconst (x := (-1)) K dX3_nearest_103 rfl ?_
  refine j_icmp_eq 116 K dX3_nearest_104 (by decide) ?_ ?_
  · exact j_wk (sb_X3_nearest_116 hG hl K hr hnm hxt hnd hk35 _ _ _ _ _ _ _ _ _) ⟨rfl, rfl, rfl, rfl, rfl, trivial⟩
  · refine j_iload K dX3_nearest_107 rfl ?_
    refine j_iload_n K dX3_nearest_109 rfl ?_
    refine j_icmp_lt 116 K dX3_nearest_110 (by decide) ?_ ?_
    · exact j_wk (sb_X3_nearest_116 hG hl K hr hnm hxt hnd hk35 _ _ _ _ _ _ _ _ _) ⟨rfl, rfl, rfl, rfl, rfl, trivial⟩
    · refine j_goto 122 K dX3_nearest_113 (by decide) ?_
      exact j_wk (sb_X3_nearest_122 hG hl K hr hnm hxt hnd hk35 _ _ _ _ _ _ _ _ _) ⟨rfl, rfl, rfl, rfl, rfl, trivial⟩
theorem sb_X3_nearest_35 {G : Gx} (hG : GW G) {M : Mx} (hl : (mL M).stackTraces = false) {w0 : Wd} {d : Nat} (K : Cx (G, true, M, 7, w0) cX3_nearest "IntervalTreeModel" (d + 1)) (hr : (mH M).sig.returnType = some .int) (hnm : (mH M).name = yX3_nearest.name) (hxt : ∀ x ∈ (mC M).exceptionTable.toList, False) (hnd : (mS M).methodNamed? yX3_nearest = some (mM M)) : ∀ (n : Nat), ∀ (x1 : Int32) (x2 : Int32) (x3 : Int32) (x4 : Int32) (w : Wd) (fx1 : Bool) (fx2 : Bool) (fx3 : Bool) (fx4 : Bool), Jf (G, true, M, 7, w0) (rrV G pI) (b_X3_nearest_35 d n x1 x2 x3 x4 w) w 35 [some (aR 3 (some 30)), some (aB fx1 x1), some (aB fx2 x2), some (aB fx3 x3), some (aB fx4 x4), none, none] [] := by
  intro n
  induction n with
  | zero => intros; exact j_none
  | succ n ih =>
    intro x1 x2 x3 x4 w fx1 fx2 fx3 fx4
    refine j_iload K dX3_nearest_35 rfl ?_
    refine j_aload_n K dX3_nearest_37 rfl ?_
    refine j_getI (k := 17) K dX3_nearest_38 rfl rfl rfl q1273 rfl rfl rfl ?_
    refine j_icmp_ge 128 K dX3_nearest_41 (by decide) ?_ ?_
    · refine j_iload_n K dX3_nearest_128 rfl ?_
      exact j_iret K hr dX3_nearest_129
    · refine j_aload_n K dX3_nearest_44 rfl ?_
      refine j_getA (k := 16) 23 K dX3_nearest_45 rfl rfl rfl q1272 rfl rfl (by decide) rfl rfl rfl ?_
      refine j_iload K dX3_nearest_48 rfl ?_
      refine j_ib (fun hi3 => ?_)
      refine j_ial K dX3_nearest_50 rfl (fxLen 23 rfl rfl) hi3 ?_
      refine j_istore K dX3_nearest_51 rfl rfl ?_
      refine j_iload_n K dX3_nearest_53 rfl ?_
      refine j_aload_n K dX3_nearest_54 rfl ?_
      refine j_getA (k := 1) 15 K dX3_nearest_55 rfl rfl rfl q1257 rfl rfl (by decide) rfl rfl rfl ?_
      refine j_iload K dX3_nearest_58 rfl ?_
      refine j_ib (fun hi4 => ?_)
      refine j_ial K dX3_nearest_60 rfl (fxLen 15 rfl rfl) hi4 ?_
      refine j_icmp_ge 76 K dX3_nearest_61 (by decide) ?_ ?_
      · refine j_iload_n K dX3_nearest_76 rfl ?_
        refine j_aload_n K dX3_nearest_77 rfl ?_
        refine j_getA (k := 2) 16 K dX3_nearest_78 rfl rfl rfl q1258 rfl rfl (by decide) rfl rfl rfl ?_
        refine j_iload K dX3_nearest_81 rfl ?_
        refine j_ial K dX3_nearest_83 rfl (fxLen 16 rfl rfl) hi4 ?_
        refine j_icmp_le 99 K dX3_nearest_84 (by decide) ?_ ?_
        · refine j_iconstZ K dX3_nearest_99 rfl (Or.inl rfl) ?_
          exact j_wk (sb_X3_nearest_100 hG hl K hr hnm hxt hnd ih _ _ _ _ _ _ _ _ _ _ _ _ _) ⟨rfl, rfl, rfl, rfl, rfl, rfl, trivial⟩
        · refine j_iload_n K dX3_nearest_87 rfl ?_
          refine j_aload_n K dX3_nearest_88 rfl ?_
          refine j_getA (k := 2) 16 K dX3_nearest_89 rfl rfl rfl q1258 rfl rfl (by decide) rfl rfl rfl ?_
          refine j_iload K dX3_nearest_92 rfl ?_
          refine j_ial K dX3_nearest_94 rfl (fxLen 16 rfl rfl) hi4 ?_
          refine j_isub K dX3_nearest_95 ?_
          refine j_goto 100 K dX3_nearest_96 (by decide) ?_
          exact j_wk (sb_X3_nearest_100 hG hl K hr hnm hxt hnd ih _ _ _ _ _ _ _ _ _ _ _ _ _) ⟨rfl, rfl, rfl, rfl, rfl, rfl, trivial⟩
      · refine j_aload_n K dX3_nearest_64 rfl ?_
        refine j_getA (k := 1) 15 K dX3_nearest_65 rfl rfl rfl q1257 rfl rfl (by decide) rfl rfl rfl ?_
        refine j_iload K dX3_nearest_68 rfl ?_
        refine j_ial K dX3_nearest_70 rfl (fxLen 15 rfl rfl) hi4 ?_
        refine j_iload_n K dX3_nearest_71 rfl ?_
        refine j_isub K dX3_nearest_72 ?_
        refine j_goto 100 K dX3_nearest_73 (by decide) ?_
        exact j_wk (sb_X3_nearest_100 hG hl K hr hnm hxt hnd ih _ _ _ _ _ _ _ _ _ _ _ _ _) ⟨rfl, rfl, rfl, rfl, rfl, rfl, trivial⟩
theorem sim_X3_nearest {G : Gx} (hG : GW G) {l : Launch} (hl : l.stackTraces = false) (d : Nat) (p1 : Int32) (w : Wd) (fp1 : Bool) : Mt G true l yX3_nearest (ws_ yX3_nearest cX3_nearest 7 (some .int)) d (rrV G pI) [aR 3 (some 30), aB fp1 p1] w (f_X3_nearest d p1 w) := by
  refine Mt.of (own := "IntervalTreeModel") hG hl (by decide +kernel) rfl rfl ?_
  intro M hM hr hnm hxt hnd K
  subst hM
  cases d with
  | zero => exact j_none
  | succ d =>
    refine j_aload_n K dX3_nearest_0 rfl ?_
    refine j_iconstZ K dX3_nearest_1 rfl (Or.inl rfl) ?_
    refine j_putI (k := 0) K dX3_nearest_2 rfl rfl q1256 rfl (Or.inl rfl) rfl rfl rfl rfl ?_
    refine j_iload_n K dX3_nearest_5 rfl ?_
    refine j_sipush (x := (-2000)) K dX3_nearest_6 (by decide +kernel) ?_
    refine j_sipush (x := 2000) K dX3_nearest_9 (by decide +kernel) ?_
    refine j_callS _ K (sim_X3_in hG hl d p1 (-2000) 2000 (sI w 30 0 0) fp1 false false) dX3_nearest_12 q1417 q1418 q95 q1419 pm_X3_in.2 rfl rfl rfl rfl (fun r1 _ => ?_)
    refine j_if_ne 24 K dX3_nearest_15 (by decide) ?_ ?_
    · refine j_aload_n K dX3_nearest_24 rfl ?_
      refine j_callV _ K (sim_X3_layRow hG hl d r1.1) dX3_nearest_25 rfl rfl q1428 q1430 qs53 q95 q1431 pm_X3_layRow rfl rfl rfl rfl rfl (fun r2 _ => ?_)
      refine j_iconst (x := (-1)) K dX3_nearest_28 rfl ?_
      refine j_istore_n K dX3_nearest_29 rfl rfl ?_
      refine j_iconstZ K dX3_nearest_30 rfl (Or.inl rfl) ?_
      refine j_istore_n K dX3_nearest_31 rfl rfl ?_
      refine j_iconstZ K dX3_nearest_32 rfl (Or.inl rfl) ?_
      refine j_istore K dX3_nearest_33 rfl rfl ?_
      exact j_wk (sb_X3_nearest_35 hG hl K hr hnm hxt hnd FU _ _ _ _ _ _ _ _ _) ⟨rfl, rfl, rfl, rfl, rfl, trivial⟩
    · refine j_aload_n K dX3_nearest_18 rfl ?_
      refine j_iconstZ K dX3_nearest_19 rfl (Or.inr rfl) ?_
      refine j_callV _ K (sim_X3_fails hG hl d 1 r1.1 true) dX3_nearest_20 rfl rfl q1420 q1422 qs51 q95 q1423 pm_X3_fails rfl rfl rfl rfl rfl (fun r5 _ => ?_)
      exact j_iret K hr dX3_nearest_23

theorem pm_X3_layCover : yX3_layCover.cls = RX3 ∧ yX3_layCover.cls ≠ "java/lang/invoke/MethodHandle" ∧ yX3_layCover.cls ≠ "java/lang/invoke/VarHandle" ∧ (parseMethodDescriptor yX3_layCover.desc).map (fun d => d.parameters.length) = some 0 := by decide +kernel
def b_X3_layCover_90 (d : Nat) : Nat → Int32 → Wd → Option (Wd × Unit)
  | 0, _, _ => none
  | n + 1, x1, w =>
    if 2002 ≤ x1 then
      some (w, ())
    else
      if ib x1 2002 = true then
        if ib (x1 - 1) 2002 = true then
          b_X3_layCover_90 d n (x1 + 1) (sI w 42 x1.toNatClampNeg ((gI w 42 x1.toNatClampNeg) + (gI w 42 (x1 - 1).toNatClampNeg)))
        else none
      else none
def b_X3_layCover_82 (d : Nat) (k24 : Int32 → Wd → Option (Wd × Unit)) (x1 : Int32) (w : Wd) : Option (Wd × Unit) :=
  k24 (x1 + 1) w
def b_X3_layCover_24 (d : Nat) : Nat → Int32 → Wd → Option (Wd × Unit)
  | 0, _, _ => none
  | n + 1, x1, w =>
    if (gI w 30 10) ≤ x1 then
      b_X3_layCover_90 d FU 1 w
    else
      if ib x1 500 = true then
        if (gI w 34 x1.toNatClampNeg) = 0 then
          if ib ((gI w 31 x1.toNatClampNeg) + 1000) 2002 = true then
            if ib ((gI (sI w 42 ((gI w 31 x1.toNatClampNeg) + 1000).toNatClampNeg ((gI w 42 ((gI w 31 x1.toNatClampNeg) + 1000).toNatClampNeg) + 1)) 32 x1.toNatClampNeg) + 1001) 2002 = true then
              b_X3_layCover_82 d (b_X3_layCover_24 d n) x1 (sI (sI w 42 ((gI w 31 x1.toNatClampNeg) + 1000).toNatClampNeg ((gI w 42 ((gI w 31 x1.toNatClampNeg) + 1000).toNatClampNeg) + 1)) 42 ((gI (sI w 42 ((gI w 31 x1.toNatClampNeg) + 1000).toNatClampNeg ((gI w 42 ((gI w 31 x1.toNatClampNeg) + 1000).toNatClampNeg) + 1)) 32 x1.toNatClampNeg) + 1001).toNatClampNeg ((gI (sI w 42 ((gI w 31 x1.toNatClampNeg) + 1000).toNatClampNeg ((gI w 42 ((gI w 31 x1.toNatClampNeg) + 1000).toNatClampNeg) + 1)) 42 ((gI (sI w 42 ((gI w 31 x1.toNatClampNeg) + 1000).toNatClampNeg ((gI w 42 ((gI w 31 x1.toNatClampNeg) + 1000).toNatClampNeg) + 1)) 32 x1.toNatClampNeg) + 1001).toNatClampNeg) - 1))
            else none
          else none
        else
          b_X3_layCover_82 d (b_X3_layCover_24 d n) x1 w
      else none
def b_X3_layCover_2 (d : Nat) : Nat → Int32 → Wd → Option (Wd × Unit)
  | 0, _, _ => none
  | n + 1, x1, w =>
    if 2002 ≤ x1 then
      b_X3_layCover_24 d FU 0 w
    else
      if ib x1 2002 = true then
        b_X3_layCover_2 d n (x1 + 1) (sI w 42 x1.toNatClampNeg 0)
      else none
def f_X3_layCover (d : Nat) (w : Wd) : Option (Wd × Unit) :=
  match d with
  | 0 => none
  | d + 1 =>
    b_X3_layCover_2 d FU 0 w
theorem sb_X3_layCover_90 {G : Gx} (hG : GW G) {M : Mx} (hl : (mL M).stackTraces = false) {w0 : Wd} {d : Nat} (K : Cx (G, true, M, 2, w0) cX3_layCover "IntervalTreeModel" (d + 1)) (hr : (mH M).sig.returnType = none) (hnm : (mH M).name = yX3_layCover.name) (hxt : ∀ x ∈ (mC M).exceptionTable.toList, False) (hnd : (mS M).methodNamed? yX3_layCover = some (mM M)) : ∀ (n : Nat), ∀ (x1 : Int32) (w : Wd) (fx1 : Bool), Jf (G, true, M, 2, w0) (rrV G pU) (b_X3_layCover_90 d n x1 w) w 90 [some (aR 3 (some 30)), some (aB fx1 x1)] [] := by
  intro n
  induction n with
  | zero => intros; exact j_none
  | succ n ih =>
    intro x1 w fx1
    refine j_iload_n K dX3_layCover_90 rfl ?_
    refine j_sipush (x := 2002) K dX3_layCover_91 (by decide +kernel) ?_
    refine j_icmp_ge 120 K dX3_layCover_94 (by decide) ?_ ?_
    · exact j_vret K hr dX3_layCover_120
    · refine j_aload_n K dX3_layCover_97 rfl ?_
      refine j_getA (k := 22) 26 K dX3_layCover_98 rfl rfl rfl q1278 rfl rfl (by decide) rfl rfl rfl ?_
      refine j_iload_n K dX3_layCover_101 rfl ?_
      refine j_dup2 K dX3_layCover_102 rfl rfl ?_
      refine j_ib (fun hi1 => ?_)
      refine j_ial K dX3_layCover_103 rfl (fxLen 26 rfl rfl) hi1 ?_
      refine j_aload_n K dX3_layCover_104 rfl ?_
      refine j_getA (k := 22) 26 K dX3_layCover_105 rfl rfl rfl q1278 rfl rfl (by decide) rfl rfl rfl ?_
      refine j_iload_n K dX3_layCover_108 rfl ?_
      refine j_iconstZ K dX3_layCover_109 rfl (Or.inr rfl) ?_
      refine j_isub K dX3_layCover_110 ?_
      refine j_ib (fun hi2 => ?_)
      refine j_ial K dX3_layCover_111 rfl (fxLen 26 rfl rfl) hi2 ?_
      refine j_iadd K dX3_layCover_112 ?_
      refine j_ias K dX3_layCover_113 rfl (fxLen2 26 rfl rfl) hi1 ?_
      refine j_iinc (y := 1) K dX3_layCover_114 rfl rfl rfl rfl ?_
      refine j_goto 90 K dX3_layCover_117 (by decide) ?_
      exact ih _ _ _
theorem sb_X3_layCover_82 {G : Gx} (hG : GW G) {M : Mx} (hl : (mL M).stackTraces = false) {w0 : Wd} {d : Nat} (K : Cx (G, true, M, 2, w0) cX3_layCover "IntervalTreeModel" (d + 1)) (hr : (mH M).sig.returnType = none) (hnm : (mH M).name = yX3_layCover.name) (hxt : ∀ x ∈ (mC M).exceptionTable.toList, False) (hnd : (mS M).methodNamed? yX3_layCover = some (mM M)) {k24 : Int32 → Wd → Option (Wd × Unit)} (hk24 : ∀ (x1 : Int32) (w : Wd) (fx1 : Bool), Jf (G, true, M, 2, w0) (rrV G pU) (k24 x1 w) w 24 [some (aR 3 (some 30)), some (aB fx1 x1)] []) : ∀ (x1 : Int32) (w : Wd) (fx1 : Bool), Jf (G, true, M, 2, w0) (rrV G pU) (b_X3_layCover_82 d k24 x1 w) w 82 [some (aR 3 (some 30)), some (aB fx1 x1)] [] := by
  intro x1 w fx1
  refine j_iinc (y := 1) K dX3_layCover_82 rfl rfl rfl rfl ?_
  refine j_goto 24 K dX3_layCover_85 (by decide) ?_
  exact hk24 _ _ _
theorem sb_X3_layCover_24 {G : Gx} (hG : GW G) {M : Mx} (hl : (mL M).stackTraces = false) {w0 : Wd} {d : Nat} (K : Cx (G, true, M, 2, w0) cX3_layCover "IntervalTreeModel" (d + 1)) (hr : (mH M).sig.returnType = none) (hnm : (mH M).name = yX3_layCover.name) (hxt : ∀ x ∈ (mC M).exceptionTable.toList, False) (hnd : (mS M).methodNamed? yX3_layCover = some (mM M)) : ∀ (n : Nat), ∀ (x1 : Int32) (w : Wd) (fx1 : Bool), Jf (G, true, M, 2, w0) (rrV G pU) (b_X3_layCover_24 d n x1 w) w 24 [some (aR 3 (some 30)), some (aB fx1 x1)] [] := by
  intro n
  induction n with
  | zero => intros; exact j_none
  | succ n ih =>
    intro x1 w fx1
    refine j_iload_n K dX3_layCover_24 rfl ?_
    refine j_aload_n K dX3_layCover_25 rfl ?_
    refine j_getI (k := 10) K dX3_layCover_26 rfl rfl rfl q1266 rfl rfl rfl ?_
    refine j_icmp_ge 88 K dX3_layCover_29 (by decide) ?_ ?_
    · refine j_iconstZ K dX3_layCover_88 rfl (Or.inr rfl) ?_
      refine j_istore_n K dX3_layCover_89 rfl rfl ?_
      exact sb_X3_layCover_90 hG hl K hr hnm hxt hnd FU _ _ _
    · refine j_aload_n K dX3_layCover_32 rfl ?_
      refine j_getA (k := 4) 18 K dX3_layCover_33 rfl rfl rfl q1260 rfl rfl (by decide) rfl rfl rfl ?_
      refine j_iload_n K dX3_layCover_36 rfl ?_
      refine j_ib (fun hi1 => ?_)
      refine j_ial K dX3_layCover_37 rfl (fxLen 18 rfl rfl) hi1 ?_
      refine j_if_eq 44 K dX3_layCover_38 (by decide) ?_ ?_
      · refine j_aload_n K dX3_layCover_44 rfl ?_
        refine j_getA (k := 22) 26 K dX3_layCover_45 rfl rfl rfl q1278 rfl rfl (by decide) rfl rfl rfl ?_
        refine j_aload_n K dX3_layCover_48 rfl ?_
        refine j_getA (k := 1) 15 K dX3_layCover_49 rfl rfl rfl q1257 rfl rfl (by decide) rfl rfl rfl ?_
        refine j_iload_n K dX3_layCover_52 rfl ?_
        refine j_ial K dX3_layCover_53 rfl (fxLen 15 rfl rfl) hi1 ?_
        refine j_sipush (x := 1000) K dX3_layCover_54 (by decide +kernel) ?_
        refine j_iadd K dX3_layCover_57 ?_
        refine j_dup2 K dX3_layCover_58 rfl rfl ?_
        refine j_ib (fun hi2 => ?_)
        refine j_ial K dX3_layCover_59 rfl (fxLen 26 rfl rfl) hi2 ?_
        refine j_iconstZ K dX3_layCover_60 rfl (Or.inr rfl) ?_
        refine j_iadd K dX3_layCover_61 ?_
        refine j_ias K dX3_layCover_62 rfl (fxLen2 26 rfl rfl) hi2 ?_
        refine j_aload_n K dX3_layCover_63 rfl ?_
        refine j_getA (k := 22) 26 K dX3_layCover_64 rfl rfl rfl q1278 rfl rfl (by decide) rfl rfl rfl ?_
        refine j_aload_n K dX3_layCover_67 rfl ?_
        refine j_getA (k := 2) 16 K dX3_layCover_68 rfl rfl rfl q1258 rfl rfl (by decide) rfl rfl rfl ?_
        refine j_iload_n K dX3_layCover_71 rfl ?_
        refine j_ial K dX3_layCover_72 rfl (fxLen 16 rfl rfl) hi1 ?_
        refine j_sipush (x := 1001) K dX3_layCover_73 (by decide +kernel) ?_
        refine j_iadd K dX3_layCover_76 ?_
        refine j_dup2 K dX3_layCover_77 rfl rfl ?_
        refine j_ib (fun hi3 => ?_)
        refine j_ial K dX3_layCover_78 rfl (fxLen 26 rfl rfl) hi3 ?_
        refine j_iconstZ K dX3_layCover_79 rfl (Or.inr rfl) ?_
        refine j_isub K dX3_layCover_80 ?_
        refine j_ias K dX3_layCover_81 rfl (fxLen2 26 rfl rfl) hi3 ?_
        exact sb_X3_layCover_82 hG hl K hr hnm hxt hnd ih _ _ _
      · refine j_goto 82 K dX3_layCover_41 (by decide) ?_
        exact sb_X3_layCover_82 hG hl K hr hnm hxt hnd ih _ _ _
theorem sb_X3_layCover_2 {G : Gx} (hG : GW G) {M : Mx} (hl : (mL M).stackTraces = false) {w0 : Wd} {d : Nat} (K : Cx (G, true, M, 2, w0) cX3_layCover "IntervalTreeModel" (d + 1)) (hr : (mH M).sig.returnType = none) (hnm : (mH M).name = yX3_layCover.name) (hxt : ∀ x ∈ (mC M).exceptionTable.toList, False) (hnd : (mS M).methodNamed? yX3_layCover = some (mM M)) : ∀ (n : Nat), ∀ (x1 : Int32) (w : Wd) (fx1 : Bool), Jf (G, true, M, 2, w0) (rrV G pU) (b_X3_layCover_2 d n x1 w) w 2 [some (aR 3 (some 30)), some (aB fx1 x1)] [] := by
  intro n
  induction n with
  | zero => intros; exact j_none
  | succ n ih =>
    intro x1 w fx1
    refine j_iload_n K dX3_layCover_2 rfl ?_
    refine j_sipush (x := 2002) K dX3_layCover_3 (by decide +kernel) ?_
    refine j_icmp_ge 22 K dX3_layCover_6 (by decide) ?_ ?_
    · refine j_iconstZ K dX3_layCover_22 rfl (Or.inl rfl) ?_
      refine j_istore_n K dX3_layCover_23 rfl rfl ?_
      exact sb_X3_layCover_24 hG hl K hr hnm hxt hnd FU _ _ _
    · refine j_aload_n K dX3_layCover_9 rfl ?_
      refine j_getA (k := 22) 26 K dX3_layCover_10 rfl rfl rfl q1278 rfl rfl (by decide) rfl rfl rfl ?_
      refine j_iload_n K dX3_layCover_13 rfl ?_
      refine j_iconstZ K dX3_layCover_14 rfl (Or.inl rfl) ?_
      refine j_ib (fun hi1 => ?_)
      refine j_ias K dX3_layCover_15 rfl (fxLen2 26 rfl rfl) hi1 ?_
      refine j_iinc (y := 1) K dX3_layCover_16 rfl rfl rfl rfl ?_
      refine j_goto 2 K dX3_layCover_19 (by decide) ?_
      exact ih _ _ _
theorem sim_X3_layCover {G : Gx} (hG : GW G) {l : Launch} (hl : l.stackTraces = false) (d : Nat) (w : Wd) : Mt G true l yX3_layCover (ws_ yX3_layCover cX3_layCover 2 (none)) d (rrV G pU) [aR 3 (some 30)] w (f_X3_layCover d w) := by
  refine Mt.of (own := "IntervalTreeModel") hG hl (by decide +kernel) rfl rfl ?_
  intro M hM hr hnm hxt hnd K
  subst hM
  cases d with
  | zero => exact j_none
  | succ d =>
    refine j_iconstZ K dX3_layCover_0 rfl (Or.inl rfl) ?_
    refine j_istore_n K dX3_layCover_1 rfl rfl ?_
    exact sb_X3_layCover_2 hG hl K hr hnm hxt hnd FU _ _ _

theorem pm_X3_covered : yX3_covered.cls = RX3 ∧ yX3_covered.cls ≠ "java/lang/invoke/MethodHandle" ∧ yX3_covered.cls ≠ "java/lang/invoke/VarHandle" ∧ (parseMethodDescriptor yX3_covered.desc).map (fun d => d.parameters.length) = some 2 := by decide +kernel
def b_X3_covered_29 (d : Nat) (w : Wd) : Option (Wd × Int32) :=
  (f_X3_fails d 1 w).bind fun r2 =>
  some (r2.1, r2.2)
def b_X3_covered_82 (d : Nat) (k50 : Int32 → Int32 → Int32 → Wd → Option (Wd × Int32)) (x2 : Int32) (x4 : Int32) (s0 : Int32) (s1 : Int32) (w : Wd) : Option (Wd × Int32) :=
  k50 x2 (s0 + s1) (x4 + 1) w
def b_X3_covered_50 (d : Nat) : Nat → Int32 → Int32 → Int32 → Wd → Option (Wd × Int32)
  | 0, _, _, _, _ => none
  | n + 1, x2, x3, x4, w =>
    if (mmin x2 1000) < x4 then
      some (w, x3)
    else
      if ib (x4 + 1000) 2002 = true then
        if (gI w 42 (x4 + 1000).toNatClampNeg) ≤ 0 then
          b_X3_covered_82 d (b_X3_covered_50 d n) x2 x4 x3 0 w
        else
          b_X3_covered_82 d (b_X3_covered_50 d n) x2 x4 x3 1 w
      else none
def f_X3_covered (d : Nat) (p1 : Int32) (p2 : Int32) (w : Wd) : Option (Wd × Int32) :=
  match d with
  | 0 => none
  | d + 1 =>
    (f_X3_in d p1 (-2000) 2000 (sI w 30 0 0)).bind fun r1 =>
    if r1.2 = 0 then
      b_X3_covered_29 d r1.1
    else
      (f_X3_in d p2 p1 2000 r1.1).bind fun r3 =>
      if r3.2 = 0 then
        b_X3_covered_29 d r3.1
      else
        (f_X3_layCover d r3.1).bind fun r4 =>
        b_X3_covered_50 d FU p2 0 (mmax p1 (-1000)) r4.1
theorem sb_X3_covered_29 {G : Gx} (hG : GW G) {M : Mx} (hl : (mL M).stackTraces = false) {w0 : Wd} {d : Nat} (K : Cx (G, true, M, 5, w0) cX3_covered "IntervalTreeModel" (d + 1)) (hr : (mH M).sig.returnType = some .int) (hnm : (mH M).name = yX3_covered.name) (hxt : ∀ x ∈ (mC M).exceptionTable.toList, False) (hnd : (mS M).methodNamed? yX3_covered = some (mM M)) : ∀ (w : Wd), Jf (G, true, M, 5, w0) (rrV G pI) (b_X3_covered_29 d w) w 29 [some (aR 3 (some 30)), none, none, none, none] [] := by
  intro w
  refine j_aload_n K dX3_covered_29 rfl ?_
  refine j_iconstZ K dX3_covered_30 rfl (Or.inr rfl) ?_
  refine j_callV _ K (sim_X3_fails hG hl d 1 w true) dX3_covered_31 rfl rfl q1420 q1422 qs51 q95 q1423 pm_X3_fails rfl rfl rfl rfl rfl (fun r2 _ => ?_)
  exact j_iret K hr dX3_covered_34
theorem sb_X3_covered_82 {G : Gx} (hG : GW G) {M : Mx} (hl : (mL M).stackTraces = false) {w0 : Wd} {d : Nat} (K : Cx (G, true, M, 5, w0) cX3_covered "IntervalTreeModel" (d + 1)) (hr : (mH M).sig.returnType = some .int) (hnm : (mH M).name = yX3_covered.name) (hxt : ∀ x ∈ (mC M).exceptionTable.toList, False) (hnd : (mS M).methodNamed? yX3_covered = some (mM M)) {k50 : Int32 → Int32 → Int32 → Wd → Option (Wd × Int32)} (hk50 : ∀ (x2 : Int32) (x3 : Int32) (x4 : Int32) (w : Wd) (fx2 : Bool) (fx3 : Bool) (fx4 : Bool), Jf (G, true, M, 5, w0) (rrV G pI) (k50 x2 x3 x4 w) w 50 [some (aR 3 (some 30)), none, some (aB fx2 x2), some (aB fx3 x3), some (aB fx4 x4)] []) : ∀ (x2 : Int32) (x4 : Int32) (s0 : Int32) (s1 : Int32) (w : Wd) (fx2 : Bool) (fx4 : Bool) (fs0 : Bool), Jf (G, true, M, 5, w0) (rrV G pI) (b_X3_covered_82 d k50 x2 x4 s0 s1 w) w 82 [some (aR 3 (some 30)), none, some (aB fx2 x2), none, some (aB fx4 x4)] [aB true s1, aB fs0 s0] := by
  intro x2 x4 s0 s1 w fx2 fx4 fs0
  refine j_iadd K dX3_covered_82 ?_
  refine j_istore_n K dX3_covered_83 rfl rfl ?_
  refine j_iinc (y := 1) K dX3_covered_84 rfl rfl rfl rfl ?_
  refine j_goto 50 K dX3_covered_87 (by decide) ?_
  exact j_wk (hk50 _ _ _ _ _ _ _) ⟨rfl, rfl, rfl, rfl, trivial⟩
theorem sb_X3_covered_50 {G : Gx} (hG : GW G) {M : Mx} (hl : (mL M).stackTraces = false) {w0 : Wd} {d : Nat} (K : Cx (G, true, M, 5, w0) cX3_covered "IntervalTreeModel" (d + 1)) (hr : (mH M).sig.returnType = some .int) (hnm : (mH M).name = yX3_covered.name) (hxt : ∀ x ∈ (mC M).exceptionTable.toList, False) (hnd : (mS M).methodNamed? yX3_covered = some (mM M)) : ∀ (n : Nat), ∀ (x2 : Int32) (x3 : Int32) (x4 : Int32) (w : Wd) (fx2 : Bool) (fx3 : Bool) (fx4 : Bool), Jf (G, true, M, 5, w0) (rrV G pI) (b_X3_covered_50 d n x2 x3 x4 w) w 50 [some (aR 3 (some 30)), none, some (aB fx2 x2), some (aB fx3 x3), some (aB fx4 x4)] [] := by
  intro n
  induction n with
  | zero => intros; exact j_none
  | succ n ih =>
    intro x2 x3 x4 w fx2 fx3 fx4
    refine j_iload K dX3_covered_50 rfl ?_
    refine j_iload_n K dX3_covered_52 rfl ?_
    refine j_sipush (x := 1000) K dX3_covered_53 (by decide +kernel) ?_
    refine j_mmin K dX3_covered_56 q1643 rfl ?_
    refine j_icmp_gt 90 K dX3_covered_59 (by decide) ?_ ?_
    · refine j_iload_n K dX3_covered_90 rfl ?_
      exact j_iret K hr dX3_covered_91
    · refine j_iload_n K dX3_covered_62 rfl ?_
      refine j_aload_n K dX3_covered_63 rfl ?_
      refine j_getA (k := 22) 26 K dX3_covered_64 rfl rfl rfl q1278 rfl rfl (by decide) rfl rfl rfl ?_
      refine j_iload K dX3_covered_67 rfl ?_
      refine j_sipush (x := 1000) K dX3_covered_69 (by decide +kernel) ?_
      refine j_iadd K dX3_covered_72 ?_
      refine j_ib (fun hi5 => ?_)
      refine j_ial K dX3_covered_73 rfl (fxLen 26 rfl rfl) hi5 ?_
      refine j_if_le 81 K dX3_covered_74 (by decide) ?_ ?_
      · refine j_iconstZ K dX3_covered_81 rfl (Or.inl rfl) ?_
        exact j_wk (sb_X3_covered_82 hG hl K hr hnm hxt hnd ih _ _ _ _ _ _ _ _) ⟨rfl, rfl, rfl, trivial⟩
      · refine j_iconstZ K dX3_covered_77 rfl (Or.inr rfl) ?_
        refine j_goto 82 K dX3_covered_78 (by decide) ?_
        exact j_wk (sb_X3_covered_82 hG hl K hr hnm hxt hnd ih _ _ _ _ _ _ _ _) ⟨rfl, rfl, rfl, trivial⟩
theorem sim_X3_covered {G : Gx} (hG : GW G) {l : Launch} (hl : l.stackTraces = false) (d : Nat) (p1 : Int32) (p2 : Int32) (w : Wd) (fp1 : Bool) (fp2 : Bool) : Mt G true l yX3_covered (ws_ yX3_covered cX3_covered 5 (some .int)) d (rrV G pI) [aR 3 (some 30), aB fp1 p1, aB fp2 p2] w (f_X3_covered d p1 p2 w) := by
  refine Mt.of (own := "IntervalTreeModel") hG hl (by decide +kernel) rfl rfl ?_
  intro M hM hr hnm hxt hnd K
  subst hM
  cases d with
  | zero => exact j_none
  | succ d =>
    refine j_aload_n K dX3_covered_0 rfl ?_
    refine j_iconstZ K dX3_covered_1 rfl (Or.inl rfl) ?_
    refine j_putI (k := 0) K dX3_covered_2 rfl rfl q1256 rfl (Or.inl rfl) rfl rfl rfl rfl ?_
    refine j_iload_n K dX3_covered_5 rfl ?_
    refine j_sipush (x := (-2000)) K dX3_covered_6 (by decide +kernel) ?_
    refine j_sipush (x := 2000) K dX3_covered_9 (by decide +kernel) ?_
    refine j_callS _ K (sim_X3_in hG hl d p1 (-2000) 2000 (sI w 30 0 0) fp1 false false) dX3_covered_12 q1417 q1418 q95 q1419 pm_X3_in.2 rfl rfl rfl rfl (fun r1 _ => ?_)
    refine j_if_eq 29 K dX3_covered_15 (by decide) ?_ ?_
    · exact j_wk (sb_X3_covered_29 hG hl K hr hnm hxt hnd _) ⟨rfl, trivial⟩
    · refine j_iload_n K dX3_covered_18 rfl ?_
      refine j_iload_n K dX3_covered_19 rfl ?_
      refine j_sipush (x := 2000) K dX3_covered_20 (by decide +kernel) ?_
      refine j_callS _ K (sim_X3_in hG hl d p2 p1 2000 r1.1 fp2 fp1 false) dX3_covered_23 q1417 q1418 q95 q1419 pm_X3_in.2 rfl rfl rfl rfl (fun r3 _ => ?_)
      refine j_if_ne 35 K dX3_covered_26 (by decide) ?_ ?_
      · refine j_aload_n K dX3_covered_35 rfl ?_
        refine j_callV _ K (sim_X3_layCover hG hl d r3.1) dX3_covered_36 rfl rfl q1639 q1641 qs73 q95 q1642 pm_X3_layCover rfl rfl rfl rfl rfl (fun r4 _ => ?_)
        refine j_iconstZ K dX3_covered_39 rfl (Or.inl rfl) ?_
        refine j_istore_n K dX3_covered_40 rfl rfl ?_
        refine j_iload_n K dX3_covered_41 rfl ?_
        refine j_sipush (x := (-1000)) K dX3_covered_42 (by decide +kernel) ?_
        refine j_mmax K dX3_covered_45 q1508 rfl ?_
        refine j_istore K dX3_covered_48 rfl rfl ?_
        exact j_wk (sb_X3_covered_50 hG hl K hr hnm hxt hnd FU _ _ _ _ _ _ _) ⟨rfl, rfl, rfl, rfl, trivial⟩
      · exact j_wk (sb_X3_covered_29 hG hl K hr hnm hxt hnd _) ⟨rfl, trivial⟩

theorem pm_X3_deepestPoint : yX3_deepestPoint.cls = RX3 ∧ yX3_deepestPoint.cls ≠ "java/lang/invoke/MethodHandle" ∧ yX3_deepestPoint.cls ≠ "java/lang/invoke/VarHandle" ∧ (parseMethodDescriptor yX3_deepestPoint.desc).map (fun d => d.parameters.length) = some 0 := by decide +kernel
def b_X3_deepestPoint_53 (d : Nat) (k26 : Int32 → Int32 → Wd → Option (Wd × Int32)) (x2 : Int32) (s0 : Int32) (w : Wd) : Option (Wd × Int32) :=
  k26 s0 (x2 + 1) w
def b_X3_deepestPoint_26 (d : Nat) : Nat → Int32 → Int32 → Wd → Option (Wd × Int32)
  | 0, _, _, _ => none
  | n + 1, x1, x2, w =>
    if 2001 ≤ x2 then
      some (w, (x1 - 1000))
    else
      if ib x2 2002 = true then
        if ib x1 2002 = true then
          if (gI w 42 x2.toNatClampNeg) ≤ (gI w 42 x1.toNatClampNeg) then
            b_X3_deepestPoint_53 d (b_X3_deepestPoint_26 d n) x2 x1 w
          else
            b_X3_deepestPoint_53 d (b_X3_deepestPoint_26 d n) x2 x2 w
        else none
      else none
def f_X3_deepestPoint (d : Nat) (w : Wd) : Option (Wd × Int32) :=
  match d with
  | 0 => none
  | d + 1 =>
    (f_X3_live d (sI w 30 0 0)).bind fun r1 =>
    if r1.2 = 0 then
      (f_X3_fails d 1 r1.1).bind fun r5 =>
      some (r5.1, r5.2)
    else
      (f_X3_layCover d r1.1).bind fun r2 =>
      b_X3_deepestPoint_26 d FU 0 1 r2.1
theorem sb_X3_deepestPoint_53 {G : Gx} (hG : GW G) {M : Mx} (hl : (mL M).stackTraces = false) {w0 : Wd} {d : Nat} (K : Cx (G, true, M, 3, w0) cX3_deepestPoint "IntervalTreeModel" (d + 1)) (hr : (mH M).sig.returnType = some .int) (hnm : (mH M).name = yX3_deepestPoint.name) (hxt : ∀ x ∈ (mC M).exceptionTable.toList, False) (hnd : (mS M).methodNamed? yX3_deepestPoint = some (mM M)) {k26 : Int32 → Int32 → Wd → Option (Wd × Int32)} (hk26 : ∀ (x1 : Int32) (x2 : Int32) (w : Wd) (fx1 : Bool) (fx2 : Bool), Jf (G, true, M, 3, w0) (rrV G pI) (k26 x1 x2 w) w 26 [some (aR 3 (some 30)), some (aB fx1 x1), some (aB fx2 x2)] []) : ∀ (x2 : Int32) (s0 : Int32) (w : Wd) (fx2 : Bool) (fs0 : Bool), Jf (G, true, M, 3, w0) (rrV G pI) (b_X3_deepestPoint_53 d k26 x2 s0 w) w 53 [some (aR 3 (some 30)), none, some (aB fx2 x2)] [aB fs0 s0] := by
  intro x2 s0 w fx2 fs0
  refine j_istore_n K dX3_deepestPoint_53 rfl rfl ?_
  refine j_iinc (y := 1) K dX3_deepestPoint_54 rfl rfl rfl rfl ?_
  refine j_goto 26 K dX3_deepestPoint_57 (by decide) ?_
  exact hk26 _ _ _ _ _
theorem sb_X3_deepestPoint_26 {G : Gx} (hG : GW G) {M : Mx} (hl : (mL M).stackTraces = false) {w0 : Wd} {d : Nat} (K : Cx (G, true, M, 3, w0) cX3_deepestPoint "IntervalTreeModel" (d + 1)) (hr : (mH M).sig.returnType = some .int) (hnm : (mH M).name = yX3_deepestPoint.name) (hxt : ∀ x ∈ (mC M).exceptionTable.toList, False) (hnd : (mS M).methodNamed? yX3_deepestPoint = some (mM M)) : ∀ (n : Nat), ∀ (x1 : Int32) (x2 : Int32) (w : Wd) (fx1 : Bool) (fx2 : Bool), Jf (G, true, M, 3, w0) (rrV G pI) (b_X3_deepestPoint_26 d n x1 x2 w) w 26 [some (aR 3 (some 30)), some (aB fx1 x1), some (aB fx2 x2)] [] := by
  intro n
  induction n with
  | zero => intros; exact j_none
  | succ n ih =>
    intro x1 x2 w fx1 fx2
    refine j_iload_n K dX3_deepestPoint_26 rfl ?_
    refine j_sipush (x := 2001) K dX3_deepestPoint_27 (by decide +kernel) ?_
    refine j_icmp_ge 60 K dX3_deepestPoint_30 (by decide) ?_ ?_
    · refine j_iload_n K dX3_deepestPoint_60 rfl ?_
      refine j_sipush (x := 1000) K dX3_deepestPoint_61 (by decide +kernel) ?_
      refine j_isub K dX3_deepestPoint_64 ?_
      exact j_iret K hr dX3_deepestPoint_65
    · refine j_aload_n K dX3_deepestPoint_33 rfl ?_
      refine j_getA (k := 22) 26 K dX3_deepestPoint_34 rfl rfl rfl q1278 rfl rfl (by decide) rfl rfl rfl ?_
      refine j_iload_n K dX3_deepestPoint_37 rfl ?_
      refine j_ib (fun hi3 => ?_)
      refine j_ial K dX3_deepestPoint_38 rfl (fxLen 26 rfl rfl) hi3 ?_
      refine j_aload_n K dX3_deepestPoint_39 rfl ?_
      refine j_getA (k := 22) 26 K dX3_deepestPoint_40 rfl rfl rfl q1278 rfl rfl (by decide) rfl rfl rfl ?_
      refine j_iload_n K dX3_deepestPoint_43 rfl ?_
      refine j_ib (fun hi4 => ?_)
      refine j_ial K dX3_deepestPoint_44 rfl (fxLen 26 rfl rfl) hi4 ?_
      refine j_icmp_le 52 K dX3_deepestPoint_45 (by decide) ?_ ?_
      · refine j_iload_n K dX3_deepestPoint_52 rfl ?_
        exact j_wk (sb_X3_deepestPoint_53 hG hl K hr hnm hxt hnd ih _ _ _ _ _) ⟨rfl, rfl, trivial⟩
      · refine j_iload_n K dX3_deepestPoint_48 rfl ?_
        refine j_goto 53 K dX3_deepestPoint_49 (by decide) ?_
        exact j_wk (sb_X3_deepestPoint_53 hG hl K hr hnm hxt hnd ih _ _ _ _ _) ⟨rfl, rfl, trivial⟩
theorem sim_X3_deepestPoint {G : Gx} (hG : GW G) {l : Launch} (hl : l.stackTraces = false) (d : Nat) (w : Wd) : Mt G true l yX3_deepestPoint (ws_ yX3_deepestPoint cX3_deepestPoint 3 (some .int)) d (rrV G pI) [aR 3 (some 30)] w (f_X3_deepestPoint d w) := by
  refine Mt.of (own := "IntervalTreeModel") hG hl (by decide +kernel) rfl rfl ?_
  intro M hM hr hnm hxt hnd K
  subst hM
  cases d with
  | zero => exact j_none
  | succ d =>
    refine j_aload_n K dX3_deepestPoint_0 rfl ?_
    refine j_iconstZ K dX3_deepestPoint_1 rfl (Or.inl rfl) ?_
    refine j_putI (k := 0) K dX3_deepestPoint_2 rfl rfl q1256 rfl (Or.inl rfl) rfl rfl rfl rfl ?_
    refine j_aload_n K dX3_deepestPoint_5 rfl ?_
    refine j_callV _ K (sim_X3_live hG hl d (sI w 30 0 0)) dX3_deepestPoint_6 rfl rfl q1472 q1474 qs63 q95 q1475 pm_X3_live rfl rfl rfl rfl rfl (fun r1 _ => ?_)
    refine j_if_ne 18 K dX3_deepestPoint_9 (by decide) ?_ ?_
    · refine j_aload_n K dX3_deepestPoint_18 rfl ?_
      refine j_callV _ K (sim_X3_layCover hG hl d r1.1) dX3_deepestPoint_19 rfl rfl q1639 q1641 qs73 q95 q1642 pm_X3_layCover rfl rfl rfl rfl rfl (fun r2 _ => ?_)
      refine j_iconstZ K dX3_deepestPoint_22 rfl (Or.inl rfl) ?_
      refine j_istore_n K dX3_deepestPoint_23 rfl rfl ?_
      refine j_iconstZ K dX3_deepestPoint_24 rfl (Or.inr rfl) ?_
      refine j_istore_n K dX3_deepestPoint_25 rfl rfl ?_
      exact sb_X3_deepestPoint_26 hG hl K hr hnm hxt hnd FU _ _ _ _ _
    · refine j_aload_n K dX3_deepestPoint_12 rfl ?_
      refine j_iconstZ K dX3_deepestPoint_13 rfl (Or.inr rfl) ?_
      refine j_callV _ K (sim_X3_fails hG hl d 1 r1.1 true) dX3_deepestPoint_14 rfl rfl q1420 q1422 qs51 q95 q1423 pm_X3_fails rfl rfl rfl rfl rfl (fun r5 _ => ?_)
      exact j_iret K hr dX3_deepestPoint_17

theorem pm_X3_overlapCount : yX3_overlapCount.cls = RX3 ∧ yX3_overlapCount.cls ≠ "java/lang/invoke/MethodHandle" ∧ yX3_overlapCount.cls ≠ "java/lang/invoke/VarHandle" ∧ (parseMethodDescriptor yX3_overlapCount.desc).map (fun d => d.parameters.length) = some 0 := by decide +kernel
def b_X3_overlapCount_69 (d : Nat) (k20 : Int32 → Int32 → Int32 → Wd → Option (Wd × Int32)) (x2 : Int32) (x3 : Int32) (s0 : Int32) (s1 : Int32) (w : Wd) : Option (Wd × Int32) :=
  k20 (s0 + s1) x2 (x3 + 1) w
def b_X3_overlapCount_20 (d : Nat) : Nat → (Int32 → Int32 → Wd → Option (Wd × Int32)) → Int32 → Int32 → Int32 → Wd → Option (Wd × Int32)
  | 0, _, _, _, _, _ => none
  | n + 1, k8, x1, x2, x3, w =>
    if (gI w 30 17) ≤ x3 then
      k8 x1 (x2 + 1) w
    else
      if ib x2 500 = true then
        if ib x3 500 = true then
          if ib (gI w 39 x3.toNatClampNeg) 500 = true then
            (f_X3_overlaps d (gI w 39 x2.toNatClampNeg) (gI w 31 (gI w 39 x3.toNatClampNeg).toNatClampNeg) (gI w 32 (gI w 39 x3.toNatClampNeg).toNatClampNeg) w).bind fun r5 =>
            if r5.2 = 0 then
              b_X3_overlapCount_69 d (b_X3_overlapCount_20 d n k8) x2 x3 x1 0 r5.1
            else
              b_X3_overlapCount_69 d (b_X3_overlapCount_20 d n k8) x2 x3 x1 1 r5.1
          else none
        else none
      else none
def b_X3_overlapCount_8 (d : Nat) : Nat → Int32 → Int32 → Wd → Option (Wd × Int32)
  | 0, _, _, _ => none
  | n + 1, x1, x2, w =>
    if (gI w 30 17) ≤ x2 then
      some (w, x1)
    else
      b_X3_overlapCount_20 d FU (b_X3_overlapCount_8 d n) x1 x2 (x2 + 1) w
def f_X3_overlapCount (d : Nat) (w : Wd) : Option (Wd × Int32) :=
  match d with
  | 0 => none
  | d + 1 =>
    (f_X3_layRow d w).bind fun r1 =>
    b_X3_overlapCount_8 d FU 0 0 r1.1
theorem sb_X3_overlapCount_69 {G : Gx} (hG : GW G) {M : Mx} (hl : (mL M).stackTraces = false) {w0 : Wd} {d : Nat} (K : Cx (G, true, M, 4, w0) cX3_overlapCount "IntervalTreeModel" (d + 1)) (hr : (mH M).sig.returnType = some .int) (hnm : (mH M).name = yX3_overlapCount.name) (hxt : ∀ x ∈ (mC M).exceptionTable.toList, False) (hnd : (mS M).methodNamed? yX3_overlapCount = some (mM M)) {k20 : Int32 → Int32 → Int32 → Wd → Option (Wd × Int32)} (hk20 : ∀ (x1 : Int32) (x2 : Int32) (x3 : Int32) (w : Wd) (fx1 : Bool) (fx2 : Bool) (fx3 : Bool), Jf (G, true, M, 4, w0) (rrV G pI) (k20 x1 x2 x3 w) w 20 [some (aR 3 (some 30)), some (aB fx1 x1), some (aB fx2 x2), some (aB fx3 x3)] []) : ∀ (x2 : Int32) (x3 : Int32) (s0 : Int32) (s1 : Int32) (w : Wd) (fx2 : Bool) (fx3 : Bool) (fs0 : Bool), Jf (G, true, M, 4, w0) (rrV G pI) (b_X3_overlapCount_69 d k20 x2 x3 s0 s1 w) w 69 [some (aR 3 (some 30)), none, some (aB fx2 x2), some (aB fx3 x3)] [aB true s1, aB fs0 s0] := by
  intro x2 x3 s0 s1 w fx2 fx3 fs0
  refine j_iadd K dX3_overlapCount_69 ?_
  refine j_istore_n K dX3_overlapCount_70 rfl rfl ?_
  refine j_iinc (y := 1) K dX3_overlapCount_71 rfl rfl rfl rfl ?_
  refine j_goto 20 K dX3_overlapCount_74 (by decide) ?_
  exact hk20 _ _ _ _ _ _ _
theorem sb_X3_overlapCount_20 {G : Gx} (hG : GW G) {M : Mx} (hl : (mL M).stackTraces = false) {w0 : Wd} {d : Nat} (K : Cx (G, true, M, 4, w0) cX3_overlapCount "IntervalTreeModel" (d + 1)) (hr : (mH M).sig.returnType = some .int) (hnm : (mH M).name = yX3_overlapCount.name) (hxt : ∀ x ∈ (mC M).exceptionTable.toList, False) (hnd : (mS M).methodNamed? yX3_overlapCount = some (mM M)) {k8 : Int32 → Int32 → Wd → Option (Wd × Int32)} (hk8 : ∀ (x1 : Int32) (x2 : Int32) (w : Wd) (fx1 : Bool) (fx2 : Bool), Jf (G, true, M, 4, w0) (rrV G pI) (k8 x1 x2 w) w 8 [some (aR 3 (some 30)), some (aB fx1 x1), some (aB fx2 x2), none] []) : ∀ (n : Nat), ∀ (x1 : Int32) (x2 : Int32) (x3 : Int32) (w : Wd) (fx1 : Bool) (fx2 : Bool) (fx3 : Bool), Jf (G, true, M, 4, w0) (rrV G pI) (b_X3_overlapCount_20 d n k8 x1 x2 x3 w) w 20 [some (aR 3 (some 30)), some (aB fx1 x1), some (aB fx2 x2), some (aB fx3 x3)] [] := by
  intro n
  induction n with
  | zero => intros; exact j_none
  | succ n ih =>
    intro x1 x2 x3 w fx1 fx2 fx3
    refine j_iload_n K dX3_overlapCount_20 rfl ?_
    refine j_aload_n K dX3_overlapCount_21 rfl ?_
    refine j_getI (k := 17) K dX3_overlapCount_22 rfl rfl rfl q1273 rfl rfl rfl ?_
    refine j_icmp_ge 77 K dX3_overlapCount_25 (by decide) ?_ ?_
    · refine j_iinc (y := 1) K dX3_overlapCount_77 rfl rfl rfl rfl ?_
      refine j_goto 8 K dX3_overlapCount_80 (by decide) ?_
      exact j_wk (hk8 _ _ _ _ _) ⟨rfl, rfl, rfl, trivial⟩
    · refine j_iload_n K dX3_overlapCount_28 rfl ?_
      refine j_aload_n K dX3_overlapCount_29 rfl ?_
      refine j_aload_n K dX3_overlapCount_30 rfl ?_
      refine j_getA (k := 16) 23 K dX3_overlapCount_31 rfl rfl rfl q1272 rfl rfl (by decide) rfl rfl rfl ?_
      refine j_iload_n K dX3_overlapCount_34 rfl ?_
      refine j_ib (fun hi2 => ?_)
      refine j_ial K dX3_overlapCount_35 rfl (fxLen 23 rfl rfl) hi2 ?_
      refine j_aload_n K dX3_overlapCount_36 rfl ?_
      refine j_getA (k := 1) 15 K dX3_overlapCount_37 rfl rfl rfl q1257 rfl rfl (by decide) rfl rfl rfl ?_
      refine j_aload_n K dX3_overlapCount_40 rfl ?_
      refine j_getA (k := 16) 23 K dX3_overlapCount_41 rfl rfl rfl q1272 rfl rfl (by decide) rfl rfl rfl ?_
      refine j_iload_n K dX3_overlapCount_44 rfl ?_
      refine j_ib (fun hi3 => ?_)
      refine j_ial K dX3_overlapCount_45 rfl (fxLen 23 rfl rfl) hi3 ?_
      refine j_ib (fun hi4 => ?_)
      refine j_ial K dX3_overlapCount_46 rfl (fxLen 15 rfl rfl) hi4 ?_
      refine j_aload_n K dX3_overlapCount_47 rfl ?_
      refine j_getA (k := 2) 16 K dX3_overlapCount_48 rfl rfl rfl q1258 rfl rfl (by decide) rfl rfl rfl ?_
      refine j_aload_n K dX3_overlapCount_51 rfl ?_
      refine j_getA (k := 16) 23 K dX3_overlapCount_52 rfl rfl rfl q1272 rfl rfl (by decide) rfl rfl rfl ?_
      refine j_iload_n K dX3_overlapCount_55 rfl ?_
      refine j_ial K dX3_overlapCount_56 rfl (fxLen 23 rfl rfl) hi3 ?_
      refine j_ial K dX3_overlapCount_57 rfl (fxLen 16 rfl rfl) hi4 ?_
      refine j_callV _ K (sim_X3_overlaps hG hl d (gI w 39 x2.toNatClampNeg) (gI w 31 (gI w 39 x3.toNatClampNeg).toNatClampNeg) (gI w 32 (gI w 39 x3.toNatClampNeg).toNatClampNeg) w false false false) dX3_overlapCount_58 rfl rfl q1591 q1593 qs71 q95 q1594 pm_X3_overlaps rfl rfl rfl rfl rfl (fun r5 _ => ?_)
      refine j_if_eq 68 K dX3_overlapCount_61 (by decide) ?_ ?_
      · refine j_iconstZ K dX3_overlapCount_68 rfl (Or.inl rfl) ?_
        exact j_wk (sb_X3_overlapCount_69 hG hl K hr hnm hxt hnd ih _ _ _ _ _ _ _ _) ⟨rfl, rfl, rfl, trivial⟩
      · refine j_iconstZ K dX3_overlapCount_64 rfl (Or.inr rfl) ?_
        refine j_goto 69 K dX3_overlapCount_65 (by decide) ?_
        exact j_wk (sb_X3_overlapCount_69 hG hl K hr hnm hxt hnd ih _ _ _ _ _ _ _ _) ⟨rfl, rfl, rfl, trivial⟩
theorem sb_X3_overlapCount_8 {G : Gx} (hG : GW G) {M : Mx} (hl : (mL M).stackTraces = false) {w0 : Wd} {d : Nat} (K : Cx (G, true, M, 4, w0) cX3_overlapCount "IntervalTreeModel" (d + 1)) (hr : (mH M).sig.returnType = some .int) (hnm : (mH M).name = yX3_overlapCount.name) (hxt : ∀ x ∈ (mC M).exceptionTable.toList, False) (hnd : (mS M).methodNamed? yX3_overlapCount = some (mM M)) : ∀ (n : Nat), ∀ (x1 : Int32) (x2 : Int32) (w : Wd) (fx1 : Bool) (fx2 : Bool), Jf (G, true, M, 4, w0) (rrV G pI) (b_X3_overlapCount_8 d n x1 x2 w) w 8 [some (aR 3 (some 30)), some (aB fx1 x1), some (aB fx2 x2), none] [] := by
  intro n
  induction n with
  | zero => intros; exact j_none
  | succ n ih =>
    intro x1 x2 w fx1 fx2
    refine j_iload_n K dX3_overlapCount_8 rfl ?_
    refine j_aload_n K dX3_overlapCount_9 rfl ?_
    refine j_getI (k := 17) K dX3_overlapCount_10 rfl rfl rfl q1273 rfl rfl rfl ?_
    refine j_icmp_ge 83 K dX3_overlapCount_13 (by decide) ?_ ?_
    · refine j_iload_n K dX3_overlapCount_83 rfl ?_
      exact j_iret K hr dX3_overlapCount_84
    · refine j_iload_n K dX3_overlapCount_16 rfl ?_
      refine j_iconstZ K dX3_overlapCount_17 rfl (Or.inr rfl) ?_
      refine j_iadd K dX3_overlapCount_18 ?_
      refine j_istore_n K dX3_overlapCount_19 rfl rfl ?_
      exact sb_X3_overlapCount_20 hG hl K hr hnm hxt hnd ih FU _ _ _ _ _ _ _
theorem sim_X3_overlapCount {G : Gx} (hG : GW G) {l : Launch} (hl : l.stackTraces = false) (d : Nat) (w : Wd) : Mt G true l yX3_overlapCount (ws_ yX3_overlapCount cX3_overlapCount 4 (some .int)) d (rrV G pI) [aR 3 (some 30)] w (f_X3_overlapCount d w) := by
  refine Mt.of (own := "IntervalTreeModel") hG hl (by decide +kernel) rfl rfl ?_
  intro M hM hr hnm hxt hnd K
  subst hM
  cases d with
  | zero => exact j_none
  | succ d =>
    refine j_aload_n K dX3_overlapCount_0 rfl ?_
    refine j_callV _ K (sim_X3_layRow hG hl d w) dX3_overlapCount_1 rfl rfl q1428 q1430 qs53 q95 q1431 pm_X3_layRow rfl rfl rfl rfl rfl (fun r1 _ => ?_)
    refine j_iconstZ K dX3_overlapCount_4 rfl (Or.inl rfl) ?_
    refine j_istore_n K dX3_overlapCount_5 rfl rfl ?_
    refine j_iconstZ K dX3_overlapCount_6 rfl (Or.inl rfl) ?_
    refine j_istore_n K dX3_overlapCount_7 rfl rfl ?_
    exact j_wk (sb_X3_overlapCount_8 hG hl K hr hnm hxt hnd FU _ _ _ _ _) ⟨rfl, rfl, rfl, trivial⟩

theorem pm_X3_behind : yX3_behind.cls = RX3 ∧ yX3_behind.cls ≠ "java/lang/invoke/MethodHandle" ∧ yX3_behind.cls ≠ "java/lang/invoke/VarHandle" ∧ (parseMethodDescriptor yX3_behind.desc).map (fun d => d.parameters.length) = some 1 := by decide +kernel
def b_X3_behind_2 (d : Nat) : Nat → Int32 → Int32 → Wd → Option (Wd × Int32)
  | 0, _, _, _ => none
  | n + 1, x1, x2, w =>
    if (gI w 30 17) ≤ x2 then
      some (w, x2)
    else
      if ib x2 500 = true then
        if ib (gI w 39 x2.toNatClampNeg) 500 = true then
          if x1 < (gI w 31 (gI w 39 x2.toNatClampNeg).toNatClampNeg) then
            some (w, x2)
          else
            b_X3_behind_2 d n x1 (x2 + 1) w
        else none
      else none
def f_X3_behind (d : Nat) (p1 : Int32) (w : Wd) : Option (Wd × Int32) :=
  match d with
  | 0 => none
  | d + 1 =>
    b_X3_behind_2 d FU p1 0 w
theorem sb_X3_behind_2 {G : Gx} (hG : GW G) {M : Mx} (hl : (mL M).stackTraces = false) {w0 : Wd} {d : Nat} (K : Cx (G, true, M, 3, w0) cX3_behind "IntervalTreeModel" (d + 1)) (hr : (mH M).sig.returnType = some .int) (hnm : (mH M).name = yX3_behind.name) (hxt : ∀ x ∈ (mC M).exceptionTable.toList, False) (hnd : (mS M).methodNamed? yX3_behind = some (mM M)) : ∀ (n : Nat), ∀ (x1 : Int32) (x2 : Int32) (w : Wd) (fx1 : Bool) (fx2 : Bool), Jf (G, true, M, 3, w0) (rrV G pI) (b_X3_behind_2 d n x1 x2 w) w 2 [some (aR 3 (some 30)), some (aB fx1 x1), some (aB fx2 x2)] [] := by
  intro n
  induction n with
  | zero => intros; exact j_none
  | succ n ih =>
    intro x1 x2 w fx1 fx2
    refine j_iload_n K dX3_behind_2 rfl ?_
    refine j_aload_n K dX3_behind_3 rfl ?_
    refine j_getI (k := 17) K dX3_behind_4 rfl rfl rfl q1273 rfl rfl rfl ?_
    refine j_icmp_ge 31 K dX3_behind_7 (by decide) ?_ ?_
    · refine j_iload_n K dX3_behind_31 rfl ?_
      exact j_iret K hr dX3_behind_32
    · refine j_aload_n K dX3_behind_10 rfl ?_
      refine j_getA (k := 1) 15 K dX3_behind_11 rfl rfl rfl q1257 rfl rfl (by decide) rfl rfl rfl ?_
      refine j_aload_n K dX3_behind_14 rfl ?_
      refine j_getA (k := 16) 23 K dX3_behind_15 rfl rfl rfl q1272 rfl rfl (by decide) rfl rfl rfl ?_
      refine j_iload_n K dX3_behind_18 rfl ?_
      refine j_ib (fun hi1 => ?_)
      refine j_ial K dX3_behind_19 rfl (fxLen 23 rfl rfl) hi1 ?_
      refine j_ib (fun hi2 => ?_)
      refine j_ial K dX3_behind_20 rfl (fxLen 15 rfl rfl) hi2 ?_
      refine j_iload_n K dX3_behind_21 rfl ?_
      refine j_icmp_gt 31 K dX3_behind_22 (by decide) ?_ ?_
      · refine j_iload_n K dX3_behind_31 rfl ?_
        exact j_iret K hr dX3_behind_32
      · refine j_iinc (y := 1) K dX3_behind_25 rfl rfl rfl rfl ?_
        refine j_goto 2 K dX3_behind_28 (by decide) ?_
        exact ih _ _ _ _ _
theorem sim_X3_behind {G : Gx} (hG : GW G) {l : Launch} (hl : l.stackTraces = false) (d : Nat) (p1 : Int32) (w : Wd) (fp1 : Bool) : Mt G true l yX3_behind (ws_ yX3_behind cX3_behind 3 (some .int)) d (rrV G pI) [aR 3 (some 30), aB fp1 p1] w (f_X3_behind d p1 w) := by
  refine Mt.of (own := "IntervalTreeModel") hG hl (by decide +kernel) rfl rfl ?_
  intro M hM hr hnm hxt hnd K
  subst hM
  cases d with
  | zero => exact j_none
  | succ d =>
    refine j_iconstZ K dX3_behind_0 rfl (Or.inl rfl) ?_
    refine j_istore_n K dX3_behind_1 rfl rfl ?_
    exact sb_X3_behind_2 hG hl K hr hnm hxt hnd FU _ _ _ _ _

theorem pm_X3_layBest : yX3_layBest.cls = RX3 ∧ yX3_layBest.cls ≠ "java/lang/invoke/MethodHandle" ∧ yX3_layBest.cls ≠ "java/lang/invoke/VarHandle" ∧ (parseMethodDescriptor yX3_layBest.desc).map (fun d => d.parameters.length) = some 0 := by decide +kernel
def b_X3_layBest_21 (d : Nat) : Nat → Int32 → Wd → Option (Wd × Unit)
  | 0, _, _ => none
  | n + 1, x1, w =>
    if x1 < 0 then
      some (w, ())
    else
      if ib (x1 + 1) 501 = true then
        if ib x1 500 = true then
          if ib (gI w 39 x1.toNatClampNeg) 500 = true then
            (f_X3_behind d (gI w 32 (gI w 39 x1.toNatClampNeg).toNatClampNeg) w).bind fun r6 =>
            if ib r6.2 501 = true then
              if ib x1 501 = true then
                b_X3_layBest_21 d n (x1 + (-1)) (sI r6.1 43 x1.toNatClampNeg (mmax (gI w 43 (x1 + 1).toNatClampNeg) ((gI w 33 (gI w 39 x1.toNatClampNeg).toNatClampNeg) + (gI r6.1 43 r6.2.toNatClampNeg))))
              else none
            else none
          else none
        else none
      else none
def f_X3_layBest (d : Nat) (w : Wd) : Option (Wd × Unit) :=
  match d with
  | 0 => none
  | d + 1 =>
    (f_X3_layRow d w).bind fun r1 =>
    if ib (gI r1.1 30 17) 501 = true then
      b_X3_layBest_21 d FU ((gI (sI r1.1 43 (gI r1.1 30 17).toNatClampNeg 0) 30 17) - 1) (sI r1.1 43 (gI r1.1 30 17).toNatClampNeg 0)
    else none
theorem sb_X3_layBest_21 {G : Gx} (hG : GW G) {M : Mx} (hl : (mL M).stackTraces = false) {w0 : Wd} {d : Nat} (K : Cx (G, true, M, 2, w0) cX3_layBest "IntervalTreeModel" (d + 1)) (hr : (mH M).sig.returnType = none) (hnm : (mH M).name = yX3_layBest.name) (hxt : ∀ x ∈ (mC M).exceptionTable.toList, False) (hnd : (mS M).methodNamed? yX3_layBest = some (mM M)) : ∀ (n : Nat), ∀ (x1 : Int32) (w : Wd) (fx1 : Bool), Jf (G, true, M, 2, w0) (rrV G pU) (b_X3_layBest_21 d n x1 w) w 21 [some (aR 3 (some 30)), some (aB fx1 x1)] [] := by
  intro n
  induction n with
  | zero => intros; exact j_none
  | succ n ih =>
    intro x1 w fx1
    refine j_iload_n K dX3_layBest_21 rfl ?_
    refine j_if_lt 80 K dX3_layBest_22 (by decide) ?_ ?_
    · exact j_vret K hr dX3_layBest_80
    · refine j_aload_n K dX3_layBest_25 rfl ?_
      refine j_getA (k := 23) 27 K dX3_layBest_26 rfl rfl rfl q1279 rfl rfl (by decide) rfl rfl rfl ?_
      refine j_iload_n K dX3_layBest_29 rfl ?_
      refine j_aload_n K dX3_layBest_30 rfl ?_
      refine j_getA (k := 23) 27 K dX3_layBest_31 rfl rfl rfl q1279 rfl rfl (by decide) rfl rfl rfl ?_
      refine j_iload_n K dX3_layBest_34 rfl ?_
      refine j_iconstZ K dX3_layBest_35 rfl (Or.inr rfl) ?_
      refine j_iadd K dX3_layBest_36 ?_
      refine j_ib (fun hi3 => ?_)
      refine j_ial K dX3_layBest_37 rfl (fxLen 27 rfl rfl) hi3 ?_
      refine j_aload_n K dX3_layBest_38 rfl ?_
      refine j_getA (k := 3) 17 K dX3_layBest_39 rfl rfl rfl q1259 rfl rfl (by decide) rfl rfl rfl ?_
      refine j_aload_n K dX3_layBest_42 rfl ?_
      refine j_getA (k := 16) 23 K dX3_layBest_43 rfl rfl rfl q1272 rfl rfl (by decide) rfl rfl rfl ?_
      refine j_iload_n K dX3_layBest_46 rfl ?_
      refine j_ib (fun hi4 => ?_)
      refine j_ial K dX3_layBest_47 rfl (fxLen 23 rfl rfl) hi4 ?_
      refine j_ib (fun hi5 => ?_)
      refine j_ial K dX3_layBest_48 rfl (fxLen 17 rfl rfl) hi5 ?_
      refine j_aload_n K dX3_layBest_49 rfl ?_
      refine j_getA (k := 23) 27 K dX3_layBest_50 rfl rfl rfl q1279 rfl rfl (by decide) rfl rfl rfl ?_
      refine j_aload_n K dX3_layBest_53 rfl ?_
      refine j_aload_n K dX3_layBest_54 rfl ?_
      refine j_getA (k := 2) 16 K dX3_layBest_55 rfl rfl rfl q1258 rfl rfl (by decide) rfl rfl rfl ?_
      refine j_aload_n K dX3_layBest_58 rfl ?_
      refine j_getA (k := 16) 23 K dX3_layBest_59 rfl rfl rfl q1272 rfl rfl (by decide) rfl rfl rfl ?_
      refine j_iload_n K dX3_layBest_62 rfl ?_
      refine j_ial K dX3_layBest_63 rfl (fxLen 23 rfl rfl) hi4 ?_
      refine j_ial K dX3_layBest_64 rfl (fxLen 16 rfl rfl) hi5 ?_
      refine j_callV _ K (sim_X3_behind hG hl d (gI w 32 (gI w 39 x1.toNatClampNeg).toNatClampNeg) w false) dX3_layBest_65 rfl rfl q1660 q1662 qs75 q95 q1663 pm_X3_behind rfl rfl rfl rfl rfl (fun r6 _ => ?_)
      refine j_ib (fun hi7 => ?_)
      refine j_ial K dX3_layBest_68 rfl (fxLen 27 rfl rfl) hi7 ?_
      refine j_iadd K dX3_layBest_69 ?_
      refine j_mmax K dX3_layBest_70 q1508 rfl ?_
      refine j_ib (fun hi8 => ?_)
      refine j_ias K dX3_layBest_73 rfl (fxLen2 27 rfl rfl) hi8 ?_
      refine j_iinc (y := (-1)) K dX3_layBest_74 rfl rfl rfl rfl ?_
      refine j_goto 21 K dX3_layBest_77 (by decide) ?_
      exact ih _ _ _
theorem sim_X3_layBest {G : Gx} (hG : GW G) {l : Launch} (hl : l.stackTraces = false) (d : Nat) (w : Wd) : Mt G true l yX3_layBest (ws_ yX3_layBest cX3_layBest 2 (none)) d (rrV G pU) [aR 3 (some 30)] w (f_X3_layBest d w) := by
  refine Mt.of (own := "IntervalTreeModel") hG hl (by decide +kernel) rfl rfl ?_
  intro M hM hr hnm hxt hnd K
  subst hM
  cases d with
  | zero => exact j_none
  | succ d =>
    refine j_aload_n K dX3_layBest_0 rfl ?_
    refine j_callV _ K (sim_X3_layRow hG hl d w) dX3_layBest_1 rfl rfl q1428 q1430 qs53 q95 q1431 pm_X3_layRow rfl rfl rfl rfl rfl (fun r1 _ => ?_)
    refine j_aload_n K dX3_layBest_4 rfl ?_
    refine j_getA (k := 23) 27 K dX3_layBest_5 rfl rfl rfl q1279 rfl rfl (by decide) rfl rfl rfl ?_
    refine j_aload_n K dX3_layBest_8 rfl ?_
    refine j_getI (k := 17) K dX3_layBest_9 rfl rfl rfl q1273 rfl rfl rfl ?_
    refine j_iconstZ K dX3_layBest_12 rfl (Or.inl rfl) ?_
    refine j_ib (fun hi2 => ?_)
    refine j_ias K dX3_layBest_13 rfl (fxLen2 27 rfl rfl) hi2 ?_
    refine j_aload_n K dX3_layBest_14 rfl ?_
    refine j_getI (k := 17) K dX3_layBest_15 rfl rfl rfl q1273 rfl rfl rfl ?_
    refine j_iconstZ K dX3_layBest_18 rfl (Or.inr rfl) ?_
    refine j_isub K dX3_layBest_19 ?_
    refine j_istore_n K dX3_layBest_20 rfl rfl ?_
    exact sb_X3_layBest_21 hG hl K hr hnm hxt hnd FU _ _ _

theorem pm_X3_scheduleWeight : yX3_scheduleWeight.cls = RX3 ∧ yX3_scheduleWeight.cls ≠ "java/lang/invoke/MethodHandle" ∧ yX3_scheduleWeight.cls ≠ "java/lang/invoke/VarHandle" ∧ (parseMethodDescriptor yX3_scheduleWeight.desc).map (fun d => d.parameters.length) = some 0 := by decide +kernel
def f_X3_scheduleWeight (d : Nat) (w : Wd) : Option (Wd × Int32) :=
  match d with
  | 0 => none
  | d + 1 =>
    (f_X3_layBest d w).bind fun r1 =>
    if ib 0 501 = true then
      some (r1.1, (gI r1.1 43 (Int32.toNatClampNeg 0)))
    else none
theorem sim_X3_scheduleWeight {G : Gx} (hG : GW G) {l : Launch} (hl : l.stackTraces = false) (d : Nat) (w : Wd) : Mt G true l yX3_scheduleWeight (ws_ yX3_scheduleWeight cX3_scheduleWeight 1 (some .int)) d (rrV G pI) [aR 3 (some 30)] w (f_X3_scheduleWeight d w) := by
  refine Mt.of (own := "IntervalTreeModel") hG hl (by decide +kernel) rfl rfl ?_
  intro M hM hr hnm hxt hnd K
  subst hM
  cases d with
  | zero => exact j_none
  | succ d =>
    refine j_aload_n K dX3_scheduleWeight_0 rfl ?_
    refine j_callV _ K (sim_X3_layBest hG hl d w) dX3_scheduleWeight_1 rfl rfl q1656 q1658 qs74 q95 q1659 pm_X3_layBest rfl rfl rfl rfl rfl (fun r1 _ => ?_)
    refine j_aload_n K dX3_scheduleWeight_4 rfl ?_
    refine j_getA (k := 23) 27 K dX3_scheduleWeight_5 rfl rfl rfl q1279 rfl rfl (by decide) rfl rfl rfl ?_
    refine j_iconstZ K dX3_scheduleWeight_8 rfl (Or.inl rfl) ?_
    refine j_ib (fun hi2 => ?_)
    refine j_ial K dX3_scheduleWeight_9 rfl (fxLen 27 rfl rfl) hi2 ?_
    exact j_iret K hr dX3_scheduleWeight_10

theorem pm_X3_scheduled : yX3_scheduled.cls = RX3 ∧ yX3_scheduled.cls ≠ "java/lang/invoke/MethodHandle" ∧ yX3_scheduled.cls ≠ "java/lang/invoke/VarHandle" ∧ (parseMethodDescriptor yX3_scheduled.desc).map (fun d => d.parameters.length) = some 1 := by decide +kernel
def b_X3_scheduled_117 (d : Nat) (k31 : Int32 → Int32 → Int32 → Int32 → Int32 → Wd → Option (Wd × Int32)) (x1 : Int32) (x2 : Int32) (x3 : Int32) (x4 : Int32) (x5 : Int32) (w : Wd) : Option (Wd × Int32) :=
  k31 x1 x2 x3 x4 (x5 + 1) w
def b_X3_scheduled_31 (d : Nat) : Nat → Int32 → Int32 → Int32 → Int32 → Int32 → Wd → Option (Wd × Int32)
  | 0, _, _, _, _, _, _ => none
  | n + 1, x1, x2, x3, x4, x5, w =>
    if (gI w 30 17) ≤ x5 then
      (f_X3_fails d 1 w).bind fun r2 =>
      some (r2.1, r2.2)
    else
      if ib x5 500 = true then
        if ib (gI w 39 x5.toNatClampNeg) 500 = true then
          if x4 < (gI w 31 (gI w 39 x5.toNatClampNeg).toNatClampNeg) then
            if ib (x5 + 1) 501 = true then
              if ib 0 501 = true then
                if (x2 + (gI w 43 (x5 + 1).toNatClampNeg)) = (gI w 43 (Int32.toNatClampNeg 0)) then
                  b_X3_scheduled_117 d (b_X3_scheduled_31 d n) x1 x2 x3 x4 x5 w
                else
                  if x3 = x1 then
                    some (w, (gI w 39 x5.toNatClampNeg))
                  else
                    b_X3_scheduled_117 d (b_X3_scheduled_31 d n) x1 (x2 + (gI w 33 (gI w 39 x5.toNatClampNeg).toNatClampNeg)) (x3 + 1) (gI w 32 (gI w 39 x5.toNatClampNeg).toNatClampNeg) x5 w
              else none
            else none
          else
            b_X3_scheduled_117 d (b_X3_scheduled_31 d n) x1 x2 x3 x4 x5 w
        else none
      else none
def f_X3_scheduled (d : Nat) (p1 : Int32) (w : Wd) : Option (Wd × Int32) :=
  match d with
  | 0 => none
  | d + 1 =>
    if 0 ≤ p1 then
      (f_X3_layBest d (sI w 30 0 0)).bind fun r1 =>
      b_X3_scheduled_31 d FU p1 0 0 (-1001) 0 r1.1
    else
      (f_X3_fails d 1 (sI w 30 0 0)).bind fun r7 =>
      some (r7.1, r7.2)
theorem sb_X3_scheduled_117 {G : Gx} (hG : GW G) {M : Mx} (hl : (mL M).stackTraces = false) {w0 : Wd} {d : Nat} (K : Cx (G, true, M, 7, w0) cX3_scheduled "IntervalTreeModel" (d + 1)) (hr : (mH M).sig.returnType = some .int) (hnm : (mH M).name = yX3_scheduled.name) (hxt : ∀ x ∈ (mC M).exceptionTable.toList, False) (hnd : (mS M).methodNamed? yX3_scheduled = some (mM M)) {k31 : Int32 → Int32 → Int32 → Int32 → Int32 → Wd → Option (Wd × Int32)} (hk31 : ∀ (x1 : Int32) (x2 : Int32) (x3 : Int32) (x4 : Int32) (x5 : Int32) (w : Wd) (fx1 : Bool) (fx2 : Bool) (fx3 : Bool) (fx4 : Bool) (fx5 : Bool), Jf (G, true, M, 7, w0) (rrV G pI) (k31 x1 x2 x3 x4 x5 w) w 31 [some (aR 3 (some 30)), some (aB fx1 x1), some (aB fx2 x2), some (aB fx3 x3), some (aB fx4 x4), some (aB fx5 x5), none] []) : ∀ (x1 : Int32) (x2 : Int32) (x3 : Int32) (x4 : Int32) (x5 : Int32) (w : Wd) (fx1 : Bool) (fx2 : Bool) (fx3 : Bool) (fx4 : Bool) (fx5 : Bool), Jf (G, true, M, 7, w0) (rrV G pI) (b_X3_scheduled_117 d k31 x1 x2 x3 x4 x5 w) w 117 [some (aR 3 (some 30)), some (aB fx1 x1), some (aB fx2 x2), some (aB fx3 x3), some (aB fx4 x4), some (aB fx5 x5), none] [] := by
  intro x1 x2 x3 x4 x5 w fx1 fx2 fx3 fx4 fx5
  refine j_iinc (y := 1) K dX3_scheduled_117 rfl rfl rfl rfl ?_
  refine j_goto 31 K dX3_scheduled_120 (by decide) ?_
  exact j_wk (hk31 _ _ _ _ _ _ _ _ _ _ _) ⟨rfl, rfl, rfl, rfl, rfl, rfl, trivial⟩
theorem sb_X3_scheduled_31 {G : Gx} (hG : GW G) {M : Mx} (hl : (mL M).stackTraces = false) {w0 : Wd} {d : Nat} (K : Cx (G, true, M, 7, w0) cX3_scheduled "IntervalTreeModel" (d + 1)) (hr : (mH M).sig.returnType = some .int) (hnm : (mH M).name = yX3_scheduled.name) (hxt : ∀ x ∈ (mC M).exceptionTable.toList, False) (hnd : (mS M).methodNamed? yX3_scheduled = some (mM M)) : ∀ (n : Nat), ∀ (x1 : Int32) (x2 : Int32) (x3 : Int32) (x4 : Int32) (x5 : Int32) (w : Wd) (fx1 : Bool) (fx2 : Bool) (fx3 : Bool) (fx4 : Bool) (fx5 : Bool), Jf (G, true, M, 7, w0) (rrV G pI) (b_X3_scheduled_31 d n x1 x2 x3 x4 x5 w) w 31 [some (aR 3 (some 30)), some (aB fx1 x1), some (aB fx2 x2), some (aB fx3 x3), some (aB fx4 x4), some (aB fx5 x5), none] [] := by
  intro n
  induction n with
  | zero => intros; exact j_none
  | succ n ih =>
    intro x1 x2 x3 x4 x5 w fx1 fx2 fx3 fx4 fx5
    refine j_iload K dX3_scheduled_31 rfl ?_
    refine j_aload_n K dX3_scheduled_33 rfl ?_
    refine j_getI (k := 17) K dX3_scheduled_34 rfl rfl rfl q1273 rfl rfl rfl ?_
    refine j_icmp_ge 123 K dX3_scheduled_37 (by decide) ?_ ?_
    · refine j_aload_n K dX3_scheduled_123 rfl ?_
      refine j_iconstZ K dX3_scheduled_124 rfl (Or.inr rfl) ?_
      refine j_callV _ K (sim_X3_fails hG hl d 1 w true) dX3_scheduled_125 rfl rfl q1420 q1422 qs51 q95 q1423 pm_X3_fails rfl rfl rfl rfl rfl (fun r2 _ => ?_)
      exact j_iret K hr dX3_scheduled_128
    · refine j_aload_n K dX3_scheduled_40 rfl ?_
      refine j_getA (k := 16) 23 K dX3_scheduled_41 rfl rfl rfl q1272 rfl rfl (by decide) rfl rfl rfl ?_
      refine j_iload K dX3_scheduled_44 rfl ?_
      refine j_ib (fun hi3 => ?_)
      refine j_ial K dX3_scheduled_46 rfl (fxLen 23 rfl rfl) hi3 ?_
      refine j_istore K dX3_scheduled_47 rfl rfl ?_
      refine j_aload_n K dX3_scheduled_49 rfl ?_
      refine j_getA (k := 1) 15 K dX3_scheduled_50 rfl rfl rfl q1257 rfl rfl (by decide) rfl rfl rfl ?_
      refine j_iload K dX3_scheduled_53 rfl ?_
      refine j_ib (fun hi4 => ?_)
      refine j_ial K dX3_scheduled_55 rfl (fxLen 15 rfl rfl) hi4 ?_
      refine j_iload K dX3_scheduled_56 rfl ?_
      refine j_icmp_gt 64 K dX3_scheduled_58 (by decide) ?_ ?_
      · refine j_iload_n K dX3_scheduled_64 rfl ?_
        refine j_aload_n K dX3_scheduled_65 rfl ?_
        refine j_getA (k := 23) 27 K dX3_scheduled_66 rfl rfl rfl q1279 rfl rfl (by decide) rfl rfl rfl ?_
        refine j_iload K dX3_scheduled_69 rfl ?_
        refine j_iconstZ K dX3_scheduled_71 rfl (Or.inr rfl) ?_
        refine j_iadd K dX3_scheduled_72 ?_
        refine j_ib (fun hi5 => ?_)
        refine j_ial K dX3_scheduled_73 rfl (fxLen 27 rfl rfl) hi5 ?_
        refine j_iadd K dX3_scheduled_74 ?_
        refine j_aload_n K dX3_scheduled_75 rfl ?_
        refine j_getA (k := 23) 27 K dX3_scheduled_76 rfl rfl rfl q1279 rfl rfl (by decide) rfl rfl rfl ?_
        refine j_iconstZ K dX3_scheduled_79 rfl (Or.inl rfl) ?_
        refine j_ib (fun hi6 => ?_)
        refine j_ial K dX3_scheduled_80 rfl (fxLen 27 rfl rfl) hi6 ?_
        refine j_icmp_ne 87 K dX3_scheduled_81 (by decide) ?_ ?_
        · refine j_iload_n K dX3_scheduled_87 rfl ?_
          refine j_iload_n K dX3_scheduled_88 rfl ?_
          refine j_icmp_ne 95 K dX3_scheduled_89 (by decide) ?_ ?_
          · refine j_iinc (y := 1) K dX3_scheduled_95 rfl rfl rfl rfl ?_
            refine j_iload_n K dX3_scheduled_98 rfl ?_
            refine j_aload_n K dX3_scheduled_99 rfl ?_
            refine j_getA (k := 3) 17 K dX3_scheduled_100 rfl rfl rfl q1259 rfl rfl (by decide) rfl rfl rfl ?_
            refine j_iload K dX3_scheduled_103 rfl ?_
            refine j_ial K dX3_scheduled_105 rfl (fxLen 17 rfl rfl) hi4 ?_
            refine j_iadd K dX3_scheduled_106 ?_
            refine j_istore_n K dX3_scheduled_107 rfl rfl ?_
            refine j_aload_n K dX3_scheduled_108 rfl ?_
            refine j_getA (k := 2) 16 K dX3_scheduled_109 rfl rfl rfl q1258 rfl rfl (by decide) rfl rfl rfl ?_
            refine j_iload K dX3_scheduled_112 rfl ?_
            refine j_ial K dX3_scheduled_114 rfl (fxLen 16 rfl rfl) hi4 ?_
            refine j_istore K dX3_scheduled_115 rfl rfl ?_
            exact j_wk (sb_X3_scheduled_117 hG hl K hr hnm hxt hnd ih _ _ _ _ _ _ _ _ _ _ _) ⟨rfl, rfl, rfl, rfl, rfl, rfl, trivial⟩
          · refine j_iload K dX3_scheduled_92 rfl ?_
            exact j_iret K hr dX3_scheduled_94
        · refine j_goto 117 K dX3_scheduled_84 (by decide) ?_
          exact j_wk (sb_X3_scheduled_117 hG hl K hr hnm hxt hnd ih _ _ _ _ _ _ _ _ _ _ _) ⟨rfl, rfl, rfl, rfl, rfl, rfl, trivial⟩
      · refine j_goto 117 K dX3_scheduled_61 (by decide) ?_
        exact j_wk (sb_X3_scheduled_117 hG hl K hr hnm hxt hnd ih _ _ _ _ _ _ _ _ _ _ _) ⟨rfl, rfl, rfl, rfl, rfl, rfl, trivial⟩
theorem sim_X3_scheduled {G : Gx} (hG : GW G) {l : Launch} (hl : l.stackTraces = false) (d : Nat) (p1 : Int32) (w : Wd) (fp1 : Bool) : Mt G true l yX3_scheduled (ws_ yX3_scheduled cX3_scheduled 7 (some .int)) d (rrV G pI) [aR 3 (some 30), aB fp1 p1] w (f_X3_scheduled d p1 w) := by
  refine Mt.of (own := "IntervalTreeModel") hG hl (by decide +kernel) rfl rfl ?_
  intro M hM hr hnm hxt hnd K
  subst hM
  cases d with
  | zero => exact j_none
  | succ d =>
    refine j_aload_n K dX3_scheduled_0 rfl ?_
    refine j_iconstZ K dX3_scheduled_1 rfl (Or.inl rfl) ?_
    refine j_putI (k := 0) K dX3_scheduled_2 rfl rfl q1256 rfl (Or.inl rfl) rfl rfl rfl rfl ?_
    refine j_iload_n K dX3_scheduled_5 rfl ?_
    refine j_if_ge 15 K dX3_scheduled_6 (by decide) ?_ ?_
    · refine j_aload_n K dX3_scheduled_15 rfl ?_
      refine j_callV _ K (sim_X3_layBest hG hl d (sI w 30 0 0)) dX3_scheduled_16 rfl rfl q1656 q1658 qs74 q95 q1659 pm_X3_layBest rfl rfl rfl rfl rfl (fun r1 _ => ?_)
      refine j_iconstZ K dX3_scheduled_19 rfl (Or.inl rfl) ?_
      refine j_istore_n K dX3_scheduled_20 rfl rfl ?_
      refine j_iconstZ K dX3_scheduled_21 rfl (Or.inl rfl) ?_
      refine j_istore_n K dX3_scheduled_22 rfl rfl ?_
      refine j_sipush (x := (-1001)) K dX3_scheduled_23 (by decide +kernel) ?_
      refine j_istore K dX3_scheduled_26 rfl rfl ?_
      refine j_iconstZ K dX3_scheduled_28 rfl (Or.inl rfl) ?_
      refine j_istore K dX3_scheduled_29 rfl rfl ?_
      exact j_wk (sb_X3_scheduled_31 hG hl K hr hnm hxt hnd FU _ _ _ _ _ _ _ _ _ _ _) ⟨rfl, rfl, rfl, rfl, rfl, rfl, trivial⟩
    · refine j_aload_n K dX3_scheduled_9 rfl ?_
      refine j_iconstZ K dX3_scheduled_10 rfl (Or.inr rfl) ?_
      refine j_callV _ K (sim_X3_fails hG hl d 1 (sI w 30 0 0) true) dX3_scheduled_11 rfl rfl q1420 q1422 qs51 q95 q1423 pm_X3_fails rfl rfl rfl rfl rfl (fun r7 _ => ?_)
      exact j_iret K hr dX3_scheduled_14

theorem pm_X3_piercingPoint : yX3_piercingPoint.cls = RX3 ∧ yX3_piercingPoint.cls ≠ "java/lang/invoke/MethodHandle" ∧ yX3_piercingPoint.cls ≠ "java/lang/invoke/VarHandle" ∧ (parseMethodDescriptor yX3_piercingPoint.desc).map (fun d => d.parameters.length) = some 1 := by decide +kernel
def b_X3_piercingPoint_78 (d : Nat) (k34 : Int32 → Int32 → Int32 → Int32 → Int32 → Wd → Option (Wd × Int32)) (x1 : Int32) (x2 : Int32) (x3 : Int32) (x4 : Int32) (x5 : Int32) (w : Wd) : Option (Wd × Int32) :=
  k34 x1 x2 x3 x4 (x5 + 1) w
def b_X3_piercingPoint_34 (d : Nat) : Nat → (Int32 → Int32 → Int32 → Wd → Option (Wd × Int32)) → Int32 → Int32 → Int32 → Int32 → Int32 → Wd → Option (Wd × Int32)
  | 0, _, _, _, _, _, _, _ => none
  | n + 1, k21, x1, x2, x3, x4, x5, w =>
    if (gI w 30 10) ≤ x5 then
      if x4 = 1001 then
        (f_X3_fails d 1 w).bind fun r1 =>
        some (r1.1, r1.2)
      else
        k21 x1 x4 (x3 + 1) w
    else
      if ib x5 500 = true then
        if (gI w 34 x5.toNatClampNeg) = 0 then
          if (gI w 31 x5.toNatClampNeg) ≤ x2 then
            b_X3_piercingPoint_78 d (b_X3_piercingPoint_34 d n k21) x1 x2 x3 x4 x5 w
          else
            b_X3_piercingPoint_78 d (b_X3_piercingPoint_34 d n k21) x1 x2 x3 (mmin x4 (gI w 32 x5.toNatClampNeg)) x5 w
        else
          b_X3_piercingPoint_78 d (b_X3_piercingPoint_34 d n k21) x1 x2 x3 x4 x5 w
      else none
def b_X3_piercingPoint_21 (d : Nat) : Nat → Int32 → Int32 → Int32 → Wd → Option (Wd × Int32)
  | 0, _, _, _, _ => none
  | n + 1, x1, x2, x3, w =>
    if x1 < x3 then
      some (w, x2)
    else
      b_X3_piercingPoint_34 d FU (b_X3_piercingPoint_21 d n) x1 x2 x3 1001 0 w
def f_X3_piercingPoint (d : Nat) (p1 : Int32) (w : Wd) : Option (Wd × Int32) :=
  match d with
  | 0 => none
  | d + 1 =>
    if 0 ≤ p1 then
      b_X3_piercingPoint_21 d FU p1 (-1001) 0 (sI w 30 0 0)
    else
      (f_X3_fails d 1 (sI w 30 0 0)).bind fun r1 =>
      some (r1.1, r1.2)
theorem sb_X3_piercingPoint_78 {G : Gx} (hG : GW G) {M : Mx} (hl : (mL M).stackTraces = false) {w0 : Wd} {d : Nat} (K : Cx (G, true, M, 6, w0) cX3_piercingPoint "IntervalTreeModel" (d + 1)) (hr : (mH M).sig.returnType = some .int) (hnm : (mH M).name = yX3_piercingPoint.name) (hxt : ∀ x ∈ (mC M).exceptionTable.toList, False) (hnd : (mS M).methodNamed? yX3_piercingPoint = some (mM M)) {k34 : Int32 → Int32 → Int32 → Int32 → Int32 → Wd → Option (Wd × Int32)} (hk34 : ∀ (x1 : Int32) (x2 : Int32) (x3 : Int32) (x4 : Int32) (x5 : Int32) (w : Wd) (fx1 : Bool) (fx2 : Bool) (fx3 : Bool) (fx4 : Bool) (fx5 : Bool), Jf (G, true, M, 6, w0) (rrV G pI) (k34 x1 x2 x3 x4 x5 w) w 34 [some (aR 3 (some 30)), some (aB fx1 x1), some (aB fx2 x2), some (aB fx3 x3), some (aB fx4 x4), some (aB fx5 x5)] []) : ∀ (x1 : Int32) (x2 : Int32) (x3 : Int32) (x4 : Int32) (x5 : Int32) (w : Wd) (fx1 : Bool) (fx2 : Bool) (fx3 : Bool) (fx4 : Bool) (fx5 : Bool), Jf (G, true, M, 6, w0) (rrV G pI) (b_X3_piercingPoint_78 d k34 x1 x2 x3 x4 x5 w) w 78 [some (aR 3 (some 30)), some (aB fx1 x1), some (aB fx2 x2), some (aB fx3 x3), some (aB fx4 x4), some (aB fx5 x5)] [] := by
  intro x1 x2 x3 x4 x5 w fx1 fx2 fx3 fx4 fx5
  refine j_iinc (y := 1) K dX3_piercingPoint_78 rfl rfl rfl rfl ?_
  refine j_goto 34 K dX3_piercingPoint_81 (by decide) ?_
  exact hk34 _ _ _ _ _ _ _ _ _ _ _
theorem sb_X3_piercingPoint_34 {G : Gx} (hG : GW G) {M : Mx} (hl : (mL M).stackTraces = false) {w0 : Wd} {d : Nat} (K : Cx (G, true, M, 6, w0) cX3_piercingPoint "IntervalTreeModel" (d + 1)) (hr : (mH M).sig.returnType = some .int) (hnm : (mH M).name = yX3_piercingPoint.name) (hxt : ∀ x ∈ (mC M).exceptionTable.toList, False) (hnd : (mS M).methodNamed? yX3_piercingPoint = some (mM M)) {k21 : Int32 → Int32 → Int32 → Wd → Option (Wd × Int32)} (hk21 : ∀ (x1 : Int32) (x2 : Int32) (x3 : Int32) (w : Wd) (fx1 : Bool) (fx2 : Bool) (fx3 : Bool), Jf (G, true, M, 6, w0) (rrV G pI) (k21 x1 x2 x3 w) w 21 [some (aR 3 (some 30)), some (aB fx1 x1), some (aB fx2 x2), some (aB fx3 x3), none, none] []) : ∀ (n : Nat), ∀ (x1 : Int32) (x2 : Int32) (x3 : Int32) (x4 : Int32) (x5 : Int32) (w : Wd) (fx1 : Bool) (fx2 : Bool) (fx3 : Bool) (fx4 : Bool) (fx5 : Bool), Jf (G, true, M, 6, w0) (rrV G pI) (b_X3_piercingPoint_34 d n k21 x1 x2 x3 x4 x5 w) w 34 [some (aR 3 (some 30)), some (aB fx1 x1), some (aB fx2 x2), some (aB fx3 x3), some (aB fx4 x4), some (aB fx5 x5)] [] := by
  intro n
  induction n with
  | zero => intros; exact j_none
  | succ n ih =>
    intro x1 x2 x3 x4 x5 w fx1 fx2 fx3 fx4 fx5
    refine j_iload K dX3_piercingPoint_34 rfl ?_
    refine j_aload_n K dX3_piercingPoint_36 rfl ?_
    refine j_getI (k := 10) K dX3_piercingPoint_37 rfl rfl rfl q1266 rfl rfl rfl ?_
    refine j_icmp_ge 84 K dX3_piercingPoint_40 (by decide) ?_ ?_
    · refine j_iload K dX3_piercingPoint_84 rfl ?_
      refine j_sipush (x := 1001) K dX3_piercingPoint_86 (by decide +kernel) ?_
      refine j_icmp_ne 98 K dX3_piercingPoint_89 (by decide) ?_ ?_
      · refine j_iload K dX3_piercingPoint_98 rfl ?_
        refine j_istore_n K dX3_piercingPoint_100 rfl rfl ?_
        refine j_iinc (y := 1) K dX3_piercingPoint_101 rfl rfl rfl rfl ?_
        refine j_goto 21 K dX3_piercingPoint_104 (by decide) ?_
        exact j_wk (hk21 _ _ _ _ _ _ _) ⟨rfl, rfl, rfl, rfl, trivial⟩
      · refine j_aload_n K dX3_piercingPoint_92 rfl ?_
        refine j_iconstZ K dX3_piercingPoint_93 rfl (Or.inr rfl) ?_
        refine j_callV _ K (sim_X3_fails hG hl d 1 w true) dX3_piercingPoint_94 rfl rfl q1420 q1422 qs51 q95 q1423 pm_X3_fails rfl rfl rfl rfl rfl (fun r1 _ => ?_)
        exact j_iret K hr dX3_piercingPoint_97
    · refine j_aload_n K dX3_piercingPoint_43 rfl ?_
      refine j_getA (k := 4) 18 K dX3_piercingPoint_44 rfl rfl rfl q1260 rfl rfl (by decide) rfl rfl rfl ?_
      refine j_iload K dX3_piercingPoint_47 rfl ?_
      refine j_ib (fun hi2 => ?_)
      refine j_ial K dX3_piercingPoint_49 rfl (fxLen 18 rfl rfl) hi2 ?_
      refine j_if_ne 78 K dX3_piercingPoint_50 (by decide) ?_ ?_
      · exact sb_X3_piercingPoint_78 hG hl K hr hnm hxt hnd ih _ _ _ _ _ _ _ _ _ _ _
      · refine j_aload_n K dX3_piercingPoint_53 rfl ?_
        refine j_getA (k := 1) 15 K dX3_piercingPoint_54 rfl rfl rfl q1257 rfl rfl (by decide) rfl rfl rfl ?_
        refine j_iload K dX3_piercingPoint_57 rfl ?_
        refine j_ial K dX3_piercingPoint_59 rfl (fxLen 15 rfl rfl) hi2 ?_
        refine j_iload_n K dX3_piercingPoint_60 rfl ?_
        refine j_icmp_le 78 K dX3_piercingPoint_61 (by decide) ?_ ?_
        · exact sb_X3_piercingPoint_78 hG hl K hr hnm hxt hnd ih _ _ _ _ _ _ _ _ _ _ _
        · refine j_iload K dX3_piercingPoint_64 rfl ?_
          refine j_aload_n K dX3_piercingPoint_66 rfl ?_
          refine j_getA (k := 2) 16 K dX3_piercingPoint_67 rfl rfl rfl q1258 rfl rfl (by decide) rfl rfl rfl ?_
          refine j_iload K dX3_piercingPoint_70 rfl ?_
          refine j_ial K dX3_piercingPoint_72 rfl (fxLen 16 rfl rfl) hi2 ?_
          refine j_mmin K dX3_piercingPoint_73 q1643 rfl ?_
          refine j_istore K dX3_piercingPoint_76 rfl rfl ?_
          exact sb_X3_piercingPoint_78 hG hl K hr hnm hxt hnd ih _ _ _ _ _ _ _ _ _ _ _
theorem sb_X3_piercingPoint_21 {G : Gx} (hG : GW G) {M : Mx} (hl : (mL M).stackTraces = false) {w0 : Wd} {d : Nat} (K : Cx (G, true, M, 6, w0) cX3_piercingPoint "IntervalTreeModel" (d + 1)) (hr : (mH M).sig.returnType = some .int) (hnm : (mH M).name = yX3_piercingPoint.name) (hxt : ∀ x ∈ (mC M).exceptionTable.toList, False) (hnd : (mS M).methodNamed? yX3_piercingPoint = some (mM M)) : ∀ (n : Nat), ∀ (x1 : Int32) (x2 : Int32) (x3 : Int32) (w : Wd) (fx1 : Bool) (fx2 : Bool) (fx3 : Bool), Jf (G, true, M, 6, w0) (rrV G pI) (b_X3_piercingPoint_21 d n x1 x2 x3 w) w 21 [some (aR 3 (some 30)), some (aB fx1 x1), some (aB fx2 x2), some (aB fx3 x3), none, none] [] := by
  intro n
  induction n with
  | zero => intros; exact j_none
  | succ n ih =>
    intro x1 x2 x3 w fx1 fx2 fx3
    refine j_iload_n K dX3_piercingPoint_21 rfl ?_
    refine j_iload_n K dX3_piercingPoint_22 rfl ?_
    refine j_icmp_gt 107 K dX3_piercingPoint_23 (by decide) ?_ ?_
    · refine j_iload_n K dX3_piercingPoint_107 rfl ?_
      exact j_iret K hr dX3_piercingPoint_108
    · refine j_sipush (x := 1001) K dX3_piercingPoint_26 (by decide +kernel) ?_
      refine j_istore K dX3_piercingPoint_29 rfl rfl ?_
      refine j_iconstZ K dX3_piercingPoint_31 rfl (Or.inl rfl) ?_
      refine j_istore K dX3_piercingPoint_32 rfl rfl ?_
      exact sb_X3_piercingPoint_34 hG hl K hr hnm hxt hnd ih FU _ _ _ _ _ _ _ _ _ _ _
theorem sim_X3_piercingPoint {G : Gx} (hG : GW G) {l : Launch} (hl : l.stackTraces = false) (d : Nat) (p1 : Int32) (w : Wd) (fp1 : Bool) : Mt G true l yX3_piercingPoint (ws_ yX3_piercingPoint cX3_piercingPoint 6 (some .int)) d (rrV G pI) [aR 3 (some 30), aB fp1 p1] w (f_X3_piercingPoint d p1 w) := by
  refine Mt.of (own := "IntervalTreeModel") hG hl (by decide +kernel) rfl rfl ?_
  intro M hM hr hnm hxt hnd K
  subst hM
  cases d with
  | zero => exact j_none
  | succ d =>
    refine j_aload_n K dX3_piercingPoint_0 rfl ?_
    refine j_iconstZ K dX3_piercingPoint_1 rfl (Or.inl rfl) ?_
    refine j_putI (k := 0) K dX3_piercingPoint_2 rfl rfl q1256 rfl (Or.inl rfl) rfl rfl rfl rfl ?_
    refine j_iload_n K dX3_piercingPoint_5 rfl ?_
    refine j_if_ge 15 K dX3_piercingPoint_6 (by decide) ?_ ?_
    · refine j_sipush (x := (-1001)) K dX3_piercingPoint_15 (by decide +kernel) ?_
      refine j_istore_n K dX3_piercingPoint_18 rfl rfl ?_
      refine j_iconstZ K dX3_piercingPoint_19 rfl (Or.inl rfl) ?_
      refine j_istore_n K dX3_piercingPoint_20 rfl rfl ?_
      exact j_wk (sb_X3_piercingPoint_21 hG hl K hr hnm hxt hnd FU _ _ _ _ _ _ _) ⟨rfl, rfl, rfl, rfl, trivial⟩
    · refine j_aload_n K dX3_piercingPoint_9 rfl ?_
      refine j_iconstZ K dX3_piercingPoint_10 rfl (Or.inr rfl) ?_
      refine j_callV _ K (sim_X3_fails hG hl d 1 (sI w 30 0 0) true) dX3_piercingPoint_11 rfl rfl q1420 q1422 qs51 q95 q1423 pm_X3_fails rfl rfl rfl rfl rfl (fun r1 _ => ?_)
      exact j_iret K hr dX3_piercingPoint_14

theorem pm_X3_adds : yX3_adds.cls = RX3 ∧ yX3_adds.cls ≠ "java/lang/invoke/MethodHandle" ∧ yX3_adds.cls ≠ "java/lang/invoke/VarHandle" ∧ (parseMethodDescriptor yX3_adds.desc).map (fun d => d.parameters.length) = some 4 := by decide +kernel
def f_X3_adds (d : Nat) (p1 : Int32) (p2 : Int32) (p3 : Int32) (p4 : Int32) (w : Wd) : Option (Wd × Int32) :=
  match d with
  | 0 => none
  | d + 1 =>
    if (gI w 30 24) = 8 then
      (f_X3_fails d 2 w).bind fun r5 =>
      some (r5.1, r5.2)
    else
      if ib (gI w 30 24) 8 = true then
        if ib (gI (sI w 44 (gI w 30 24).toNatClampNeg p1) 30 24) 8 = true then
          if ib (gI (sI (sI w 44 (gI w 30 24).toNatClampNeg p1) 45 (gI (sI w 44 (gI w 30 24).toNatClampNeg p1) 30 24).toNatClampNeg p2) 30 24) 8 = true then
            if ib (gI (sI (sI (sI w 44 (gI w 30 24).toNatClampNeg p1) 45 (gI (sI w 44 (gI w 30 24).toNatClampNeg p1) 30 24).toNatClampNeg p2) 46 (gI (sI (sI w 44 (gI w 30 24).toNatClampNeg p1) 45 (gI (sI w 44 (gI w 30 24).toNatClampNeg p1) 30 24).toNatClampNeg p2) 30 24).toNatClampNeg p3) 30 24) 8 = true then
              some (sI (sI (sI (sI (sI w 44 (gI w 30 24).toNatClampNeg p1) 45 (gI (sI w 44 (gI w 30 24).toNatClampNeg p1) 30 24).toNatClampNeg p2) 46 (gI (sI (sI w 44 (gI w 30 24).toNatClampNeg p1) 45 (gI (sI w 44 (gI w 30 24).toNatClampNeg p1) 30 24).toNatClampNeg p2) 30 24).toNatClampNeg p3) 47 (gI (sI (sI (sI w 44 (gI w 30 24).toNatClampNeg p1) 45 (gI (sI w 44 (gI w 30 24).toNatClampNeg p1) 30 24).toNatClampNeg p2) 46 (gI (sI (sI w 44 (gI w 30 24).toNatClampNeg p1) 45 (gI (sI w 44 (gI w 30 24).toNatClampNeg p1) 30 24).toNatClampNeg p2) 30 24).toNatClampNeg p3) 30 24).toNatClampNeg p4) 30 24 ((gI (sI (sI (sI (sI w 44 (gI w 30 24).toNatClampNeg p1) 45 (gI (sI w 44 (gI w 30 24).toNatClampNeg p1) 30 24).toNatClampNeg p2) 46 (gI (sI (sI w 44 (gI w 30 24).toNatClampNeg p1) 45 (gI (sI w 44 (gI w 30 24).toNatClampNeg p1) 30 24).toNatClampNeg p2) 30 24).toNatClampNeg p3) 47 (gI (sI (sI (sI w 44 (gI w 30 24).toNatClampNeg p1) 45 (gI (sI w 44 (gI w 30 24).toNatClampNeg p1) 30 24).toNatClampNeg p2) 46 (gI (sI (sI w 44 (gI w 30 24).toNatClampNeg p1) 45 (gI (sI w 44 (gI w 30 24).toNatClampNeg p1) 30 24).toNatClampNeg p2) 30 24).toNatClampNeg p3) 30 24).toNatClampNeg p4) 30 24) + 1), ((gI (sI (sI (sI (sI (sI w 44 (gI w 30 24).toNatClampNeg p1) 45 (gI (sI w 44 (gI w 30 24).toNatClampNeg p1) 30 24).toNatClampNeg p2) 46 (gI (sI (sI w 44 (gI w 30 24).toNatClampNeg p1) 45 (gI (sI w 44 (gI w 30 24).toNatClampNeg p1) 30 24).toNatClampNeg p2) 30 24).toNatClampNeg p3) 47 (gI (sI (sI (sI w 44 (gI w 30 24).toNatClampNeg p1) 45 (gI (sI w 44 (gI w 30 24).toNatClampNeg p1) 30 24).toNatClampNeg p2) 46 (gI (sI (sI w 44 (gI w 30 24).toNatClampNeg p1) 45 (gI (sI w 44 (gI w 30 24).toNatClampNeg p1) 30 24).toNatClampNeg p2) 30 24).toNatClampNeg p3) 30 24).toNatClampNeg p4) 30 24 ((gI (sI (sI (sI (sI w 44 (gI w 30 24).toNatClampNeg p1) 45 (gI (sI w 44 (gI w 30 24).toNatClampNeg p1) 30 24).toNatClampNeg p2) 46 (gI (sI (sI w 44 (gI w 30 24).toNatClampNeg p1) 45 (gI (sI w 44 (gI w 30 24).toNatClampNeg p1) 30 24).toNatClampNeg p2) 30 24).toNatClampNeg p3) 47 (gI (sI (sI (sI w 44 (gI w 30 24).toNatClampNeg p1) 45 (gI (sI w 44 (gI w 30 24).toNatClampNeg p1) 30 24).toNatClampNeg p2) 46 (gI (sI (sI w 44 (gI w 30 24).toNatClampNeg p1) 45 (gI (sI w 44 (gI w 30 24).toNatClampNeg p1) 30 24).toNatClampNeg p2) 30 24).toNatClampNeg p3) 30 24).toNatClampNeg p4) 30 24) + 1)) 30 24) - 1))
            else none
          else none
        else none
      else none
theorem sim_X3_adds {G : Gx} (hG : GW G) {l : Launch} (hl : l.stackTraces = false) (d : Nat) (p1 : Int32) (p2 : Int32) (p3 : Int32) (p4 : Int32) (w : Wd) (fp1 : Bool) (fp2 : Bool) (fp3 : Bool) (fp4 : Bool) : Mt G true l yX3_adds (ws_ yX3_adds cX3_adds 5 (some .int)) d (rrV G pI) [aR 3 (some 30), aB fp1 p1, aB fp2 p2, aB fp3 p3, aB fp4 p4] w (f_X3_adds d p1 p2 p3 p4 w) := by
  refine Mt.of (own := "IntervalTreeModel") hG hl (by decide +kernel) rfl rfl ?_
  intro M hM hr hnm hxt hnd K
  subst hM
  cases d with
  | zero => exact j_none
  | succ d =>
    refine j_aload_n K dX3_adds_0 rfl ?_
    refine j_getI (k := 24) K dX3_adds_1 rfl rfl rfl q1280 rfl rfl rfl ?_
    refine j_bipush (x := 8) K dX3_adds_4 (by decide +kernel) ?_
    refine j_icmp_ne 15 K dX3_adds_6 (by decide) ?_ ?_
    · refine j_aload_n K dX3_adds_15 rfl ?_
      refine j_getA (k := 25) 28 K dX3_adds_16 rfl rfl rfl q1281 rfl rfl (by decide) rfl rfl rfl ?_
      refine j_aload_n K dX3_adds_19 rfl ?_
      refine j_getI (k := 24) K dX3_adds_20 rfl rfl rfl q1280 rfl rfl rfl ?_
      refine j_iload_n K dX3_adds_23 rfl ?_
      refine j_ib (fun hi1 => ?_)
      refine j_ias K dX3_adds_24 rfl (fxLen2 28 rfl rfl) hi1 ?_
      refine j_aload_n K dX3_adds_25 rfl ?_
      refine j_getA (k := 26) 29 K dX3_adds_26 rfl rfl rfl q1282 rfl rfl (by decide) rfl rfl rfl ?_
      refine j_aload_n K dX3_adds_29 rfl ?_
      refine j_getI (k := 24) K dX3_adds_30 rfl rfl rfl q1280 rfl rfl rfl ?_
      refine j_iload_n K dX3_adds_33 rfl ?_
      refine j_ib (fun hi2 => ?_)
      refine j_ias K dX3_adds_34 rfl (fxLen2 29 rfl rfl) hi2 ?_
      refine j_aload_n K dX3_adds_35 rfl ?_
      refine j_getA (k := 27) 30 K dX3_adds_36 rfl rfl rfl q1283 rfl rfl (by decide) rfl rfl rfl ?_
      refine j_aload_n K dX3_adds_39 rfl ?_
      refine j_getI (k := 24) K dX3_adds_40 rfl rfl rfl q1280 rfl rfl rfl ?_
      refine j_iload_n K dX3_adds_43 rfl ?_
      refine j_ib (fun hi3 => ?_)
      refine j_ias K dX3_adds_44 rfl (fxLen2 30 rfl rfl) hi3 ?_
      refine j_aload_n K dX3_adds_45 rfl ?_
      refine j_getA (k := 28) 31 K dX3_adds_46 rfl rfl rfl q1284 rfl rfl (by decide) rfl rfl rfl ?_
      refine j_aload_n K dX3_adds_49 rfl ?_
      refine j_getI (k := 24) K dX3_adds_50 rfl rfl rfl q1280 rfl rfl rfl ?_
      refine j_iload K dX3_adds_53 rfl ?_
      refine j_ib (fun hi4 => ?_)
      refine j_ias K dX3_adds_55 rfl (fxLen2 31 rfl rfl) hi4 ?_
      refine j_aload_n K dX3_adds_56 rfl ?_
      refine j_dup K dX3_adds_57 rfl ?_
      refine j_getI (k := 24) K dX3_adds_58 rfl rfl rfl q1280 rfl rfl rfl ?_
      refine j_iconstZ K dX3_adds_61 rfl (Or.inr rfl) ?_
      refine j_iadd K dX3_adds_62 ?_
      refine j_putI (k := 24) K dX3_adds_63 rfl rfl q1280 rfl (Or.inl rfl) rfl rfl rfl rfl ?_
      refine j_aload_n K dX3_adds_66 rfl ?_
      refine j_getI (k := 24) K dX3_adds_67 rfl rfl rfl q1280 rfl rfl rfl ?_
      refine j_iconstZ K dX3_adds_70 rfl (Or.inr rfl) ?_
      refine j_isub K dX3_adds_71 ?_
      exact j_iret K hr dX3_adds_72
    · refine j_aload_n K dX3_adds_9 rfl ?_
      refine j_iconst (x := 2) K dX3_adds_10 rfl ?_
      refine j_callV _ K (sim_X3_fails hG hl d 2 w false) dX3_adds_11 rfl rfl q1420 q1422 qs51 q95 q1423 pm_X3_fails rfl rfl rfl rfl rfl (fun r5 _ => ?_)
      exact j_iret K hr dX3_adds_14

theorem pm_X3_addRangeFilter : yX3_addRangeFilter.cls = RX3 ∧ yX3_addRangeFilter.cls ≠ "java/lang/invoke/MethodHandle" ∧ yX3_addRangeFilter.cls ≠ "java/lang/invoke/VarHandle" ∧ (parseMethodDescriptor yX3_addRangeFilter.desc).map (fun d => d.parameters.length) = some 3 := by decide +kernel
def b_X3_addRangeFilter_19 (d : Nat) (w : Wd) : Option (Wd × Int32) :=
  (f_X3_fails d 1 w).bind fun r2 =>
  some (r2.1, r2.2)
def f_X3_addRangeFilter (d : Nat) (p1 : Int32) (p2 : Int32) (p3 : Int32) (w : Wd) : Option (Wd × Int32) :=
  match d with
  | 0 => none
  | d + 1 =>
    (f_X3_in d p1 0 3 (sI w 30 0 0)).bind fun r1 =>
    if r1.2 = 0 then
      b_X3_addRangeFilter_19 d r1.1
    else
      if p2 ≤ p3 then
        (f_X3_adds d 3 p1 p2 p3 r1.1).bind fun r3 =>
        some (r3.1, r3.2)
      else
        b_X3_addRangeFilter_19 d r1.1
theorem sb_X3_addRangeFilter_19 {G : Gx} (hG : GW G) {M : Mx} (hl : (mL M).stackTraces = false) {w0 : Wd} {d : Nat} (K : Cx (G, true, M, 4, w0) cX3_addRangeFilter "IntervalTreeModel" (d + 1)) (hr : (mH M).sig.returnType = some .int) (hnm : (mH M).name = yX3_addRangeFilter.name) (hxt : ∀ x ∈ (mC M).exceptionTable.toList, False) (hnd : (mS M).methodNamed? yX3_addRangeFilter = some (mM M)) : ∀ (w : Wd), Jf (G, true, M, 4, w0) (rrV G pI) (b_X3_addRangeFilter_19 d w) w 19 [some (aR 3 (some 30)), none, none, none] [] := by
  intro w
  refine j_aload_n K dX3_addRangeFilter_19 rfl ?_
  refine j_iconstZ K dX3_addRangeFilter_20 rfl (Or.inr rfl) ?_
  refine j_callV _ K (sim_X3_fails hG hl d 1 w true) dX3_addRangeFilter_21 rfl rfl q1420 q1422 qs51 q95 q1423 pm_X3_fails rfl rfl rfl rfl rfl (fun r2 _ => ?_)
  exact j_iret K hr dX3_addRangeFilter_24
theorem sim_X3_addRangeFilter {G : Gx} (hG : GW G) {l : Launch} (hl : l.stackTraces = false) (d : Nat) (p1 : Int32) (p2 : Int32) (p3 : Int32) (w : Wd) (fp1 : Bool) (fp2 : Bool) (fp3 : Bool) : Mt G true l yX3_addRangeFilter (ws_ yX3_addRangeFilter cX3_addRangeFilter 4 (some .int)) d (rrV G pI) [aR 3 (some 30), aB fp1 p1, aB fp2 p2, aB fp3 p3] w (f_X3_addRangeFilter d p1 p2 p3 w) := by
  refine Mt.of (own := "IntervalTreeModel") hG hl (by decide +kernel) rfl rfl ?_
  intro M hM hr hnm hxt hnd K
  subst hM
  cases d with
  | zero => exact j_none
  | succ d =>
    refine j_aload_n K dX3_addRangeFilter_0 rfl ?_
    refine j_iconstZ K dX3_addRangeFilter_1 rfl (Or.inl rfl) ?_
    refine j_putI (k := 0) K dX3_addRangeFilter_2 rfl rfl q1256 rfl (Or.inl rfl) rfl rfl rfl rfl ?_
    refine j_iload_n K dX3_addRangeFilter_5 rfl ?_
    refine j_iconstZ K dX3_addRangeFilter_6 rfl (Or.inl rfl) ?_
    refine j_iconst (x := 3) K dX3_addRangeFilter_7 rfl ?_
    refine j_callS _ K (sim_X3_in hG hl d p1 0 3 (sI w 30 0 0) fp1 true false) dX3_addRangeFilter_8 q1417 q1418 q95 q1419 pm_X3_in.2 rfl rfl rfl rfl (fun r1 _ => ?_)
    refine j_if_eq 19 K dX3_addRangeFilter_11 (by decide) ?_ ?_
    · exact j_wk (sb_X3_addRangeFilter_19 hG hl K hr hnm hxt hnd _) ⟨rfl, trivial⟩
    · refine j_iload_n K dX3_addRangeFilter_14 rfl ?_
      refine j_iload_n K dX3_addRangeFilter_15 rfl ?_
      refine j_icmp_le 25 K dX3_addRangeFilter_16 (by decide) ?_ ?_
      · refine j_aload_n K dX3_addRangeFilter_25 rfl ?_
        refine j_iconst (x := 3) K dX3_addRangeFilter_26 rfl ?_
        refine j_iload_n K dX3_addRangeFilter_27 rfl ?_
        refine j_iload_n K dX3_addRangeFilter_28 rfl ?_
        refine j_iload_n K dX3_addRangeFilter_29 rfl ?_
        refine j_callV _ K (sim_X3_adds hG hl d 3 p1 p2 p3 r1.1 false fp1 fp2 fp3) dX3_addRangeFilter_30 rfl rfl q1676 q1678 qs76 q95 q1679 pm_X3_adds rfl rfl rfl rfl rfl (fun r3 _ => ?_)
        exact j_iret K hr dX3_addRangeFilter_33
      · exact j_wk (sb_X3_addRangeFilter_19 hG hl K hr hnm hxt hnd _) ⟨rfl, trivial⟩

theorem pm_X3_addHeavierFilter : yX3_addHeavierFilter.cls = RX3 ∧ yX3_addHeavierFilter.cls ≠ "java/lang/invoke/MethodHandle" ∧ yX3_addHeavierFilter.cls ≠ "java/lang/invoke/VarHandle" ∧ (parseMethodDescriptor yX3_addHeavierFilter.desc).map (fun d => d.parameters.length) = some 1 := by decide +kernel
def f_X3_addHeavierFilter (d : Nat) (p1 : Int32) (w : Wd) : Option (Wd × Int32) :=
  match d with
  | 0 => none
  | d + 1 =>
    (f_X3_isInTree d p1 (sI w 30 0 0)).bind fun r1 =>
    if r1.2 = 0 then
      (f_X3_fails d 1 r1.1).bind fun r4 =>
      some (r4.1, r4.2)
    else
      if ib p1 500 = true then
        (f_X3_adds d 4 (gI r1.1 33 p1.toNatClampNeg) 0 0 r1.1).bind fun r3 =>
        some (r3.1, r3.2)
      else none
theorem sim_X3_addHeavierFilter {G : Gx} (hG : GW G) {l : Launch} (hl : l.stackTraces = false) (d : Nat) (p1 : Int32) (w : Wd) (fp1 : Bool) : Mt G true l yX3_addHeavierFilter (ws_ yX3_addHeavierFilter cX3_addHeavierFilter 2 (some .int)) d (rrV G pI) [aR 3 (some 30), aB fp1 p1] w (f_X3_addHeavierFilter d p1 w) := by
  refine Mt.of (own := "IntervalTreeModel") hG hl (by decide +kernel) rfl rfl ?_
  intro M hM hr hnm hxt hnd K
  subst hM
  cases d with
  | zero => exact j_none
  | succ d =>
    refine j_aload_n K dX3_addHeavierFilter_0 rfl ?_
    refine j_iconstZ K dX3_addHeavierFilter_1 rfl (Or.inl rfl) ?_
    refine j_putI (k := 0) K dX3_addHeavierFilter_2 rfl rfl q1256 rfl (Or.inl rfl) rfl rfl rfl rfl ?_
    refine j_aload_n K dX3_addHeavierFilter_5 rfl ?_
    refine j_iload_n K dX3_addHeavierFilter_6 rfl ?_
    refine j_callV _ K (sim_X3_isInTree hG hl d p1 (sI w 30 0 0) fp1) dX3_addHeavierFilter_7 rfl rfl q1525 q1527 qs65 q95 q1528 pm_X3_isInTree rfl rfl rfl rfl rfl (fun r1 _ => ?_)
    refine j_if_ne 19 K dX3_addHeavierFilter_10 (by decide) ?_ ?_
    · refine j_aload_n K dX3_addHeavierFilter_19 rfl ?_
      refine j_iconst (x := 4) K dX3_addHeavierFilter_20 rfl ?_
      refine j_aload_n K dX3_addHeavierFilter_21 rfl ?_
      refine j_getA (k := 3) 17 K dX3_addHeavierFilter_22 rfl rfl rfl q1259 rfl rfl (by decide) rfl rfl rfl ?_
      refine j_iload_n K dX3_addHeavierFilter_25 rfl ?_
      refine j_ib (fun hi2 => ?_)
      refine j_ial K dX3_addHeavierFilter_26 rfl (fxLen 17 rfl rfl) hi2 ?_
      refine j_iconstZ K dX3_addHeavierFilter_27 rfl (Or.inl rfl) ?_
      refine j_iconstZ K dX3_addHeavierFilter_28 rfl (Or.inl rfl) ?_
      refine j_callV _ K (sim_X3_adds hG hl d 4 (gI r1.1 33 p1.toNatClampNeg) 0 0 r1.1 false false true true) dX3_addHeavierFilter_29 rfl rfl q1676 q1678 qs76 q95 q1679 pm_X3_adds rfl rfl rfl rfl rfl (fun r3 _ => ?_)
      exact j_iret K hr dX3_addHeavierFilter_32
    · refine j_aload_n K dX3_addHeavierFilter_13 rfl ?_
      refine j_iconstZ K dX3_addHeavierFilter_14 rfl (Or.inr rfl) ?_
      refine j_callV _ K (sim_X3_fails hG hl d 1 r1.1 true) dX3_addHeavierFilter_15 rfl rfl q1420 q1422 qs51 q95 q1423 pm_X3_fails rfl rfl rfl rfl rfl (fun r4 _ => ?_)
      exact j_iret K hr dX3_addHeavierFilter_18

theorem pm_X3_isFilter : yX3_isFilter.cls = RX3 ∧ yX3_isFilter.cls ≠ "java/lang/invoke/MethodHandle" ∧ yX3_isFilter.cls ≠ "java/lang/invoke/VarHandle" ∧ (parseMethodDescriptor yX3_isFilter.desc).map (fun d => d.parameters.length) = some 1 := by decide +kernel
def f_X3_isFilter (d : Nat) (p1 : Int32) (w : Wd) : Option (Wd × Int32) :=
  match d with
  | 0 => none
  | d + 1 =>
    (f_X3_in d p1 0 ((gI w 30 24) - 1) w).bind fun r1 =>
    some (r1.1, r1.2)
theorem sim_X3_isFilter {G : Gx} (hG : GW G) {l : Launch} (hl : l.stackTraces = false) (d : Nat) (p1 : Int32) (w : Wd) (fp1 : Bool) : Mt G true l yX3_isFilter (ws_ yX3_isFilter cX3_isFilter 2 (some .boolean)) d (rrV G pZ) [aR 3 (some 30), aB fp1 p1] w (f_X3_isFilter d p1 w) := by
  refine Mt.of (own := "IntervalTreeModel") hG hl (by decide +kernel) rfl rfl ?_
  intro M hM hr hnm hxt hnd K
  subst hM
  cases d with
  | zero => exact j_none
  | succ d =>
    refine j_iload_n K dX3_isFilter_0 rfl ?_
    refine j_iconstZ K dX3_isFilter_1 rfl (Or.inl rfl) ?_
    refine j_aload_n K dX3_isFilter_2 rfl ?_
    refine j_getI (k := 24) K dX3_isFilter_3 rfl rfl rfl q1280 rfl rfl rfl ?_
    refine j_iconstZ K dX3_isFilter_6 rfl (Or.inr rfl) ?_
    refine j_isub K dX3_isFilter_7 ?_
    refine j_callS _ K (sim_X3_in hG hl d p1 0 ((gI w 30 24) - 1) w fp1 true false) dX3_isFilter_8 q1417 q1418 q95 q1419 pm_X3_in.2 rfl rfl rfl rfl (fun r1 _ => ?_)
    exact j_zret K hr dX3_isFilter_11

theorem pm_X3_addCombinedFilter : yX3_addCombinedFilter.cls = RX3 ∧ yX3_addCombinedFilter.cls ≠ "java/lang/invoke/MethodHandle" ∧ yX3_addCombinedFilter.cls ≠ "java/lang/invoke/VarHandle" ∧ (parseMethodDescriptor yX3_addCombinedFilter.desc).map (fun d => d.parameters.length) = some 3 := by decide +kernel
def b_X3_addCombinedFilter_30 (d : Nat) (w : Wd) : Option (Wd × Int32) :=
  (f_X3_fails d 1 w).bind fun r2 =>
  some (r2.1, r2.2)
def f_X3_addCombinedFilter (d : Nat) (p1 : Int32) (p2 : Int32) (p3 : Int32) (w : Wd) : Option (Wd × Int32) :=
  match d with
  | 0 => none
  | d + 1 =>
    (f_X3_in d p1 0 2 (sI w 30 0 0)).bind fun r1 =>
    if r1.2 = 0 then
      b_X3_addCombinedFilter_30 d r1.1
    else
      (f_X3_isFilter d p2 r1.1).bind fun r3 =>
      if r3.2 = 0 then
        b_X3_addCombinedFilter_30 d r3.1
      else
        (f_X3_isFilter d p3 r3.1).bind fun r4 =>
        if r4.2 = 0 then
          b_X3_addCombinedFilter_30 d r4.1
        else
          (f_X3_adds d 5 p1 p2 p3 r4.1).bind fun r5 =>
          some (r5.1, r5.2)
theorem sb_X3_addCombinedFilter_30 {G : Gx} (hG : GW G) {M : Mx} (hl : (mL M).stackTraces = false) {w0 : Wd} {d : Nat} (K : Cx (G, true, M, 4, w0) cX3_addCombinedFilter "IntervalTreeModel" (d + 1)) (hr : (mH M).sig.returnType = some .int) (hnm : (mH M).name = yX3_addCombinedFilter.name) (hxt : ∀ x ∈ (mC M).exceptionTable.toList, False) (hnd : (mS M).methodNamed? yX3_addCombinedFilter = some (mM M)) : ∀ (w : Wd), Jf (G, true, M, 4, w0) (rrV G pI) (b_X3_addCombinedFilter_30 d w) w 30 [some (aR 3 (some 30)), none, none, none] [] := by
  intro w
  refine j_aload_n K dX3_addCombinedFilter_30 rfl ?_
  refine j_iconstZ K dX3_addCombinedFilter_31 rfl (Or.inr rfl) ?_
  refine j_callV _ K (sim_X3_fails hG hl d 1 w true) dX3_addCombinedFilter_32 rfl rfl q1420 q1422 qs51 q95 q1423 pm_X3_fails rfl rfl rfl rfl rfl (fun r2 _ => ?_)
  exact j_iret K hr dX3_addCombinedFilter_35
theorem sim_X3_addCombinedFilter {G : Gx} (hG : GW G) {l : Launch} (hl : l.stackTraces = false) (d : Nat) (p1 : Int32) (p2 : Int32) (p3 : Int32) (w : Wd) (fp1 : Bool) (fp2 : Bool) (fp3 : Bool) : Mt G true l yX3_addCombinedFilter (ws_ yX3_addCombinedFilter cX3_addCombinedFilter 4 (some .int)) d (rrV G pI) [aR 3 (some 30), aB fp1 p1, aB fp2 p2, aB fp3 p3] w (f_X3_addCombinedFilter d p1 p2 p3 w) := by
  refine Mt.of (own := "IntervalTreeModel") hG hl (by decide +kernel) rfl rfl ?_
  intro M hM hr hnm hxt hnd K
  subst hM
  cases d with
  | zero => exact j_none
  | succ d =>
    refine j_aload_n K dX3_addCombinedFilter_0 rfl ?_
    refine j_iconstZ K dX3_addCombinedFilter_1 rfl (Or.inl rfl) ?_
    refine j_putI (k := 0) K dX3_addCombinedFilter_2 rfl rfl q1256 rfl (Or.inl rfl) rfl rfl rfl rfl ?_
    refine j_iload_n K dX3_addCombinedFilter_5 rfl ?_
    refine j_iconstZ K dX3_addCombinedFilter_6 rfl (Or.inl rfl) ?_
    refine j_iconst (x := 2) K dX3_addCombinedFilter_7 rfl ?_
    refine j_callS _ K (sim_X3_in hG hl d p1 0 2 (sI w 30 0 0) fp1 true false) dX3_addCombinedFilter_8 q1417 q1418 q95 q1419 pm_X3_in.2 rfl rfl rfl rfl (fun r1 _ => ?_)
    refine j_if_eq 30 K dX3_addCombinedFilter_11 (by decide) ?_ ?_
    · exact j_wk (sb_X3_addCombinedFilter_30 hG hl K hr hnm hxt hnd _) ⟨rfl, trivial⟩
    · refine j_aload_n K dX3_addCombinedFilter_14 rfl ?_
      refine j_iload_n K dX3_addCombinedFilter_15 rfl ?_
      refine j_callV _ K (sim_X3_isFilter hG hl d p2 r1.1 fp2) dX3_addCombinedFilter_16 rfl rfl q1688 q1690 qs77 q95 q1691 pm_X3_isFilter rfl rfl rfl rfl rfl (fun r3 _ => ?_)
      refine j_if_eq 30 K dX3_addCombinedFilter_19 (by decide) ?_ ?_
      · exact j_wk (sb_X3_addCombinedFilter_30 hG hl K hr hnm hxt hnd _) ⟨rfl, trivial⟩
      · refine j_aload_n K dX3_addCombinedFilter_22 rfl ?_
        refine j_iload_n K dX3_addCombinedFilter_23 rfl ?_
        refine j_callV _ K (sim_X3_isFilter hG hl d p3 r3.1 fp3) dX3_addCombinedFilter_24 rfl rfl q1688 q1690 qs77 q95 q1691 pm_X3_isFilter rfl rfl rfl rfl rfl (fun r4 _ => ?_)
        refine j_if_ne 36 K dX3_addCombinedFilter_27 (by decide) ?_ ?_
        · refine j_aload_n K dX3_addCombinedFilter_36 rfl ?_
          refine j_iconst (x := 5) K dX3_addCombinedFilter_37 rfl ?_
          refine j_iload_n K dX3_addCombinedFilter_38 rfl ?_
          refine j_iload_n K dX3_addCombinedFilter_39 rfl ?_
          refine j_iload_n K dX3_addCombinedFilter_40 rfl ?_
          refine j_callV _ K (sim_X3_adds hG hl d 5 p1 p2 p3 r4.1 false fp1 fp2 fp3) dX3_addCombinedFilter_41 rfl rfl q1676 q1678 qs76 q95 q1679 pm_X3_adds rfl rfl rfl rfl rfl (fun r5 _ => ?_)
          exact j_iret K hr dX3_addCombinedFilter_44
        · exact j_wk (sb_X3_addCombinedFilter_30 hG hl K hr hnm hxt hnd _) ⟨rfl, trivial⟩

theorem pm_X3_feed : yX3_feed.cls = RX3 ∧ yX3_feed.cls ≠ "java/lang/invoke/MethodHandle" ∧ yX3_feed.cls ≠ "java/lang/invoke/VarHandle" ∧ (parseMethodDescriptor yX3_feed.desc).map (fun d => d.parameters.length) = some 1 := by decide +kernel
def f_X3_feed (d : Nat) (p1 : Int32) (w : Wd) : Option (Wd × Int32) :=
  match d with
  | 0 => none
  | d + 1 =>
    (f_X3_in d p1 0 255 (sI w 30 0 0)).bind fun r1 =>
    if r1.2 = 0 then
      (f_X3_fails d 1 r1.1).bind fun r4 =>
      some (r4.1, r4.2)
    else
      if (gI r1.1 30 35) = 60 then
        (f_X3_fails d 2 r1.1).bind fun r3 =>
        some (r3.1, r3.2)
      else
        if ib (gI r1.1 30 35) 60 = true then
          some (sI (sI r1.1 53 (gI r1.1 30 35).toNatClampNeg p1) 30 35 ((gI (sI r1.1 53 (gI r1.1 30 35).toNatClampNeg p1) 30 35) + 1), (gI (sI (sI r1.1 53 (gI r1.1 30 35).toNatClampNeg p1) 30 35 ((gI (sI r1.1 53 (gI r1.1 30 35).toNatClampNeg p1) 30 35) + 1)) 30 35))
        else none
theorem sim_X3_feed {G : Gx} (hG : GW G) {l : Launch} (hl : l.stackTraces = false) (d : Nat) (p1 : Int32) (w : Wd) (fp1 : Bool) : Mt G true l yX3_feed (ws_ yX3_feed cX3_feed 2 (some .int)) d (rrV G pI) [aR 3 (some 30), aB fp1 p1] w (f_X3_feed d p1 w) := by
  refine Mt.of (own := "IntervalTreeModel") hG hl (by decide +kernel) rfl rfl ?_
  intro M hM hr hnm hxt hnd K
  subst hM
  cases d with
  | zero => exact j_none
  | succ d =>
    refine j_aload_n K dX3_feed_0 rfl ?_
    refine j_iconstZ K dX3_feed_1 rfl (Or.inl rfl) ?_
    refine j_putI (k := 0) K dX3_feed_2 rfl rfl q1256 rfl (Or.inl rfl) rfl rfl rfl rfl ?_
    refine j_iload_n K dX3_feed_5 rfl ?_
    refine j_iconstZ K dX3_feed_6 rfl (Or.inl rfl) ?_
    refine j_sipush (x := 255) K dX3_feed_7 (by decide +kernel) ?_
    refine j_callS _ K (sim_X3_in hG hl d p1 0 255 (sI w 30 0 0) fp1 true false) dX3_feed_10 q1417 q1418 q95 q1419 pm_X3_in.2 rfl rfl rfl rfl (fun r1 _ => ?_)
    refine j_if_ne 22 K dX3_feed_13 (by decide) ?_ ?_
    · refine j_aload_n K dX3_feed_22 rfl ?_
      refine j_getI (k := 35) K dX3_feed_23 rfl rfl rfl q1291 rfl rfl rfl ?_
      refine j_bipush (x := 60) K dX3_feed_26 (by decide +kernel) ?_
      refine j_icmp_ne 37 K dX3_feed_28 (by decide) ?_ ?_
      · refine j_aload_n K dX3_feed_37 rfl ?_
        refine j_getA (k := 34) 37 K dX3_feed_38 rfl rfl rfl q1290 rfl rfl (by decide) rfl rfl rfl ?_
        refine j_aload_n K dX3_feed_41 rfl ?_
        refine j_getI (k := 35) K dX3_feed_42 rfl rfl rfl q1291 rfl rfl rfl ?_
        refine j_iload_n K dX3_feed_45 rfl ?_
        refine j_ib (fun hi2 => ?_)
        refine j_ias K dX3_feed_46 rfl (fxLen2 37 rfl rfl) hi2 ?_
        refine j_aload_n K dX3_feed_47 rfl ?_
        refine j_dup K dX3_feed_48 rfl ?_
        refine j_getI (k := 35) K dX3_feed_49 rfl rfl rfl q1291 rfl rfl rfl ?_
        refine j_iconstZ K dX3_feed_52 rfl (Or.inr rfl) ?_
        refine j_iadd K dX3_feed_53 ?_
        refine j_putI (k := 35) K dX3_feed_54 rfl rfl q1291 rfl (Or.inl rfl) rfl rfl rfl rfl ?_
        refine j_aload_n K dX3_feed_57 rfl ?_
        refine j_getI (k := 35) K dX3_feed_58 rfl rfl rfl q1291 rfl rfl rfl ?_
        exact j_iret K hr dX3_feed_61
      · refine j_aload_n K dX3_feed_31 rfl ?_
        refine j_iconst (x := 2) K dX3_feed_32 rfl ?_
        refine j_callV _ K (sim_X3_fails hG hl d 2 r1.1 false) dX3_feed_33 rfl rfl q1420 q1422 qs51 q95 q1423 pm_X3_fails rfl rfl rfl rfl rfl (fun r3 _ => ?_)
        exact j_iret K hr dX3_feed_36
    · refine j_aload_n K dX3_feed_16 rfl ?_
      refine j_iconstZ K dX3_feed_17 rfl (Or.inr rfl) ?_
      refine j_callV _ K (sim_X3_fails hG hl d 1 r1.1 true) dX3_feed_18 rfl rfl q1420 q1422 qs51 q95 q1423 pm_X3_fails rfl rfl rfl rfl rfl (fun r4 _ => ?_)
      exact j_iret K hr dX3_feed_21

theorem pm_X3_sign : yX3_sign.cls = RX3 ∧ yX3_sign.cls ≠ "java/lang/invoke/MethodHandle" ∧ yX3_sign.cls ≠ "java/lang/invoke/VarHandle" ∧ (parseMethodDescriptor yX3_sign.desc).map (fun d => d.parameters.length) = some 0 := by decide +kernel
def f_X3_sign (d : Nat) (w : Wd) : Option (Wd × Int32) :=
  match d with
  | 0 => none
  | d + 1 =>
    if (gI w 30 38) = 0 then
      if (gI w 30 35) ≤ (gI w 30 36) then
        some (w, (-1))
      else
        if ib (gI w 30 36) 60 = true then
          some (w, (gI w 53 (gI w 30 36).toNatClampNeg))
        else none
    else
      some (w, (-1))
theorem sim_X3_sign {G : Gx} (hG : GW G) {l : Launch} (hl : l.stackTraces = false) (d : Nat) (w : Wd) : Mt G true l yX3_sign (ws_ yX3_sign cX3_sign 1 (some .int)) d (rrV G pI) [aR 3 (some 30)] w (f_X3_sign d w) := by
  refine Mt.of (own := "IntervalTreeModel") hG hl (by decide +kernel) rfl rfl ?_
  intro M hM hr hnm hxt hnd K
  subst hM
  cases d with
  | zero => exact j_none
  | succ d =>
    refine j_aload_n K dX3_sign_0 rfl ?_
    refine j_getZ (k := 38) K dX3_sign_1 rfl rfl rfl q1294 rfl rfl rfl rfl ?_
    refine j_if_ne 30 K dX3_sign_4 (by decide) ?_ ?_
    · refine j_iconst (x := (-1)) K dX3_sign_30 rfl ?_
      exact j_iret K hr dX3_sign_31
    · refine j_aload_n K dX3_sign_7 rfl ?_
      refine j_getI (k := 36) K dX3_sign_8 rfl rfl rfl q1292 rfl rfl rfl ?_
      refine j_aload_n K dX3_sign_11 rfl ?_
      refine j_getI (k := 35) K dX3_sign_12 rfl rfl rfl q1291 rfl rfl rfl ?_
      refine j_icmp_ge 30 K dX3_sign_15 (by decide) ?_ ?_
      · refine j_iconst (x := (-1)) K dX3_sign_30 rfl ?_
        exact j_iret K hr dX3_sign_31
      · refine j_aload_n K dX3_sign_18 rfl ?_
        refine j_getA (k := 34) 37 K dX3_sign_19 rfl rfl rfl q1290 rfl rfl (by decide) rfl rfl rfl ?_
        refine j_aload_n K dX3_sign_22 rfl ?_
        refine j_getI (k := 36) K dX3_sign_23 rfl rfl rfl q1292 rfl rfl rfl ?_
        refine j_ib (fun hi1 => ?_)
        refine j_ial K dX3_sign_26 rfl (fxLen 37 rfl rfl) hi1 ?_
        refine j_goto 31 K dX3_sign_27 (by decide) ?_
        exact j_iret K hr dX3_sign_31

theorem pm_X3_part : yX3_part.cls = RX3 ∧ yX3_part.cls ≠ "java/lang/invoke/MethodHandle" ∧ yX3_part.cls ≠ "java/lang/invoke/VarHandle" ∧ (parseMethodDescriptor yX3_part.desc).map (fun d => d.parameters.length) = some 3 := by decide +kernel
def f_X3_part (d : Nat) (p1 : Int32) (p2 : Int32) (p3 : Int32) (w : Wd) : Option (Wd × Unit) :=
  match d with
  | 0 => none
  | d + 1 =>
    if (gI w 30 38) = 0 then
      if ib (gI w 30 24) 8 = true then
        if ib (((gI w 30 24) * 60) + (gI w 48 (gI w 30 24).toNatClampNeg)) 480 = true then
          if ib (gI (sI (sI (sI w 49 (((gI w 30 24) * 60) + (gI w 48 (gI w 30 24).toNatClampNeg)).toNatClampNeg p1) 50 (((gI w 30 24) * 60) + (gI w 48 (gI w 30 24).toNatClampNeg)).toNatClampNeg p2) 51 (((gI w 30 24) * 60) + (gI w 48 (gI w 30 24).toNatClampNeg)).toNatClampNeg p3) 30 24) 8 = true then
            some (sI (sI (sI (sI w 49 (((gI w 30 24) * 60) + (gI w 48 (gI w 30 24).toNatClampNeg)).toNatClampNeg p1) 50 (((gI w 30 24) * 60) + (gI w 48 (gI w 30 24).toNatClampNeg)).toNatClampNeg p2) 51 (((gI w 30 24) * 60) + (gI w 48 (gI w 30 24).toNatClampNeg)).toNatClampNeg p3) 48 (gI (sI (sI (sI w 49 (((gI w 30 24) * 60) + (gI w 48 (gI w 30 24).toNatClampNeg)).toNatClampNeg p1) 50 (((gI w 30 24) * 60) + (gI w 48 (gI w 30 24).toNatClampNeg)).toNatClampNeg p2) 51 (((gI w 30 24) * 60) + (gI w 48 (gI w 30 24).toNatClampNeg)).toNatClampNeg p3) 30 24).toNatClampNeg ((gI (sI (sI (sI w 49 (((gI w 30 24) * 60) + (gI w 48 (gI w 30 24).toNatClampNeg)).toNatClampNeg p1) 50 (((gI w 30 24) * 60) + (gI w 48 (gI w 30 24).toNatClampNeg)).toNatClampNeg p2) 51 (((gI w 30 24) * 60) + (gI w 48 (gI w 30 24).toNatClampNeg)).toNatClampNeg p3) 48 (gI (sI (sI (sI w 49 (((gI w 30 24) * 60) + (gI w 48 (gI w 30 24).toNatClampNeg)).toNatClampNeg p1) 50 (((gI w 30 24) * 60) + (gI w 48 (gI w 30 24).toNatClampNeg)).toNatClampNeg p2) 51 (((gI w 30 24) * 60) + (gI w 48 (gI w 30 24).toNatClampNeg)).toNatClampNeg p3) 30 24).toNatClampNeg) + 1), ())
          else none
        else none
      else none
    else
      some (w, ())
theorem sim_X3_part {G : Gx} (hG : GW G) {l : Launch} (hl : l.stackTraces = false) (d : Nat) (p1 : Int32) (p2 : Int32) (p3 : Int32) (w : Wd) (fp1 : Bool) (fp2 : Bool) (fp3 : Bool) : Mt G true l yX3_part (ws_ yX3_part cX3_part 5 (none)) d (rrV G pU) [aR 3 (some 30), aB fp1 p1, aB fp2 p2, aB fp3 p3] w (f_X3_part d p1 p2 p3 w) := by
  refine Mt.of (own := "IntervalTreeModel") hG hl (by decide +kernel) rfl rfl ?_
  intro M hM hr hnm hxt hnd K
  subst hM
  cases d with
  | zero => exact j_none
  | succ d =>
    refine j_aload_n K dX3_part_0 rfl ?_
    refine j_getZ (k := 38) K dX3_part_1 rfl rfl rfl q1294 rfl rfl rfl rfl ?_
    refine j_if_eq 8 K dX3_part_4 (by decide) ?_ ?_
    · refine j_aload_n K dX3_part_8 rfl ?_
      refine j_getI (k := 24) K dX3_part_9 rfl rfl rfl q1280 rfl rfl rfl ?_
      refine j_bipush (x := 60) K dX3_part_12 (by decide +kernel) ?_
      refine j_imul K dX3_part_14 ?_
      refine j_aload_n K dX3_part_15 rfl ?_
      refine j_getA (k := 29) 32 K dX3_part_16 rfl rfl rfl q1285 rfl rfl (by decide) rfl rfl rfl ?_
      refine j_aload_n K dX3_part_19 rfl ?_
      refine j_getI (k := 24) K dX3_part_20 rfl rfl rfl q1280 rfl rfl rfl ?_
      refine j_ib (fun hi1 => ?_)
      refine j_ial K dX3_part_23 rfl (fxLen 32 rfl rfl) hi1 ?_
      refine j_iadd K dX3_part_24 ?_
      refine j_istore K dX3_part_25 rfl rfl ?_
      refine j_aload_n K dX3_part_27 rfl ?_
      refine j_getA (k := 30) 33 K dX3_part_28 rfl rfl rfl q1286 rfl rfl (by decide) rfl rfl rfl ?_
      refine j_iload K dX3_part_31 rfl ?_
      refine j_iload_n K dX3_part_33 rfl ?_
      refine j_ib (fun hi2 => ?_)
      refine j_ias K dX3_part_34 rfl (fxLen2 33 rfl rfl) hi2 ?_
      refine j_aload_n K dX3_part_35 rfl ?_
      refine j_getA (k := 31) 34 K dX3_part_36 rfl rfl rfl q1287 rfl rfl (by decide) rfl rfl rfl ?_
      refine j_iload K dX3_part_39 rfl ?_
      refine j_iload_n K dX3_part_41 rfl ?_
      refine j_ias K dX3_part_42 rfl (fxLen2 34 rfl rfl) hi2 ?_
      refine j_aload_n K dX3_part_43 rfl ?_
      refine j_getA (k := 32) 35 K dX3_part_44 rfl rfl rfl q1288 rfl rfl (by decide) rfl rfl rfl ?_
      refine j_iload K dX3_part_47 rfl ?_
      refine j_iload_n K dX3_part_49 rfl ?_
      refine j_ias K dX3_part_50 rfl (fxLen2 35 rfl rfl) hi2 ?_
      refine j_aload_n K dX3_part_51 rfl ?_
      refine j_getA (k := 29) 32 K dX3_part_52 rfl rfl rfl q1285 rfl rfl (by decide) rfl rfl rfl ?_
      refine j_aload_n K dX3_part_55 rfl ?_
      refine j_getI (k := 24) K dX3_part_56 rfl rfl rfl q1280 rfl rfl rfl ?_
      refine j_dup2 K dX3_part_59 rfl rfl ?_
      refine j_ib (fun hi3 => ?_)
      refine j_ial K dX3_part_60 rfl (fxLen 32 rfl rfl) hi3 ?_
      refine j_iconstZ K dX3_part_61 rfl (Or.inr rfl) ?_
      refine j_iadd K dX3_part_62 ?_
      refine j_ias K dX3_part_63 rfl (fxLen2 32 rfl rfl) hi3 ?_
      exact j_vret K hr dX3_part_64
    · exact j_vret K hr dX3_part_7

theorem pm_X3_isDigit : yX3_isDigit.cls = RX3 ∧ yX3_isDigit.cls ≠ "java/lang/invoke/MethodHandle" ∧ yX3_isDigit.cls ≠ "java/lang/invoke/VarHandle" ∧ (parseMethodDescriptor yX3_isDigit.desc).map (fun d => d.parameters.length) = some 0 := by decide +kernel
def f_X3_isDigit (d : Nat) (w : Wd) : Option (Wd × Int32) :=
  match d with
  | 0 => none
  | d + 1 =>
    (f_X3_sign d w).bind fun r1 =>
    (f_X3_in d r1.2 48 57 r1.1).bind fun r2 =>
    some (r2.1, r2.2)
theorem sim_X3_isDigit {G : Gx} (hG : GW G) {l : Launch} (hl : l.stackTraces = false) (d : Nat) (w : Wd) : Mt G true l yX3_isDigit (ws_ yX3_isDigit cX3_isDigit 1 (some .boolean)) d (rrV G pZ) [aR 3 (some 30)] w (f_X3_isDigit d w) := by
  refine Mt.of (own := "IntervalTreeModel") hG hl (by decide +kernel) rfl rfl ?_
  intro M hM hr hnm hxt hnd K
  subst hM
  cases d with
  | zero => exact j_none
  | succ d =>
    refine j_aload_n K dX3_isDigit_0 rfl ?_
    refine j_callV _ K (sim_X3_sign hG hl d w) dX3_isDigit_1 rfl rfl q1712 q1714 qs81 q95 q1715 pm_X3_sign rfl rfl rfl rfl rfl (fun r1 _ => ?_)
    refine j_bipush (x := 48) K dX3_isDigit_4 (by decide +kernel) ?_
    refine j_bipush (x := 57) K dX3_isDigit_6 (by decide +kernel) ?_
    refine j_callS _ K (sim_X3_in hG hl d r1.2 48 57 r1.1 false false false) dX3_isDigit_8 q1417 q1418 q95 q1419 pm_X3_in.2 rfl rfl rfl rfl (fun r2 _ => ?_)
    exact j_zret K hr dX3_isDigit_11

theorem pm_X3_readReference : yX3_readReference.cls = RX3 ∧ yX3_readReference.cls ≠ "java/lang/invoke/MethodHandle" ∧ yX3_readReference.cls ≠ "java/lang/invoke/VarHandle" ∧ (parseMethodDescriptor yX3_readReference.desc).map (fun d => d.parameters.length) = some 0 := by decide +kernel
def b_X3_readReference_72 (d : Nat) (s1 : Int32) (w : Wd) : Option (Wd × Unit) :=
  if (gI (sI w 30 38 s1) 30 38) = 0 then
    (f_X3_sign d (sI w 30 38 s1)).bind fun r2 =>
    (f_X3_part d 35 0 (r2.2 - 48) r2.1).bind fun r3 =>
    some (sI r3.1 30 36 ((gI r3.1 30 36) + 1), ())
  else
    some (sI w 30 38 s1, ())
def b_X3_readReference_67 (d : Nat) (w : Wd) : Option (Wd × Unit) :=
  b_X3_readReference_72 d 1 w
def b_X3_readReference_14 (d : Nat) (s1 : Int32) (w : Wd) : Option (Wd × Unit) :=
  if (gI (sI w 30 38 s1) 30 38) = 0 then
    (f_X3_isDigit d (sI (sI (sI w 30 38 s1) 30 37 ((gI (sI w 30 38 s1) 30 37) + 1)) 30 36 ((gI (sI (sI w 30 38 s1) 30 37 ((gI (sI w 30 38 s1) 30 37) + 1)) 30 36) + 1))).bind fun r1 =>
    if r1.2 = 0 then
      b_X3_readReference_67 d r1.1
    else
      (f_X3_sign d r1.1).bind fun r2 =>
      if (r2.2 - 48) < (gI r2.1 30 24) then
        b_X3_readReference_72 d 0 r2.1
      else
        b_X3_readReference_67 d r2.1
  else
    some (sI w 30 38 s1, ())
def f_X3_readReference (d : Nat) (w : Wd) : Option (Wd × Unit) :=
  match d with
  | 0 => none
  | d + 1 =>
    if (gI w 30 37) = 2 then
      b_X3_readReference_14 d 1 w
    else
      b_X3_readReference_14 d 0 w
theorem sb_X3_readReference_72 {G : Gx} (hG : GW G) {M : Mx} (hl : (mL M).stackTraces = false) {w0 : Wd} {d : Nat} (K : Cx (G, true, M, 1, w0) cX3_readReference "IntervalTreeModel" (d + 1)) (hr : (mH M).sig.returnType = none) (hnm : (mH M).name = yX3_readReference.name) (hxt : ∀ x ∈ (mC M).exceptionTable.toList, False) (hnd : (mS M).methodNamed? yX3_readReference = some (mM M)) : ∀ (s1 : Int32) (w : Wd), Jf (G, true, M, 1, w0) (rrV G pU) (b_X3_readReference_72 d s1 w) w 72 [some (aR 3 (some 30))] [aB true s1, aR 3 (some 30)] := by
  intro s1 w
  refine j_putZ (k := 38) K dX3_readReference_72 rfl rfl q1294 rfl (Or.inl rfl) rfl rfl rfl ?_
  refine j_aload_n K dX3_readReference_75 rfl ?_
  refine j_getZ (k := 38) K dX3_readReference_76 rfl rfl rfl q1294 rfl rfl rfl rfl ?_
  refine j_if_eq 83 K dX3_readReference_79 (by decide) ?_ ?_
  · refine j_aload_n K dX3_readReference_83 rfl ?_
    refine j_bipush (x := 35) K dX3_readReference_84 (by decide +kernel) ?_
    refine j_iconstZ K dX3_readReference_86 rfl (Or.inl rfl) ?_
    refine j_aload_n K dX3_readReference_87 rfl ?_
    refine j_callV _ K (sim_X3_sign hG hl d (sI w 30 38 s1)) dX3_readReference_88 rfl rfl q1712 q1714 qs81 q95 q1715 pm_X3_sign rfl rfl rfl rfl rfl (fun r2 _ => ?_)
    refine j_bipush (x := 48) K dX3_readReference_91 (by decide +kernel) ?_
    refine j_isub K dX3_readReference_93 ?_
    refine j_callV _ K (sim_X3_part hG hl d 35 0 (r2.2 - 48) r2.1 false true false) dX3_readReference_94 rfl rfl q1716 q1718 qs82 q95 q1719 pm_X3_part rfl rfl rfl rfl rfl (fun r3 _ => ?_)
    refine j_aload_n K dX3_readReference_97 rfl ?_
    refine j_dup K dX3_readReference_98 rfl ?_
    refine j_getI (k := 36) K dX3_readReference_99 rfl rfl rfl q1292 rfl rfl rfl ?_
    refine j_iconstZ K dX3_readReference_102 rfl (Or.inr rfl) ?_
    refine j_iadd K dX3_readReference_103 ?_
    refine j_putI (k := 36) K dX3_readReference_104 rfl rfl q1292 rfl (Or.inl rfl) rfl rfl rfl rfl ?_
    exact j_vret K hr dX3_readReference_107
  · exact j_vret K hr dX3_readReference_82
theorem sb_X3_readReference_67 {G : Gx} (hG : GW G) {M : Mx} (hl : (mL M).stackTraces = false) {w0 : Wd} {d : Nat} (K : Cx (G, true, M, 1, w0) cX3_readReference "IntervalTreeModel" (d + 1)) (hr : (mH M).sig.returnType = none) (hnm : (mH M).name = yX3_readReference.name) (hxt : ∀ x ∈ (mC M).exceptionTable.toList, False) (hnd : (mS M).methodNamed? yX3_readReference = some (mM M)) : ∀ (w : Wd), Jf (G, true, M, 1, w0) (rrV G pU) (b_X3_readReference_67 d w) w 67 [some (aR 3 (some 30))] [aR 3 (some 30)] := by
  intro w
  refine j_iconstZ K dX3_readReference_67 rfl (Or.inr rfl) ?_
  refine j_goto 72 K dX3_readReference_68 (by decide) ?_
  exact sb_X3_readReference_72 hG hl K hr hnm hxt hnd _ _
theorem sb_X3_readReference_14 {G : Gx} (hG : GW G) {M : Mx} (hl : (mL M).stackTraces = false) {w0 : Wd} {d : Nat} (K : Cx (G, true, M, 1, w0) cX3_readReference "IntervalTreeModel" (d + 1)) (hr : (mH M).sig.returnType = none) (hnm : (mH M).name = yX3_readReference.name) (hxt : ∀ x ∈ (mC M).exceptionTable.toList, False) (hnd : (mS M).methodNamed? yX3_readReference = some (mM M)) : ∀ (s1 : Int32) (w : Wd), Jf (G, true, M, 1, w0) (rrV G pU) (b_X3_readReference_14 d s1 w) w 14 [some (aR 3 (some 30))] [aB true s1, aR 3 (some 30)] := by
  intro s1 w
  refine j_putZ (k := 38) K dX3_readReference_14 rfl rfl q1294 rfl (Or.inl rfl) rfl rfl rfl ?_
  refine j_aload_n K dX3_readReference_17 rfl ?_
  refine j_getZ (k := 38) K dX3_readReference_18 rfl rfl rfl q1294 rfl rfl rfl rfl ?_
  refine j_if_eq 25 K dX3_readReference_21 (by decide) ?_ ?_
  · refine j_aload_n K dX3_readReference_25 rfl ?_
    refine j_dup K dX3_readReference_26 rfl ?_
    refine j_getI (k := 37) K dX3_readReference_27 rfl rfl rfl q1293 rfl rfl rfl ?_
    refine j_iconstZ K dX3_readReference_30 rfl (Or.inr rfl) ?_
    refine j_iadd K dX3_readReference_31 ?_
    refine j_putI (k := 37) K dX3_readReference_32 rfl rfl q1293 rfl (Or.inl rfl) rfl rfl rfl rfl ?_
    refine j_aload_n K dX3_readReference_35 rfl ?_
    refine j_dup K dX3_readReference_36 rfl ?_
    refine j_getI (k := 36) K dX3_readReference_37 rfl rfl rfl q1292 rfl rfl rfl ?_
    refine j_iconstZ K dX3_readReference_40 rfl (Or.inr rfl) ?_
    refine j_iadd K dX3_readReference_41 ?_
    refine j_putI (k := 36) K dX3_readReference_42 rfl rfl q1292 rfl (Or.inl rfl) rfl rfl rfl rfl ?_
    refine j_aload_n K dX3_readReference_45 rfl ?_
    refine j_aload_n K dX3_readReference_46 rfl ?_
    refine j_callV _ K (sim_X3_isDigit hG hl d (sI (sI (sI w 30 38 s1) 30 37 ((gI (sI w 30 38 s1) 30 37) + 1)) 30 36 ((gI (sI (sI w 30 38 s1) 30 37 ((gI (sI w 30 38 s1) 30 37) + 1)) 30 36) + 1))) dX3_readReference_47 rfl rfl q1724 q1726 qs84 q95 q1727 pm_X3_isDigit rfl rfl rfl rfl rfl (fun r1 _ => ?_)
    refine j_if_eq 67 K dX3_readReference_50 (by decide) ?_ ?_
    · exact sb_X3_readReference_67 hG hl K hr hnm hxt hnd _
    · refine j_aload_n K dX3_readReference_53 rfl ?_
      refine j_callV _ K (sim_X3_sign hG hl d r1.1) dX3_readReference_54 rfl rfl q1712 q1714 qs81 q95 q1715 pm_X3_sign rfl rfl rfl rfl rfl (fun r2 _ => ?_)
      refine j_bipush (x := 48) K dX3_readReference_57 (by decide +kernel) ?_
      refine j_isub K dX3_readReference_59 ?_
      refine j_aload_n K dX3_readReference_60 rfl ?_
      refine j_getI (k := 24) K dX3_readReference_61 rfl rfl rfl q1280 rfl rfl rfl ?_
      refine j_icmp_lt 71 K dX3_readReference_64 (by decide) ?_ ?_
      · refine j_iconstZ K dX3_readReference_71 rfl (Or.inl rfl) ?_
        exact sb_X3_readReference_72 hG hl K hr hnm hxt hnd _ _
      · exact sb_X3_readReference_67 hG hl K hr hnm hxt hnd _
  · exact j_vret K hr dX3_readReference_24
theorem sim_X3_readReference {G : Gx} (hG : GW G) {l : Launch} (hl : l.stackTraces = false) (d : Nat) (w : Wd) : Mt G true l yX3_readReference (ws_ yX3_readReference cX3_readReference 1 (none)) d (rrV G pU) [aR 3 (some 30)] w (f_X3_readReference d w) := by
  refine Mt.of (own := "IntervalTreeModel") hG hl (by decide +kernel) rfl rfl ?_
  intro M hM hr hnm hxt hnd K
  subst hM
  cases d with
  | zero => exact j_none
  | succ d =>
    refine j_aload_n K dX3_readReference_0 rfl ?_
    refine j_aload_n K dX3_readReference_1 rfl ?_
    refine j_getI (k := 37) K dX3_readReference_2 rfl rfl rfl q1293 rfl rfl rfl ?_
    refine j_iconst (x := 2) K dX3_readReference_5 rfl ?_
    refine j_icmp_ne 13 K dX3_readReference_6 (by decide) ?_ ?_
    · refine j_iconstZ K dX3_readReference_13 rfl (Or.inl rfl) ?_
      exact sb_X3_readReference_14 hG hl K hr hnm hxt hnd _ _
    · refine j_iconstZ K dX3_readReference_9 rfl (Or.inr rfl) ?_
      refine j_goto 14 K dX3_readReference_10 (by decide) ?_
      exact sb_X3_readReference_14 hG hl K hr hnm hxt hnd _ _

theorem pm_X3_readComparison : yX3_readComparison.cls = RX3 ∧ yX3_readComparison.cls ≠ "java/lang/invoke/MethodHandle" ∧ yX3_readComparison.cls ≠ "java/lang/invoke/VarHandle" ∧ (parseMethodDescriptor yX3_readComparison.desc).map (fun d => d.parameters.length) = some 1 := by decide +kernel
def b_X3_readComparison_170 (d : Nat) (s1 : Int32) (s2 : Int32) (s3 : Int32) (w : Wd) : Option (Wd × Unit) :=
  (f_X3_part d s1 s2 s3 w).bind fun r4 =>
  some (r4.1, ())
def b_X3_readComparison_155 (d : Nat) (x1 : Int32) (x2 : Int32) (x3 : Int32) (x4 : Int32) (w : Wd) : Option (Wd × Unit) :=
  if x3 = 0 then
    b_X3_readComparison_170 d x1 x2 x4 w
  else
    b_X3_readComparison_170 d x1 x2 (-x4) w
def b_X3_readComparison_111 (d : Nat) : Nat → Int32 → Int32 → Int32 → Int32 → Int32 → Wd → Option (Wd × Unit)
  | 0, _, _, _, _, _, _ => none
  | n + 1, x1, x2, x3, x4, x5, w =>
    if 4 ≤ x5 then
      b_X3_readComparison_155 d x1 x2 x3 x4 w
    else
      (f_X3_isDigit d w).bind fun r4 =>
      if r4.2 = 0 then
        b_X3_readComparison_155 d x1 x2 x3 x4 r4.1
      else
        (f_X3_sign d r4.1).bind fun r5 =>
        b_X3_readComparison_111 d n x1 x2 x3 (((10 * x4) + r5.2) - 48) (x5 + 1) (sI r5.1 30 36 ((gI r5.1 30 36) + 1))
def b_X3_readComparison_102 (d : Nat) (x1 : Int32) (x2 : Int32) (x3 : Int32) (s1 : Int32) (w : Wd) : Option (Wd × Unit) :=
  b_X3_readComparison_111 d FU x1 x2 x3 0 0 (sI w 30 38 s1)
def b_X3_readComparison_89 (d : Nat) (x1 : Int32) (x2 : Int32) (x3 : Int32) (w : Wd) : Option (Wd × Unit) :=
  (f_X3_isDigit d w).bind fun r3 =>
  if r3.2 = 0 then
    b_X3_readComparison_102 d x1 x2 x3 1 r3.1
  else
    b_X3_readComparison_102 d x1 x2 x3 0 r3.1
def b_X3_readComparison_74 (d : Nat) (x1 : Int32) (x2 : Int32) (s0 : Int32) (w : Wd) : Option (Wd × Unit) :=
  if s0 = 0 then
    b_X3_readComparison_89 d x1 x2 s0 w
  else
    b_X3_readComparison_89 d x1 x2 s0 (sI w 30 36 ((gI w 30 36) + 1))
def b_X3_readComparison_39 (d : Nat) (x1 : Int32) (x2 : Int32) (s1 : Int32) (w : Wd) : Option (Wd × Unit) :=
  if (gI (sI w 30 38 s1) 30 38) = 0 then
    (f_X3_sign d (sI (sI w 30 38 s1) 30 36 ((gI (sI w 30 38 s1) 30 36) + 1))).bind fun r2 =>
    if r2.2 = 45 then
      b_X3_readComparison_74 d x1 x2 1 r2.1
    else
      b_X3_readComparison_74 d x1 x2 0 r2.1
  else
    some (sI w 30 38 s1, ())
def b_X3_readComparison_38 (d : Nat) (x1 : Int32) (x2 : Int32) (w : Wd) : Option (Wd × Unit) :=
  b_X3_readComparison_39 d x1 x2 0 w
def f_X3_readComparison (d : Nat) (p1 : Int32) (w : Wd) : Option (Wd × Unit) :=
  match d with
  | 0 => none
  | d + 1 =>
    (f_X3_sign d (sI w 30 36 ((gI w 30 36) + 1))).bind fun r1 =>
    if r1.2 = 60 then
      b_X3_readComparison_38 d p1 r1.2 r1.1
    else
      if r1.2 = 61 then
        b_X3_readComparison_38 d p1 r1.2 r1.1
      else
        if r1.2 = 62 then
          b_X3_readComparison_38 d p1 r1.2 r1.1
        else
          b_X3_readComparison_39 d p1 r1.2 1 r1.1
theorem sb_X3_readComparison_170 {G : Gx} (hG : GW G) {M : Mx} (hl : (mL M).stackTraces = false) {w0 : Wd} {d : Nat} (K : Cx (G, true, M, 6, w0) cX3_readComparison "IntervalTreeModel" (d + 1)) (hr : (mH M).sig.returnType = none) (hnm : (mH M).name = yX3_readComparison.name) (hxt : ∀ x ∈ (mC M).exceptionTable.toList, False) (hnd : (mS M).methodNamed? yX3_readComparison = some (mM M)) : ∀ (s1 : Int32) (s2 : Int32) (s3 : Int32) (w : Wd) (fs1 : Bool) (fs2 : Bool) (fs3 : Bool), Jf (G, true, M, 6, w0) (rrV G pU) (b_X3_readComparison_170 d s1 s2 s3 w) w 170 [none, none, none, none, none, none] [aB fs3 s3, aB fs2 s2, aB fs1 s1, aR 3 (some 30)] := by
  intro s1 s2 s3 w fs1 fs2 fs3
  refine j_callV _ K (sim_X3_part hG hl d s1 s2 s3 w fs1 fs2 fs3) dX3_readComparison_170 rfl rfl q1716 q1718 qs82 q95 q1719 pm_X3_part rfl rfl rfl rfl rfl (fun r4 _ => ?_)
  exact j_vret K hr dX3_readComparison_173
theorem sb_X3_readComparison_155 {G : Gx} (hG : GW G) {M : Mx} (hl : (mL M).stackTraces = false) {w0 : Wd} {d : Nat} (K : Cx (G, true, M, 6, w0) cX3_readComparison "IntervalTreeModel" (d + 1)) (hr : (mH M).sig.returnType = none) (hnm : (mH M).name = yX3_readComparison.name) (hxt : ∀ x ∈ (mC M).exceptionTable.toList, False) (hnd : (mS M).methodNamed? yX3_readComparison = some (mM M)) : ∀ (x1 : Int32) (x2 : Int32) (x3 : Int32) (x4 : Int32) (w : Wd) (fx1 : Bool) (fx2 : Bool) (fx4 : Bool), Jf (G, true, M, 6, w0) (rrV G pU) (b_X3_readComparison_155 d x1 x2 x3 x4 w) w 155 [some (aR 3 (some 30)), some (aB fx1 x1), some (aB fx2 x2), some (aB true x3), some (aB fx4 x4), none] [] := by
  intro x1 x2 x3 x4 w fx1 fx2 fx4
  refine j_aload_n K dX3_readComparison_155 rfl ?_
  refine j_iload_n K dX3_readComparison_156 rfl ?_
  refine j_iload_n K dX3_readComparison_157 rfl ?_
  refine j_iload_n K dX3_readComparison_158 rfl ?_
  refine j_if_eq 168 K dX3_readComparison_159 (by decide) ?_ ?_
  · refine j_iload K dX3_readComparison_168 rfl ?_
    exact j_wk (sb_X3_readComparison_170 hG hl K hr hnm hxt hnd _ _ _ _ _ _ _) trivial
  · refine j_iload K dX3_readComparison_162 rfl ?_
    refine j_ineg K dX3_readComparison_164 ?_
    refine j_goto 170 K dX3_readComparison_165 (by decide) ?_
    exact j_wk (sb_X3_readComparison_170 hG hl K hr hnm hxt hnd _ _ _ _ _ _ _) trivial
theorem sb_X3_readComparison_111 {G : Gx} (hG : GW G) {M : Mx} (hl : (mL M).stackTraces = false) {w0 : Wd} {d : Nat} (K : Cx (G, true, M, 6, w0) cX3_readComparison "IntervalTreeModel" (d + 1)) (hr : (mH M).sig.returnType = none) (hnm : (mH M).name = yX3_readComparison.name) (hxt : ∀ x ∈ (mC M).exceptionTable.toList, False) (hnd : (mS M).methodNamed? yX3_readComparison = some (mM M)) : ∀ (n : Nat), ∀ (x1 : Int32) (x2 : Int32) (x3 : Int32) (x4 : Int32) (x5 : Int32) (w : Wd) (fx1 : Bool) (fx2 : Bool) (fx4 : Bool) (fx5 : Bool), Jf (G, true, M, 6, w0) (rrV G pU) (b_X3_readComparison_111 d n x1 x2 x3 x4 x5 w) w 111 [some (aR 3 (some 30)), some (aB fx1 x1), some (aB fx2 x2), some (aB true x3), some (aB fx4 x4), some (aB fx5 x5)] [] := by
  intro n
  induction n with
  | zero => intros; exact j_none
  | succ n ih =>
    intro x1 x2 x3 x4 x5 w fx1 fx2 fx4 fx5
    refine j_iload K dX3_readComparison_111 rfl ?_
    refine j_iconst (x := 4) K dX3_readComparison_113 rfl ?_
    refine j_icmp_ge 155 K dX3_readComparison_114 (by decide) ?_ ?_
    · exact j_wk (sb_X3_readComparison_155 hG hl K hr hnm hxt hnd _ _ _ _ _ _ _ _) ⟨rfl, rfl, rfl, rfl, rfl, trivial⟩
    · refine j_aload_n K dX3_readComparison_117 rfl ?_
      refine j_callV _ K (sim_X3_isDigit hG hl d w) dX3_readComparison_118 rfl rfl q1724 q1726 qs84 q95 q1727 pm_X3_isDigit rfl rfl rfl rfl rfl (fun r4 _ => ?_)
      refine j_if_eq 155 K dX3_readComparison_121 (by decide) ?_ ?_
      · exact j_wk (sb_X3_readComparison_155 hG hl K hr hnm hxt hnd _ _ _ _ _ _ _ _) ⟨rfl, rfl, rfl, rfl, rfl, trivial⟩
      · refine j_bipush (x := 10) K dX3_readComparison_124 (by decide +kernel) ?_
        refine j_iload K dX3_readComparison_126 rfl ?_
        refine j_imul K dX3_readComparison_128 ?_
        refine j_aload_n K dX3_readComparison_129 rfl ?_
        refine j_callV _ K (sim_X3_sign hG hl d r4.1) dX3_readComparison_130 rfl rfl q1712 q1714 qs81 q95 q1715 pm_X3_sign rfl rfl rfl rfl rfl (fun r5 _ => ?_)
        refine j_iadd K dX3_readComparison_133 ?_
        refine j_bipush (x := 48) K dX3_readComparison_134 (by decide +kernel) ?_
        refine j_isub K dX3_readComparison_136 ?_
        refine j_istore K dX3_readComparison_137 rfl rfl ?_
        refine j_aload_n K dX3_readComparison_139 rfl ?_
        refine j_dup K dX3_readComparison_140 rfl ?_
        refine j_getI (k := 36) K dX3_readComparison_141 rfl rfl rfl q1292 rfl rfl rfl ?_
        refine j_iconstZ K dX3_readComparison_144 rfl (Or.inr rfl) ?_
        refine j_iadd K dX3_readComparison_145 ?_
        refine j_putI (k := 36) K dX3_readComparison_146 rfl rfl q1292 rfl (Or.inl rfl) rfl rfl rfl rfl ?_
        refine j_iinc (y := 1) K dX3_readComparison_149 rfl rfl rfl rfl ?_
        refine j_goto 111 K dX3_readComparison_152 (by decide) ?_
        exact ih _ _ _ _ _ _ _ _ _ _
theorem sb_X3_readComparison_102 {G : Gx} (hG : GW G) {M : Mx} (hl : (mL M).stackTraces = false) {w0 : Wd} {d : Nat} (K : Cx (G, true, M, 6, w0) cX3_readComparison "IntervalTreeModel" (d + 1)) (hr : (mH M).sig.returnType = none) (hnm : (mH M).name = yX3_readComparison.name) (hxt : ∀ x ∈ (mC M).exceptionTable.toList, False) (hnd : (mS M).methodNamed? yX3_readComparison = some (mM M)) : ∀ (x1 : Int32) (x2 : Int32) (x3 : Int32) (s1 : Int32) (w : Wd) (fx1 : Bool) (fx2 : Bool), Jf (G, true, M, 6, w0) (rrV G pU) (b_X3_readComparison_102 d x1 x2 x3 s1 w) w 102 [some (aR 3 (some 30)), some (aB fx1 x1), some (aB fx2 x2), some (aB true x3), none, none] [aB true s1, aR 3 (some 30)] := by
  intro x1 x2 x3 s1 w fx1 fx2
  refine j_putZ (k := 38) K dX3_readComparison_102 rfl rfl q1294 rfl (Or.inl rfl) rfl rfl rfl ?_
  refine j_iconstZ K dX3_readComparison_105 rfl (Or.inl rfl) ?_
  refine j_istore K dX3_readComparison_106 rfl rfl ?_
  refine j_iconstZ K dX3_readComparison_108 rfl (Or.inl rfl) ?_
  refine j_istore K dX3_readComparison_109 rfl rfl ?_
  exact sb_X3_readComparison_111 hG hl K hr hnm hxt hnd FU _ _ _ _ _ _ _ _ _ _
theorem sb_X3_readComparison_89 {G : Gx} (hG : GW G) {M : Mx} (hl : (mL M).stackTraces = false) {w0 : Wd} {d : Nat} (K : Cx (G, true, M, 6, w0) cX3_readComparison "IntervalTreeModel" (d + 1)) (hr : (mH M).sig.returnType = none) (hnm : (mH M).name = yX3_readComparison.name) (hxt : ∀ x ∈ (mC M).exceptionTable.toList, False) (hnd : (mS M).methodNamed? yX3_readComparison = some (mM M)) : ∀ (x1 : Int32) (x2 : Int32) (x3 : Int32) (w : Wd) (fx1 : Bool) (fx2 : Bool), Jf (G, true, M, 6, w0) (rrV G pU) (b_X3_readComparison_89 d x1 x2 x3 w) w 89 [some (aR 3 (some 30)), some (aB fx1 x1), some (aB fx2 x2), some (aB true x3), none, none] [] := by
  intro x1 x2 x3 w fx1 fx2
  refine j_aload_n K dX3_readComparison_89 rfl ?_
  refine j_aload_n K dX3_readComparison_90 rfl ?_
  refine j_callV _ K (sim_X3_isDigit hG hl d w) dX3_readComparison_91 rfl rfl q1724 q1726 qs84 q95 q1727 pm_X3_isDigit rfl rfl rfl rfl rfl (fun r3 _ => ?_)
  refine j_if_ne 101 K dX3_readComparison_94 (by decide) ?_ ?_
  · refine j_iconstZ K dX3_readComparison_101 rfl (Or.inl rfl) ?_
    exact j_wk (sb_X3_readComparison_102 hG hl K hr hnm hxt hnd _ _ _ _ _ _ _) ⟨rfl, rfl, rfl, rfl, trivial⟩
  · refine j_iconstZ K dX3_readComparison_97 rfl (Or.inr rfl) ?_
    refine j_goto 102 K dX3_readComparison_98 (by decide) ?_
    exact j_wk (sb_X3_readComparison_102 hG hl K hr hnm hxt hnd _ _ _ _ _ _ _) ⟨rfl, rfl, rfl, rfl, trivial⟩
theorem sb_X3_readComparison_74 {G : Gx} (hG : GW G) {M : Mx} (hl : (mL M).stackTraces = false) {w0 : Wd} {d : Nat} (K : Cx (G, true, M, 6, w0) cX3_readComparison "IntervalTreeModel" (d + 1)) (hr : (mH M).sig.returnType = none) (hnm : (mH M).name = yX3_readComparison.name) (hxt : ∀ x ∈ (mC M).exceptionTable.toList, False) (hnd : (mS M).methodNamed? yX3_readComparison = some (mM M)) : ∀ (x1 : Int32) (x2 : Int32) (s0 : Int32) (w : Wd) (fx1 : Bool) (fx2 : Bool), Jf (G, true, M, 6, w0) (rrV G pU) (b_X3_readComparison_74 d x1 x2 s0 w) w 74 [some (aR 3 (some 30)), some (aB fx1 x1), some (aB fx2 x2), none, none, none] [aB true s0] := by
  intro x1 x2 s0 w fx1 fx2
  refine j_istore_n K dX3_readComparison_74 rfl rfl ?_
  refine j_iload_n K dX3_readComparison_75 rfl ?_
  refine j_if_eq 89 K dX3_readComparison_76 (by decide) ?_ ?_
  · exact j_wk (sb_X3_readComparison_89 hG hl K hr hnm hxt hnd _ _ _ _ _ _) ⟨rfl, rfl, rfl, rfl, trivial⟩
  · refine j_aload_n K dX3_readComparison_79 rfl ?_
    refine j_dup K dX3_readComparison_80 rfl ?_
    refine j_getI (k := 36) K dX3_readComparison_81 rfl rfl rfl q1292 rfl rfl rfl ?_
    refine j_iconstZ K dX3_readComparison_84 rfl (Or.inr rfl) ?_
    refine j_iadd K dX3_readComparison_85 ?_
    refine j_putI (k := 36) K dX3_readComparison_86 rfl rfl q1292 rfl (Or.inl rfl) rfl rfl rfl rfl ?_
    exact j_wk (sb_X3_readComparison_89 hG hl K hr hnm hxt hnd _ _ _ _ _ _) ⟨rfl, rfl, rfl, rfl, trivial⟩
theorem sb_X3_readComparison_39 {G : Gx} (hG : GW G) {M : Mx} (hl : (mL M).stackTraces = false) {w0 : Wd} {d : Nat} (K : Cx (G, true, M, 6, w0) cX3_readComparison "IntervalTreeModel" (d + 1)) (hr : (mH M).sig.returnType = none) (hnm : (mH M).name = yX3_readComparison.name) (hxt : ∀ x ∈ (mC M).exceptionTable.toList, False) (hnd : (mS M).methodNamed? yX3_readComparison = some (mM M)) : ∀ (x1 : Int32) (x2 : Int32) (s1 : Int32) (w : Wd) (fx1 : Bool) (fx2 : Bool), Jf (G, true, M, 6, w0) (rrV G pU) (b_X3_readComparison_39 d x1 x2 s1 w) w 39 [some (aR 3 (some 30)), some (aB fx1 x1), some (aB fx2 x2), none, none, none] [aB true s1, aR 3 (some 30)] := by
  intro x1 x2 s1 w fx1 fx2
  refine j_putZ (k := 38) K dX3_readComparison_39 rfl rfl q1294 rfl (Or.inl rfl) rfl rfl rfl ?_
  refine j_aload_n K dX3_readComparison_42 rfl ?_
  refine j_getZ (k := 38) K dX3_readComparison_43 rfl rfl rfl q1294 rfl rfl rfl rfl ?_
  refine j_if_eq 50 K dX3_readComparison_46 (by decide) ?_ ?_
  · refine j_aload_n K dX3_readComparison_50 rfl ?_
    refine j_dup K dX3_readComparison_51 rfl ?_
    refine j_getI (k := 36) K dX3_readComparison_52 rfl rfl rfl q1292 rfl rfl rfl ?_
    refine j_iconstZ K dX3_readComparison_55 rfl (Or.inr rfl) ?_
    refine j_iadd K dX3_readComparison_56 ?_
    refine j_putI (k := 36) K dX3_readComparison_57 rfl rfl q1292 rfl (Or.inl rfl) rfl rfl rfl rfl ?_
    refine j_aload_n K dX3_readComparison_60 rfl ?_
    refine j_callV _ K (sim_X3_sign hG hl d (sI (sI w 30 38 s1) 30 36 ((gI (sI w 30 38 s1) 30 36) + 1))) dX3_readComparison_61 rfl rfl q1712 q1714 qs81 q95 q1715 pm_X3_sign rfl rfl rfl rfl rfl (fun r2 _ => ?_)
    refine j_bipush (x := 45) K dX3_readComparison_64 (by decide +kernel) ?_
    refine j_icmp_ne 73 K dX3_readComparison_66 (by decide) ?_ ?_
    · refine j_iconstZ K dX3_readComparison_73 rfl (Or.inl rfl) ?_
      exact j_wk (sb_X3_readComparison_74 hG hl K hr hnm hxt hnd _ _ _ _ _ _) ⟨rfl, rfl, rfl, trivial⟩
    · refine j_iconstZ K dX3_readComparison_69 rfl (Or.inr rfl) ?_
      refine j_goto 74 K dX3_readComparison_70 (by decide) ?_
      exact j_wk (sb_X3_readComparison_74 hG hl K hr hnm hxt hnd _ _ _ _ _ _) ⟨rfl, rfl, rfl, trivial⟩
  · exact j_vret K hr dX3_readComparison_49
theorem sb_X3_readComparison_38 {G : Gx} (hG : GW G) {M : Mx} (hl : (mL M).stackTraces = false) {w0 : Wd} {d : Nat} (K : Cx (G, true, M, 6, w0) cX3_readComparison "IntervalTreeModel" (d + 1)) (hr : (mH M).sig.returnType = none) (hnm : (mH M).name = yX3_readComparison.name) (hxt : ∀ x ∈ (mC M).exceptionTable.toList, False) (hnd : (mS M).methodNamed? yX3_readComparison = some (mM M)) : ∀ (x1 : Int32) (x2 : Int32) (w : Wd) (fx1 : Bool) (fx2 : Bool), Jf (G, true, M, 6, w0) (rrV G pU) (b_X3_readComparison_38 d x1 x2 w) w 38 [some (aR 3 (some 30)), some (aB fx1 x1), some (aB fx2 x2), none, none, none] [aR 3 (some 30)] := by
  intro x1 x2 w fx1 fx2
  refine j_iconstZ K dX3_readComparison_38 rfl (Or.inl rfl) ?_
  exact j_wk (sb_X3_readComparison_39 hG hl K hr hnm hxt hnd _ _ _ _ _ _) ⟨rfl, rfl, rfl, trivial⟩
theorem sim_X3_readComparison {G : Gx} (hG : GW G) {l : Launch} (hl : l.stackTraces = false) (d : Nat) (p1 : Int32) (w : Wd) (fp1 : Bool) : Mt G true l yX3_readComparison (ws_ yX3_readComparison cX3_readComparison 6 (none)) d (rrV G pU) [aR 3 (some 30), aB fp1 p1] w (f_X3_readComparison d p1 w) := by
  refine Mt.of (own := "IntervalTreeModel") hG hl (by decide +kernel) rfl rfl ?_
  intro M hM hr hnm hxt hnd K
  subst hM
  cases d with
  | zero => exact j_none
  | succ d =>
    refine j_aload_n K dX3_readComparison_0 rfl ?_
    refine j_dup K dX3_readComparison_1 rfl ?_
    refine j_getI (k := 36) K dX3_readComparison_2 rfl rfl rfl q1292 rfl rfl rfl ?_
    refine j_iconstZ K dX3_readComparison_5 rfl (Or.inr rfl) ?_
    refine j_iadd K dX3_readComparison_6 ?_
    refine j_putI (k := 36) K dX3_readComparison_7 rfl rfl q1292 rfl (Or.inl rfl) rfl rfl rfl rfl ?_
    refine j_aload_n K dX3_readComparison_10 rfl ?_
    refine j_callV _ K (sim_X3_sign hG hl d (sI w 30 36 ((gI w 30 36) + 1))) dX3_readComparison_11 rfl rfl q1712 q1714 qs81 q95 q1715 pm_X3_sign rfl rfl rfl rfl rfl (fun r1 _ => ?_)
    refine j_istore_n K dX3_readComparison_14 rfl rfl ?_
    refine j_aload_n K dX3_readComparison_15 rfl ?_
    refine j_iload_n K dX3_readComparison_16 rfl ?_
    refine j_bipush (x := 60) K dX3_readComparison_17 (by decide +kernel) ?_
    refine j_icmp_eq 38 K dX3_readComparison_19 (by decide) ?_ ?_
    · exact j_wk (sb_X3_readComparison_38 hG hl K hr hnm hxt hnd _ _ _ _ _) ⟨rfl, rfl, rfl, trivial⟩
    · refine j_iload_n K dX3_readComparison_22 rfl ?_
      refine j_bipush (x := 61) K dX3_readComparison_23 (by decide +kernel) ?_
      refine j_icmp_eq 38 K dX3_readComparison_25 (by decide) ?_ ?_
      · exact j_wk (sb_X3_readComparison_38 hG hl K hr hnm hxt hnd _ _ _ _ _) ⟨rfl, rfl, rfl, trivial⟩
      · refine j_iload_n K dX3_readComparison_28 rfl ?_
        refine j_bipush (x := 62) K dX3_readComparison_29 (by decide +kernel) ?_
        refine j_icmp_eq 38 K dX3_readComparison_31 (by decide) ?_ ?_
        · exact j_wk (sb_X3_readComparison_38 hG hl K hr hnm hxt hnd _ _ _ _ _) ⟨rfl, rfl, rfl, trivial⟩
        · refine j_iconstZ K dX3_readComparison_34 rfl (Or.inr rfl) ?_
          refine j_goto 39 K dX3_readComparison_35 (by decide) ?_
          exact j_wk (sb_X3_readComparison_39 hG hl K hr hnm hxt hnd _ _ _ _ _ _) ⟨rfl, rfl, rfl, trivial⟩

theorem pm_X3_readFactor : yX3_readFactor.cls = RX3 ∧ yX3_readFactor.cls ≠ "java/lang/invoke/MethodHandle" ∧ yX3_readFactor.cls ≠ "java/lang/invoke/VarHandle" ∧ (parseMethodDescriptor yX3_readFactor.desc).map (fun d => d.parameters.length) = some 0 := by decide +kernel
theorem pm_X3_readTerm : yX3_readTerm.cls = RX3 ∧ yX3_readTerm.cls ≠ "java/lang/invoke/MethodHandle" ∧ yX3_readTerm.cls ≠ "java/lang/invoke/VarHandle" ∧ (parseMethodDescriptor yX3_readTerm.desc).map (fun d => d.parameters.length) = some 0 := by decide +kernel
theorem pm_X3_readFilter : yX3_readFilter.cls = RX3 ∧ yX3_readFilter.cls ≠ "java/lang/invoke/MethodHandle" ∧ yX3_readFilter.cls ≠ "java/lang/invoke/VarHandle" ∧ (parseMethodDescriptor yX3_readFilter.desc).map (fun d => d.parameters.length) = some 0 := by decide +kernel
def fB_X3_readFactor (d : Nat) (g_X3_readFactor : Wd → Option (Wd × Unit)) (g_X3_readTerm : Wd → Option (Wd × Unit)) (g_X3_readFilter : Wd → Option (Wd × Unit)) (w : Wd) : Option (Wd × Unit) :=
  (f_X3_sign d w).bind fun r1 =>
  if r1.2 = 33 then
    (g_X3_readFactor (sI r1.1 30 36 ((gI r1.1 30 36) + 1))).bind fun r3 =>
    (f_X3_part d 33 0 0 r3.1).bind fun r4 =>
    some (r4.1, ())
  else if r1.2 = 35 then
    (f_X3_readReference d r1.1).bind fun r6 =>
    some (r6.1, ())
  else if r1.2 = 40 then
    (g_X3_readFilter (sI r1.1 30 36 ((gI r1.1 30 36) + 1))).bind fun r8 =>
    (f_X3_sign d r8.1).bind fun r9 =>
    if r9.2 = 41 then
      some (sI r9.1 30 36 ((gI r9.1 30 36) + 1), ())
    else
      some (sI r9.1 30 38 1, ())
  else if r1.2 = 104 then
    (f_X3_readComparison d 1 r1.1).bind fun r11 =>
    some (r11.1, ())
  else if r1.2 = 108 then
    (f_X3_readComparison d 0 r1.1).bind fun r13 =>
    some (r13.1, ())
  else if r1.2 = 110 then
    (f_X3_readComparison d 3 r1.1).bind fun r15 =>
    some (r15.1, ())
  else if r1.2 = 119 then
    (f_X3_readComparison d 2 r1.1).bind fun r17 =>
    some (r17.1, ())
  else 
  some (sI r1.1 30 38 1, ())
theorem simB_X3_readFactor {G : Gx} (hG : GW G) {l : Launch} (hl : l.stackTraces = false) (d : Nat) {g_X3_readFactor : Wd → Option (Wd × Unit)} (hg_X3_readFactor : ∀ (w : Wd), Mt G true l yX3_readFactor (ws_ yX3_readFactor cX3_readFactor 1 (none)) d (rrV G pU) [aR 3 (some 30)] w (g_X3_readFactor w)) {g_X3_readTerm : Wd → Option (Wd × Unit)} (hg_X3_readTerm : ∀ (w : Wd), Mt G true l yX3_readTerm (ws_ yX3_readTerm cX3_readTerm 1 (none)) d (rrV G pU) [aR 3 (some 30)] w (g_X3_readTerm w)) {g_X3_readFilter : Wd → Option (Wd × Unit)} (hg_X3_readFilter : ∀ (w : Wd), Mt G true l yX3_readFilter (ws_ yX3_readFilter cX3_readFilter 1 (none)) d (rrV G pU) [aR 3 (some 30)] w (g_X3_readFilter w)) (w : Wd) : Mt G true l yX3_readFactor (ws_ yX3_readFactor cX3_readFactor 1 (none)) (d + 1) (rrV G pU) [aR 3 (some 30)] w (fB_X3_readFactor d g_X3_readFactor g_X3_readTerm g_X3_readFilter w) := by
  refine Mt.of (own := "IntervalTreeModel") hG hl (by decide +kernel) rfl rfl ?_
  intro M hM hr hnm hxt hnd K
  subst hM
  refine j_aload_n K dX3_readFactor_0 rfl ?_
  refine j_callV _ K (sim_X3_sign hG hl d w) dX3_readFactor_1 rfl rfl q1712 q1714 qs81 q95 q1715 pm_X3_sign rfl rfl rfl rfl rfl (fun r1 _ => ?_)
  refine j_ite (c := 33) (fun hs2 => ?_) (fun hs2 => ?_)
  · refine j_look (off := 68) 72 K dX3_readFactor_4 (by decide +kernel) (by rw [hs2]; rfl) (by decide) ?_
    refine j_aload_n K dX3_readFactor_72 rfl ?_
    refine j_dup K dX3_readFactor_73 rfl ?_
    refine j_getI (k := 36) K dX3_readFactor_74 rfl rfl rfl q1292 rfl rfl rfl ?_
    refine j_iconstZ K dX3_readFactor_77 rfl (Or.inr rfl) ?_
    refine j_iadd K dX3_readFactor_78 ?_
    refine j_putI (k := 36) K dX3_readFactor_79 rfl rfl q1292 rfl (Or.inl rfl) rfl rfl rfl rfl ?_
    refine j_aload_n K dX3_readFactor_82 rfl ?_
    refine j_callV _ K (hg_X3_readFactor (sI r1.1 30 36 ((gI r1.1 30 36) + 1))) dX3_readFactor_83 rfl rfl q1708 q1710 qs80 q95 q1711 pm_X3_readFactor rfl rfl rfl rfl rfl (fun r3 _ => ?_)
    refine j_aload_n K dX3_readFactor_86 rfl ?_
    refine j_bipush (x := 33) K dX3_readFactor_87 (by decide +kernel) ?_
    refine j_iconstZ K dX3_readFactor_89 rfl (Or.inl rfl) ?_
    refine j_iconstZ K dX3_readFactor_90 rfl (Or.inl rfl) ?_
    refine j_callV _ K (sim_X3_part hG hl d 33 0 0 r3.1 false true true) dX3_readFactor_91 rfl rfl q1716 q1718 qs82 q95 q1719 pm_X3_part rfl rfl rfl rfl rfl (fun r4 _ => ?_)
    refine j_goto 185 K dX3_readFactor_94 (by decide) ?_
    exact j_vret K hr dX3_readFactor_185
  refine j_ite (c := 35) (fun hs5 => ?_) (fun hs5 => ?_)
  · refine j_look (off := 137) 141 K dX3_readFactor_4 (by decide +kernel) (by rw [hs5]; rfl) (by decide) ?_
    refine j_aload_n K dX3_readFactor_141 rfl ?_
    refine j_callV _ K (sim_X3_readReference hG hl d r1.1) dX3_readFactor_142 rfl rfl q1720 q1722 qs83 q95 q1723 pm_X3_readReference rfl rfl rfl rfl rfl (fun r6 _ => ?_)
    refine j_goto 185 K dX3_readFactor_145 (by decide) ?_
    exact j_vret K hr dX3_readFactor_185
  refine j_ite (c := 40) (fun hs7 => ?_) (fun hs7 => ?_)
  · refine j_look (off := 93) 97 K dX3_readFactor_4 (by decide +kernel) (by rw [hs7]; rfl) (by decide) ?_
    refine j_aload_n K dX3_readFactor_97 rfl ?_
    refine j_dup K dX3_readFactor_98 rfl ?_
    refine j_getI (k := 36) K dX3_readFactor_99 rfl rfl rfl q1292 rfl rfl rfl ?_
    refine j_iconstZ K dX3_readFactor_102 rfl (Or.inr rfl) ?_
    refine j_iadd K dX3_readFactor_103 ?_
    refine j_putI (k := 36) K dX3_readFactor_104 rfl rfl q1292 rfl (Or.inl rfl) rfl rfl rfl rfl ?_
    refine j_aload_n K dX3_readFactor_107 rfl ?_
    refine j_callV _ K (hg_X3_readFilter (sI r1.1 30 36 ((gI r1.1 30 36) + 1))) dX3_readFactor_108 rfl rfl q1700 q1702 qs78 q95 q1703 pm_X3_readFilter rfl rfl rfl rfl rfl (fun r8 _ => ?_)
    refine j_aload_n K dX3_readFactor_111 rfl ?_
    refine j_callV _ K (sim_X3_sign hG hl d r8.1) dX3_readFactor_112 rfl rfl q1712 q1714 qs81 q95 q1715 pm_X3_sign rfl rfl rfl rfl rfl (fun r9 _ => ?_)
    refine j_bipush (x := 41) K dX3_readFactor_115 (by decide +kernel) ?_
    refine j_icmp_ne 133 K dX3_readFactor_117 (by decide) ?_ ?_
    · refine j_aload_n K dX3_readFactor_133 rfl ?_
      refine j_iconstZ K dX3_readFactor_134 rfl (Or.inr rfl) ?_
      refine j_putZ (k := 38) K dX3_readFactor_135 rfl rfl q1294 rfl (Or.inl rfl) rfl rfl rfl ?_
      refine j_goto 185 K dX3_readFactor_138 (by decide) ?_
      exact j_vret K hr dX3_readFactor_185
    · refine j_aload_n K dX3_readFactor_120 rfl ?_
      refine j_dup K dX3_readFactor_121 rfl ?_
      refine j_getI (k := 36) K dX3_readFactor_122 rfl rfl rfl q1292 rfl rfl rfl ?_
      refine j_iconstZ K dX3_readFactor_125 rfl (Or.inr rfl) ?_
      refine j_iadd K dX3_readFactor_126 ?_
      refine j_putI (k := 36) K dX3_readFactor_127 rfl rfl q1292 rfl (Or.inl rfl) rfl rfl rfl rfl ?_
      refine j_goto 185 K dX3_readFactor_130 (by decide) ?_
      exact j_vret K hr dX3_readFactor_185
  refine j_ite (c := 104) (fun hs10 => ?_) (fun hs10 => ?_)
  · refine j_look (off := 152) 156 K dX3_readFactor_4 (by decide +kernel) (by rw [hs10]; rfl) (by decide) ?_
    refine j_aload_n K dX3_readFactor_156 rfl ?_
    refine j_iconstZ K dX3_readFactor_157 rfl (Or.inr rfl) ?_
    refine j_callV _ K (sim_X3_readComparison hG hl d 1 r1.1 true) dX3_readFactor_158 rfl rfl q1728 q1730 qs85 q95 q1731 pm_X3_readComparison rfl rfl rfl rfl rfl (fun r11 _ => ?_)
    refine j_goto 185 K dX3_readFactor_161 (by decide) ?_
    exact j_vret K hr dX3_readFactor_185
  refine j_ite (c := 108) (fun hs12 => ?_) (fun hs12 => ?_)
  · refine j_look (off := 144) 148 K dX3_readFactor_4 (by decide +kernel) (by rw [hs12]; rfl) (by decide) ?_
    refine j_aload_n K dX3_readFactor_148 rfl ?_
    refine j_iconstZ K dX3_readFactor_149 rfl (Or.inl rfl) ?_
    refine j_callV _ K (sim_X3_readComparison hG hl d 0 r1.1 true) dX3_readFactor_150 rfl rfl q1728 q1730 qs85 q95 q1731 pm_X3_readComparison rfl rfl rfl rfl rfl (fun r13 _ => ?_)
    refine j_goto 185 K dX3_readFactor_153 (by decide) ?_
    exact j_vret K hr dX3_readFactor_185
  refine j_ite (c := 110) (fun hs14 => ?_) (fun hs14 => ?_)
  · refine j_look (off := 168) 172 K dX3_readFactor_4 (by decide +kernel) (by rw [hs14]; rfl) (by decide) ?_
    refine j_aload_n K dX3_readFactor_172 rfl ?_
    refine j_iconst (x := 3) K dX3_readFactor_173 rfl ?_
    refine j_callV _ K (sim_X3_readComparison hG hl d 3 r1.1 false) dX3_readFactor_174 rfl rfl q1728 q1730 qs85 q95 q1731 pm_X3_readComparison rfl rfl rfl rfl rfl (fun r15 _ => ?_)
    refine j_goto 185 K dX3_readFactor_177 (by decide) ?_
    exact j_vret K hr dX3_readFactor_185
  refine j_ite (c := 119) (fun hs16 => ?_) (fun hs16 => ?_)
  · refine j_look (off := 160) 164 K dX3_readFactor_4 (by decide +kernel) (by rw [hs16]; rfl) (by decide) ?_
    refine j_aload_n K dX3_readFactor_164 rfl ?_
    refine j_iconst (x := 2) K dX3_readFactor_165 rfl ?_
    refine j_callV _ K (sim_X3_readComparison hG hl d 2 r1.1 false) dX3_readFactor_166 rfl rfl q1728 q1730 qs85 q95 q1731 pm_X3_readComparison rfl rfl rfl rfl rfl (fun r17 _ => ?_)
    refine j_goto 185 K dX3_readFactor_169 (by decide) ?_
    exact j_vret K hr dX3_readFactor_185
  refine j_look (off := 176) 180 K dX3_readFactor_4 (by decide +kernel) (by have hs2 : _ ≠ (33 : Int) := ne_toInt hs2; have hs5 : _ ≠ (35 : Int) := ne_toInt hs5; have hs7 : _ ≠ (40 : Int) := ne_toInt hs7; have hs10 : _ ≠ (104 : Int) := ne_toInt hs10; have hs12 : _ ≠ (108 : Int) := ne_toInt hs12; have hs14 : _ ≠ (110 : Int) := ne_toInt hs14; have hs16 : _ ≠ (119 : Int) := ne_toInt hs16; simp [Op.lookupswitch.offset, hs2, hs5, hs7, hs10, hs12, hs14, hs16, Ne.symm hs2, Ne.symm hs5, Ne.symm hs7, Ne.symm hs10, Ne.symm hs12, Ne.symm hs14, Ne.symm hs16]) (by decide) ?_
  refine j_aload_n K dX3_readFactor_180 rfl ?_
  refine j_iconstZ K dX3_readFactor_181 rfl (Or.inr rfl) ?_
  refine j_putZ (k := 38) K dX3_readFactor_182 rfl rfl q1294 rfl (Or.inl rfl) rfl rfl rfl ?_
  exact j_vret K hr dX3_readFactor_185
def b_X3_readTerm_4 (d : Nat) (g_X3_readFactor : Wd → Option (Wd × Unit)) (g_X3_readTerm : Wd → Option (Wd × Unit)) (g_X3_readFilter : Wd → Option (Wd × Unit)) : Nat → Wd → Option (Wd × Unit)
  | 0, _ => none
  | n + 1, w =>
    (f_X3_sign d w).bind fun r2 =>
    if r2.2 = 38 then
      (g_X3_readFactor (sI r2.1 30 36 ((gI r2.1 30 36) + 1))).bind fun r3 =>
      (f_X3_part d 38 0 0 r3.1).bind fun r4 =>
      b_X3_readTerm_4 d g_X3_readFactor g_X3_readTerm g_X3_readFilter n r4.1
    else
      some (r2.1, ())
def fB_X3_readTerm (d : Nat) (g_X3_readFactor : Wd → Option (Wd × Unit)) (g_X3_readTerm : Wd → Option (Wd × Unit)) (g_X3_readFilter : Wd → Option (Wd × Unit)) (w : Wd) : Option (Wd × Unit) :=
  (g_X3_readFactor w).bind fun r1 =>
  b_X3_readTerm_4 d g_X3_readFactor g_X3_readTerm g_X3_readFilter FU r1.1
theorem sb_X3_readTerm_4 {G : Gx} (hG : GW G) {M : Mx} (hl : (mL M).stackTraces = false) {w0 : Wd} {d : Nat} (K : Cx (G, true, M, 1, w0) cX3_readTerm "IntervalTreeModel" (d + 1)) (hr : (mH M).sig.returnType = none) (hnm : (mH M).name = yX3_readTerm.name) (hxt : ∀ x ∈ (mC M).exceptionTable.toList, False) (hnd : (mS M).methodNamed? yX3_readTerm = some (mM M)) {g_X3_readFactor : Wd → Option (Wd × Unit)} (hg_X3_readFactor : ∀ (w : Wd), Mt G true (mL M) yX3_readFactor (ws_ yX3_readFactor cX3_readFactor 1 (none)) d (rrV G pU) [aR 3 (some 30)] w (g_X3_readFactor w)) {g_X3_readTerm : Wd → Option (Wd × Unit)} (hg_X3_readTerm : ∀ (w : Wd), Mt G true (mL M) yX3_readTerm (ws_ yX3_readTerm cX3_readTerm 1 (none)) d (rrV G pU) [aR 3 (some 30)] w (g_X3_readTerm w)) {g_X3_readFilter : Wd → Option (Wd × Unit)} (hg_X3_readFilter : ∀ (w : Wd), Mt G true (mL M) yX3_readFilter (ws_ yX3_readFilter cX3_readFilter 1 (none)) d (rrV G pU) [aR 3 (some 30)] w (g_X3_readFilter w)) : ∀ (n : Nat), ∀ (w : Wd), Jf (G, true, M, 1, w0) (rrV G pU) (b_X3_readTerm_4 d g_X3_readFactor g_X3_readTerm g_X3_readFilter n w) w 4 [some (aR 3 (some 30))] [] := by
  intro n
  induction n with
  | zero => intros; exact j_none
  | succ n ih =>
    intro w
    refine j_aload_n K dX3_readTerm_4 rfl ?_
    refine j_callV _ K (sim_X3_sign hG hl d w) dX3_readTerm_5 rfl rfl q1712 q1714 qs81 q95 q1715 pm_X3_sign rfl rfl rfl rfl rfl (fun r2 _ => ?_)
    refine j_bipush (x := 38) K dX3_readTerm_8 (by decide +kernel) ?_
    refine j_icmp_ne 38 K dX3_readTerm_10 (by decide) ?_ ?_
    · exact j_vret K hr dX3_readTerm_38
    · refine j_aload_n K dX3_readTerm_13 rfl ?_
      refine j_dup K dX3_readTerm_14 rfl ?_
      refine j_getI (k := 36) K dX3_readTerm_15 rfl rfl rfl q1292 rfl rfl rfl ?_
      refine j_iconstZ K dX3_readTerm_18 rfl (Or.inr rfl) ?_
      refine j_iadd K dX3_readTerm_19 ?_
      refine j_putI (k := 36) K dX3_readTerm_20 rfl rfl q1292 rfl (Or.inl rfl) rfl rfl rfl rfl ?_
      refine j_aload_n K dX3_readTerm_23 rfl ?_
      refine j_callV _ K (hg_X3_readFactor (sI r2.1 30 36 ((gI r2.1 30 36) + 1))) dX3_readTerm_24 rfl rfl q1708 q1710 qs80 q95 q1711 pm_X3_readFactor rfl rfl rfl rfl rfl (fun r3 _ => ?_)
      refine j_aload_n K dX3_readTerm_27 rfl ?_
      refine j_bipush (x := 38) K dX3_readTerm_28 (by decide +kernel) ?_
      refine j_iconstZ K dX3_readTerm_30 rfl (Or.inl rfl) ?_
      refine j_iconstZ K dX3_readTerm_31 rfl (Or.inl rfl) ?_
      refine j_callV _ K (sim_X3_part hG hl d 38 0 0 r3.1 false true true) dX3_readTerm_32 rfl rfl q1716 q1718 qs82 q95 q1719 pm_X3_part rfl rfl rfl rfl rfl (fun r4 _ => ?_)
      refine j_goto 4 K dX3_readTerm_35 (by decide) ?_
      exact ih _
theorem simB_X3_readTerm {G : Gx} (hG : GW G) {l : Launch} (hl : l.stackTraces = false) (d : Nat) {g_X3_readFactor : Wd → Option (Wd × Unit)} (hg_X3_readFactor : ∀ (w : Wd), Mt G true l yX3_readFactor (ws_ yX3_readFactor cX3_readFactor 1 (none)) d (rrV G pU) [aR 3 (some 30)] w (g_X3_readFactor w)) {g_X3_readTerm : Wd → Option (Wd × Unit)} (hg_X3_readTerm : ∀ (w : Wd), Mt G true l yX3_readTerm (ws_ yX3_readTerm cX3_readTerm 1 (none)) d (rrV G pU) [aR 3 (some 30)] w (g_X3_readTerm w)) {g_X3_readFilter : Wd → Option (Wd × Unit)} (hg_X3_readFilter : ∀ (w : Wd), Mt G true l yX3_readFilter (ws_ yX3_readFilter cX3_readFilter 1 (none)) d (rrV G pU) [aR 3 (some 30)] w (g_X3_readFilter w)) (w : Wd) : Mt G true l yX3_readTerm (ws_ yX3_readTerm cX3_readTerm 1 (none)) (d + 1) (rrV G pU) [aR 3 (some 30)] w (fB_X3_readTerm d g_X3_readFactor g_X3_readTerm g_X3_readFilter w) := by
  refine Mt.of (own := "IntervalTreeModel") hG hl (by decide +kernel) rfl rfl ?_
  intro M hM hr hnm hxt hnd K
  subst hM
  refine j_aload_n K dX3_readTerm_0 rfl ?_
  refine j_callV _ K (hg_X3_readFactor w) dX3_readTerm_1 rfl rfl q1708 q1710 qs80 q95 q1711 pm_X3_readFactor rfl rfl rfl rfl rfl (fun r1 _ => ?_)
  exact sb_X3_readTerm_4 hG hl K hr hnm hxt hnd hg_X3_readFactor hg_X3_readTerm hg_X3_readFilter FU _
def b_X3_readFilter_4 (d : Nat) (g_X3_readFactor : Wd → Option (Wd × Unit)) (g_X3_readTerm : Wd → Option (Wd × Unit)) (g_X3_readFilter : Wd → Option (Wd × Unit)) : Nat → Wd → Option (Wd × Unit)
  | 0, _ => none
  | n + 1, w =>
    (f_X3_sign d w).bind fun r2 =>
    if r2.2 = 124 then
      (g_X3_readTerm (sI r2.1 30 36 ((gI r2.1 30 36) + 1))).bind fun r3 =>
      (f_X3_part d 124 0 0 r3.1).bind fun r4 =>
      b_X3_readFilter_4 d g_X3_readFactor g_X3_readTerm g_X3_readFilter n r4.1
    else
      some (r2.1, ())
def fB_X3_readFilter (d : Nat) (g_X3_readFactor : Wd → Option (Wd × Unit)) (g_X3_readTerm : Wd → Option (Wd × Unit)) (g_X3_readFilter : Wd → Option (Wd × Unit)) (w : Wd) : Option (Wd × Unit) :=
  (g_X3_readTerm w).bind fun r1 =>
  b_X3_readFilter_4 d g_X3_readFactor g_X3_readTerm g_X3_readFilter FU r1.1
theorem sb_X3_readFilter_4 {G : Gx} (hG : GW G) {M : Mx} (hl : (mL M).stackTraces = false) {w0 : Wd} {d : Nat} (K : Cx (G, true, M, 1, w0) cX3_readFilter "IntervalTreeModel" (d + 1)) (hr : (mH M).sig.returnType = none) (hnm : (mH M).name = yX3_readFilter.name) (hxt : ∀ x ∈ (mC M).exceptionTable.toList, False) (hnd : (mS M).methodNamed? yX3_readFilter = some (mM M)) {g_X3_readFactor : Wd → Option (Wd × Unit)} (hg_X3_readFactor : ∀ (w : Wd), Mt G true (mL M) yX3_readFactor (ws_ yX3_readFactor cX3_readFactor 1 (none)) d (rrV G pU) [aR 3 (some 30)] w (g_X3_readFactor w)) {g_X3_readTerm : Wd → Option (Wd × Unit)} (hg_X3_readTerm : ∀ (w : Wd), Mt G true (mL M) yX3_readTerm (ws_ yX3_readTerm cX3_readTerm 1 (none)) d (rrV G pU) [aR 3 (some 30)] w (g_X3_readTerm w)) {g_X3_readFilter : Wd → Option (Wd × Unit)} (hg_X3_readFilter : ∀ (w : Wd), Mt G true (mL M) yX3_readFilter (ws_ yX3_readFilter cX3_readFilter 1 (none)) d (rrV G pU) [aR 3 (some 30)] w (g_X3_readFilter w)) : ∀ (n : Nat), ∀ (w : Wd), Jf (G, true, M, 1, w0) (rrV G pU) (b_X3_readFilter_4 d g_X3_readFactor g_X3_readTerm g_X3_readFilter n w) w 4 [some (aR 3 (some 30))] [] := by
  intro n
  induction n with
  | zero => intros; exact j_none
  | succ n ih =>
    intro w
    refine j_aload_n K dX3_readFilter_4 rfl ?_
    refine j_callV _ K (sim_X3_sign hG hl d w) dX3_readFilter_5 rfl rfl q1712 q1714 qs81 q95 q1715 pm_X3_sign rfl rfl rfl rfl rfl (fun r2 _ => ?_)
    refine j_bipush (x := 124) K dX3_readFilter_8 (by decide +kernel) ?_
    refine j_icmp_ne 38 K dX3_readFilter_10 (by decide) ?_ ?_
    · exact j_vret K hr dX3_readFilter_38
    · refine j_aload_n K dX3_readFilter_13 rfl ?_
      refine j_dup K dX3_readFilter_14 rfl ?_
      refine j_getI (k := 36) K dX3_readFilter_15 rfl rfl rfl q1292 rfl rfl rfl ?_
      refine j_iconstZ K dX3_readFilter_18 rfl (Or.inr rfl) ?_
      refine j_iadd K dX3_readFilter_19 ?_
      refine j_putI (k := 36) K dX3_readFilter_20 rfl rfl q1292 rfl (Or.inl rfl) rfl rfl rfl rfl ?_
      refine j_aload_n K dX3_readFilter_23 rfl ?_
      refine j_callV _ K (hg_X3_readTerm (sI r2.1 30 36 ((gI r2.1 30 36) + 1))) dX3_readFilter_24 rfl rfl q1704 q1706 qs79 q95 q1707 pm_X3_readTerm rfl rfl rfl rfl rfl (fun r3 _ => ?_)
      refine j_aload_n K dX3_readFilter_27 rfl ?_
      refine j_bipush (x := 124) K dX3_readFilter_28 (by decide +kernel) ?_
      refine j_iconstZ K dX3_readFilter_30 rfl (Or.inl rfl) ?_
      refine j_iconstZ K dX3_readFilter_31 rfl (Or.inl rfl) ?_
      refine j_callV _ K (sim_X3_part hG hl d 124 0 0 r3.1 false true true) dX3_readFilter_32 rfl rfl q1716 q1718 qs82 q95 q1719 pm_X3_part rfl rfl rfl rfl rfl (fun r4 _ => ?_)
      refine j_goto 4 K dX3_readFilter_35 (by decide) ?_
      exact ih _
theorem simB_X3_readFilter {G : Gx} (hG : GW G) {l : Launch} (hl : l.stackTraces = false) (d : Nat) {g_X3_readFactor : Wd → Option (Wd × Unit)} (hg_X3_readFactor : ∀ (w : Wd), Mt G true l yX3_readFactor (ws_ yX3_readFactor cX3_readFactor 1 (none)) d (rrV G pU) [aR 3 (some 30)] w (g_X3_readFactor w)) {g_X3_readTerm : Wd → Option (Wd × Unit)} (hg_X3_readTerm : ∀ (w : Wd), Mt G true l yX3_readTerm (ws_ yX3_readTerm cX3_readTerm 1 (none)) d (rrV G pU) [aR 3 (some 30)] w (g_X3_readTerm w)) {g_X3_readFilter : Wd → Option (Wd × Unit)} (hg_X3_readFilter : ∀ (w : Wd), Mt G true l yX3_readFilter (ws_ yX3_readFilter cX3_readFilter 1 (none)) d (rrV G pU) [aR 3 (some 30)] w (g_X3_readFilter w)) (w : Wd) : Mt G true l yX3_readFilter (ws_ yX3_readFilter cX3_readFilter 1 (none)) (d + 1) (rrV G pU) [aR 3 (some 30)] w (fB_X3_readFilter d g_X3_readFactor g_X3_readTerm g_X3_readFilter w) := by
  refine Mt.of (own := "IntervalTreeModel") hG hl (by decide +kernel) rfl rfl ?_
  intro M hM hr hnm hxt hnd K
  subst hM
  refine j_aload_n K dX3_readFilter_0 rfl ?_
  refine j_callV _ K (hg_X3_readTerm w) dX3_readFilter_1 rfl rfl q1704 q1706 qs79 q95 q1707 pm_X3_readTerm rfl rfl rfl rfl rfl (fun r1 _ => ?_)
  exact sb_X3_readFilter_4 hG hl K hr hnm hxt hnd hg_X3_readFactor hg_X3_readTerm hg_X3_readFilter FU _
def fs_X3_readFactor : Nat → (Wd → Option (Wd × Unit)) × (Wd → Option (Wd × Unit)) × (Wd → Option (Wd × Unit))
  | 0 => (fun _ => none, fun _ => none, fun _ => none)
  | d + 1 => (fB_X3_readFactor d (fs_X3_readFactor d).1 (fs_X3_readFactor d).2.1 (fs_X3_readFactor d).2.2, fB_X3_readTerm d (fs_X3_readFactor d).1 (fs_X3_readFactor d).2.1 (fs_X3_readFactor d).2.2, fB_X3_readFilter d (fs_X3_readFactor d).1 (fs_X3_readFactor d).2.1 (fs_X3_readFactor d).2.2)
def f_X3_readFactor (d : Nat) : (Wd → Option (Wd × Unit)) := (fs_X3_readFactor d).1
def f_X3_readTerm (d : Nat) : (Wd → Option (Wd × Unit)) := (fs_X3_readFactor d).2.1
def f_X3_readFilter (d : Nat) : (Wd → Option (Wd × Unit)) := (fs_X3_readFactor d).2.2
theorem sims_X3_readFactor {G : Gx} (hG : GW G) {l : Launch} (hl : l.stackTraces = false) : ∀ (d : Nat), (∀ (w : Wd), Mt G true l yX3_readFactor (ws_ yX3_readFactor cX3_readFactor 1 (none)) d (rrV G pU) [aR 3 (some 30)] w (f_X3_readFactor d w)) ∧ (∀ (w : Wd), Mt G true l yX3_readTerm (ws_ yX3_readTerm cX3_readTerm 1 (none)) d (rrV G pU) [aR 3 (some 30)] w (f_X3_readTerm d w)) ∧ (∀ (w : Wd), Mt G true l yX3_readFilter (ws_ yX3_readFilter cX3_readFilter 1 (none)) d (rrV G pU) [aR 3 (some 30)] w (f_X3_readFilter d w)) := by
  intro d
  induction d with
  | zero => exact ⟨(by intros; intro _ h9; cases (show (none : Option (Wd × Unit)) = some _ from h9)), (by intros; intro _ h9; cases (show (none : Option (Wd × Unit)) = some _ from h9)), (by intros; intro _ h9; cases (show (none : Option (Wd × Unit)) = some _ from h9))⟩
  | succ d ih => exact ⟨simB_X3_readFactor hG hl d ih.1 ih.2.1 ih.2.2, simB_X3_readTerm hG hl d ih.1 ih.2.1 ih.2.2, simB_X3_readFilter hG hl d ih.1 ih.2.1 ih.2.2⟩
theorem sim_X3_readFactor {G : Gx} (hG : GW G) {l : Launch} (hl : l.stackTraces = false) (d : Nat) : ∀ (w : Wd), Mt G true l yX3_readFactor (ws_ yX3_readFactor cX3_readFactor 1 (none)) d (rrV G pU) [aR 3 (some 30)] w (f_X3_readFactor d w) := (sims_X3_readFactor hG hl d).1
theorem sim_X3_readTerm {G : Gx} (hG : GW G) {l : Launch} (hl : l.stackTraces = false) (d : Nat) : ∀ (w : Wd), Mt G true l yX3_readTerm (ws_ yX3_readTerm cX3_readTerm 1 (none)) d (rrV G pU) [aR 3 (some 30)] w (f_X3_readTerm d w) := (sims_X3_readFactor hG hl d).2.1
theorem sim_X3_readFilter {G : Gx} (hG : GW G) {l : Launch} (hl : l.stackTraces = false) (d : Nat) : ∀ (w : Wd), Mt G true l yX3_readFilter (ws_ yX3_readFilter cX3_readFilter 1 (none)) d (rrV G pU) [aR 3 (some 30)] w (f_X3_readFilter d w) := (sims_X3_readFactor hG hl d).2.2

theorem pm_X3_parseFilter : yX3_parseFilter.cls = RX3 ∧ yX3_parseFilter.cls ≠ "java/lang/invoke/MethodHandle" ∧ yX3_parseFilter.cls ≠ "java/lang/invoke/VarHandle" ∧ (parseMethodDescriptor yX3_parseFilter.desc).map (fun d => d.parameters.length) = some 0 := by decide +kernel
def b_X3_parseFilter_73 (d : Nat) (s1 : Int32) (w : Wd) : Option (Wd × Int32) :=
  if (gI (sI (sI w 30 38 s1) 30 35 0) 30 38) = 0 then
    (f_X3_adds d 6 0 0 0 (sI (sI w 30 38 s1) 30 35 0)).bind fun r3 =>
    some (r3.1, r3.2)
  else
    some (sI (sI w 30 38 s1) 30 35 0, ((-100) - (gI (sI (sI w 30 38 s1) 30 35 0) 30 36)))
def b_X3_parseFilter_68 (d : Nat) (w : Wd) : Option (Wd × Int32) :=
  b_X3_parseFilter_73 d 1 w
def f_X3_parseFilter (d : Nat) (w : Wd) : Option (Wd × Int32) :=
  match d with
  | 0 => none
  | d + 1 =>
    if (gI (sI w 30 0 0) 30 24) = 8 then
      (f_X3_fails d 1 (sI w 30 0 0)).bind fun r3 =>
      some (r3.1, r3.2)
    else
      if ib (gI (sI (sI (sI (sI w 30 0 0) 30 36 0) 30 37 0) 30 38 0) 30 24) 8 = true then
        (f_X3_readFilter d (sI (sI (sI (sI (sI w 30 0 0) 30 36 0) 30 37 0) 30 38 0) 48 (gI (sI (sI (sI (sI w 30 0 0) 30 36 0) 30 37 0) 30 38 0) 30 24).toNatClampNeg 0)).bind fun r2 =>
        if (gI r2.1 30 38) = 0 then
          if (gI r2.1 30 35) ≤ (gI r2.1 30 36) then
            b_X3_parseFilter_73 d 0 r2.1
          else
            b_X3_parseFilter_68 d r2.1
        else
          b_X3_parseFilter_68 d r2.1
      else none
theorem sb_X3_parseFilter_73 {G : Gx} (hG : GW G) {M : Mx} (hl : (mL M).stackTraces = false) {w0 : Wd} {d : Nat} (K : Cx (G, true, M, 1, w0) cX3_parseFilter "IntervalTreeModel" (d + 1)) (hr : (mH M).sig.returnType = some .int) (hnm : (mH M).name = yX3_parseFilter.name) (hxt : ∀ x ∈ (mC M).exceptionTable.toList, False) (hnd : (mS M).methodNamed? yX3_parseFilter = some (mM M)) : ∀ (s1 : Int32) (w : Wd), Jf (G, true, M, 1, w0) (rrV G pI) (b_X3_parseFilter_73 d s1 w) w 73 [some (aR 3 (some 30))] [aB true s1, aR 3 (some 30)] := by
  intro s1 w
  refine j_putZ (k := 38) K dX3_parseFilter_73 rfl rfl q1294 rfl (Or.inl rfl) rfl rfl rfl ?_
  refine j_aload_n K dX3_parseFilter_76 rfl ?_
  refine j_iconstZ K dX3_parseFilter_77 rfl (Or.inl rfl) ?_
  refine j_putI (k := 35) K dX3_parseFilter_78 rfl rfl q1291 rfl (Or.inl rfl) rfl rfl rfl rfl ?_
  refine j_aload_n K dX3_parseFilter_81 rfl ?_
  refine j_getZ (k := 38) K dX3_parseFilter_82 rfl rfl rfl q1294 rfl rfl rfl rfl ?_
  refine j_if_eq 98 K dX3_parseFilter_85 (by decide) ?_ ?_
  · refine j_aload_n K dX3_parseFilter_98 rfl ?_
    refine j_bipush (x := 6) K dX3_parseFilter_99 (by decide +kernel) ?_
    refine j_iconstZ K dX3_parseFilter_101 rfl (Or.inl rfl) ?_
    refine j_iconstZ K dX3_parseFilter_102 rfl (Or.inl rfl) ?_
    refine j_iconstZ K dX3_parseFilter_103 rfl (Or.inl rfl) ?_
    refine j_callV _ K (sim_X3_adds hG hl d 6 0 0 0 (sI (sI w 30 38 s1) 30 35 0) false true true true) dX3_parseFilter_104 rfl rfl q1676 q1678 qs76 q95 q1679 pm_X3_adds rfl rfl rfl rfl rfl (fun r3 _ => ?_)
    exact j_iret K hr dX3_parseFilter_107
  · refine j_bipush (x := (-100)) K dX3_parseFilter_88 (by decide +kernel) ?_
    refine j_aload_n K dX3_parseFilter_90 rfl ?_
    refine j_getI (k := 36) K dX3_parseFilter_91 rfl rfl rfl q1292 rfl rfl rfl ?_
    refine j_isub K dX3_parseFilter_94 ?_
    refine j_goto 107 K dX3_parseFilter_95 (by decide) ?_
    exact j_iret K hr dX3_parseFilter_107
theorem sb_X3_parseFilter_68 {G : Gx} (hG : GW G) {M : Mx} (hl : (mL M).stackTraces = false) {w0 : Wd} {d : Nat} (K : Cx (G, true, M, 1, w0) cX3_parseFilter "IntervalTreeModel" (d + 1)) (hr : (mH M).sig.returnType = some .int) (hnm : (mH M).name = yX3_parseFilter.name) (hxt : ∀ x ∈ (mC M).exceptionTable.toList, False) (hnd : (mS M).methodNamed? yX3_parseFilter = some (mM M)) : ∀ (w : Wd), Jf (G, true, M, 1, w0) (rrV G pI) (b_X3_parseFilter_68 d w) w 68 [some (aR 3 (some 30))] [aR 3 (some 30)] := by
  intro w
  refine j_iconstZ K dX3_parseFilter_68 rfl (Or.inr rfl) ?_
  refine j_goto 73 K dX3_parseFilter_69 (by decide) ?_
  exact sb_X3_parseFilter_73 hG hl K hr hnm hxt hnd _ _
theorem sim_X3_parseFilter {G : Gx} (hG : GW G) {l : Launch} (hl : l.stackTraces = false) (d : Nat) (w : Wd) : Mt G true l yX3_parseFilter (ws_ yX3_parseFilter cX3_parseFilter 1 (some .int)) d (rrV G pI) [aR 3 (some 30)] w (f_X3_parseFilter d w) := by
  refine Mt.of (own := "IntervalTreeModel") hG hl (by decide +kernel) rfl rfl ?_
  intro M hM hr hnm hxt hnd K
  subst hM
  cases d with
  | zero => exact j_none
  | succ d =>
    refine j_aload_n K dX3_parseFilter_0 rfl ?_
    refine j_iconstZ K dX3_parseFilter_1 rfl (Or.inl rfl) ?_
    refine j_putI (k := 0) K dX3_parseFilter_2 rfl rfl q1256 rfl (Or.inl rfl) rfl rfl rfl rfl ?_
    refine j_aload_n K dX3_parseFilter_5 rfl ?_
    refine j_getI (k := 24) K dX3_parseFilter_6 rfl rfl rfl q1280 rfl rfl rfl ?_
    refine j_bipush (x := 8) K dX3_parseFilter_9 (by decide +kernel) ?_
    refine j_icmp_ne 20 K dX3_parseFilter_11 (by decide) ?_ ?_
    · refine j_aload_n K dX3_parseFilter_20 rfl ?_
      refine j_iconstZ K dX3_parseFilter_21 rfl (Or.inl rfl) ?_
      refine j_putI (k := 36) K dX3_parseFilter_22 rfl rfl q1292 rfl (Or.inl rfl) rfl rfl rfl rfl ?_
      refine j_aload_n K dX3_parseFilter_25 rfl ?_
      refine j_iconstZ K dX3_parseFilter_26 rfl (Or.inl rfl) ?_
      refine j_putI (k := 37) K dX3_parseFilter_27 rfl rfl q1293 rfl (Or.inl rfl) rfl rfl rfl rfl ?_
      refine j_aload_n K dX3_parseFilter_30 rfl ?_
      refine j_iconstZ K dX3_parseFilter_31 rfl (Or.inl rfl) ?_
      refine j_putZ (k := 38) K dX3_parseFilter_32 rfl rfl q1294 rfl (Or.inl rfl) rfl rfl rfl ?_
      refine j_aload_n K dX3_parseFilter_35 rfl ?_
      refine j_getA (k := 29) 32 K dX3_parseFilter_36 rfl rfl rfl q1285 rfl rfl (by decide) rfl rfl rfl ?_
      refine j_aload_n K dX3_parseFilter_39 rfl ?_
      refine j_getI (k := 24) K dX3_parseFilter_40 rfl rfl rfl q1280 rfl rfl rfl ?_
      refine j_iconstZ K dX3_parseFilter_43 rfl (Or.inl rfl) ?_
      refine j_ib (fun hi1 => ?_)
      refine j_ias K dX3_parseFilter_44 rfl (fxLen2 32 rfl rfl) hi1 ?_
      refine j_aload_n K dX3_parseFilter_45 rfl ?_
      refine j_callV _ K (sim_X3_readFilter hG hl d (sI (sI (sI (sI (sI w 30 0 0) 30 36 0) 30 37 0) 30 38 0) 48 (gI (sI (sI (sI (sI w 30 0 0) 30 36 0) 30 37 0) 30 38 0) 30 24).toNatClampNeg 0)) dX3_parseFilter_46 rfl rfl q1700 q1702 qs78 q95 q1703 pm_X3_readFilter rfl rfl rfl rfl rfl (fun r2 _ => ?_)
      refine j_aload_n K dX3_parseFilter_49 rfl ?_
      refine j_aload_n K dX3_parseFilter_50 rfl ?_
      refine j_getZ (k := 38) K dX3_parseFilter_51 rfl rfl rfl q1294 rfl rfl rfl rfl ?_
      refine j_if_ne 68 K dX3_parseFilter_54 (by decide) ?_ ?_
      · exact sb_X3_parseFilter_68 hG hl K hr hnm hxt hnd _
      · refine j_aload_n K dX3_parseFilter_57 rfl ?_
        refine j_getI (k := 36) K dX3_parseFilter_58 rfl rfl rfl q1292 rfl rfl rfl ?_
        refine j_aload_n K dX3_parseFilter_61 rfl ?_
        refine j_getI (k := 35) K dX3_parseFilter_62 rfl rfl rfl q1291 rfl rfl rfl ?_
        refine j_icmp_ge 72 K dX3_parseFilter_65 (by decide) ?_ ?_
        · refine j_iconstZ K dX3_parseFilter_72 rfl (Or.inl rfl) ?_
          exact sb_X3_parseFilter_73 hG hl K hr hnm hxt hnd _ _
        · exact sb_X3_parseFilter_68 hG hl K hr hnm hxt hnd _
    · refine j_aload_n K dX3_parseFilter_14 rfl ?_
      refine j_iconstZ K dX3_parseFilter_15 rfl (Or.inr rfl) ?_
      refine j_callV _ K (sim_X3_fails hG hl d 1 (sI w 30 0 0) true) dX3_parseFilter_16 rfl rfl q1420 q1422 qs51 q95 q1423 pm_X3_fails rfl rfl rfl rfl rfl (fun r3 _ => ?_)
      exact j_iret K hr dX3_parseFilter_19

theorem pm_X3_overlapsAny : yX3_overlapsAny.cls = RX3 ∧ yX3_overlapsAny.cls ≠ "java/lang/invoke/MethodHandle" ∧ yX3_overlapsAny.cls ≠ "java/lang/invoke/VarHandle" ∧ (parseMethodDescriptor yX3_overlapsAny.desc).map (fun d => d.parameters.length) = some 1 := by decide +kernel
def b_X3_overlapsAny_46 (d : Nat) (k2 : Int32 → Int32 → Wd → Option (Wd × Int32)) (x1 : Int32) (x2 : Int32) (w : Wd) : Option (Wd × Int32) :=
  k2 x1 (x2 + 1) w
def b_X3_overlapsAny_2 (d : Nat) : Nat → Int32 → Int32 → Wd → Option (Wd × Int32)
  | 0, _, _, _ => none
  | n + 1, x1, x2, w =>
    if (gI w 30 10) ≤ x2 then
      some (w, 0)
    else
      if x2 = x1 then
        b_X3_overlapsAny_46 d (b_X3_overlapsAny_2 d n) x1 x2 w
      else
        if ib x2 500 = true then
          if (gI w 34 x2.toNatClampNeg) = 0 then
            if ib x1 500 = true then
              (f_X3_overlaps d x2 (gI w 31 x1.toNatClampNeg) (gI w 32 x1.toNatClampNeg) w).bind fun r3 =>
              if r3.2 = 0 then
                b_X3_overlapsAny_46 d (b_X3_overlapsAny_2 d n) x1 x2 r3.1
              else
                some (r3.1, 1)
            else none
          else
            b_X3_overlapsAny_46 d (b_X3_overlapsAny_2 d n) x1 x2 w
        else none
def f_X3_overlapsAny (d : Nat) (p1 : Int32) (w : Wd) : Option (Wd × Int32) :=
  match d with
  | 0 => none
  | d + 1 =>
    b_X3_overlapsAny_2 d FU p1 0 w
theorem sb_X3_overlapsAny_46 {G : Gx} (hG : GW G) {M : Mx} (hl : (mL M).stackTraces = false) {w0 : Wd} {d : Nat} (K : Cx (G, true, M, 3, w0) cX3_overlapsAny "IntervalTreeModel" (d + 1)) (hr : (mH M).sig.returnType = some .boolean) (hnm : (mH M).name = yX3_overlapsAny.name) (hxt : ∀ x ∈ (mC M).exceptionTable.toList, False) (hnd : (mS M).methodNamed? yX3_overlapsAny = some (mM M)) {k2 : Int32 → Int32 → Wd → Option (Wd × Int32)} (hk2 : ∀ (x1 : Int32) (x2 : Int32) (w : Wd) (fx1 : Bool) (fx2 : Bool), Jf (G, true, M, 3, w0) (rrV G pZ) (k2 x1 x2 w) w 2 [some (aR 3 (some 30)), some (aB fx1 x1), some (aB fx2 x2)] []) : ∀ (x1 : Int32) (x2 : Int32) (w : Wd) (fx1 : Bool) (fx2 : Bool), Jf (G, true, M, 3, w0) (rrV G pZ) (b_X3_overlapsAny_46 d k2 x1 x2 w) w 46 [some (aR 3 (some 30)), some (aB fx1 x1), some (aB fx2 x2)] [] := by
  intro x1 x2 w fx1 fx2
  refine j_iinc (y := 1) K dX3_overlapsAny_46 rfl rfl rfl rfl ?_
  refine j_goto 2 K dX3_overlapsAny_49 (by decide) ?_
  exact hk2 _ _ _ _ _
theorem sb_X3_overlapsAny_2 {G : Gx} (hG : GW G) {M : Mx} (hl : (mL M).stackTraces = false) {w0 : Wd} {d : Nat} (K : Cx (G, true, M, 3, w0) cX3_overlapsAny "IntervalTreeModel" (d + 1)) (hr : (mH M).sig.returnType = some .boolean) (hnm : (mH M).name = yX3_overlapsAny.name) (hxt : ∀ x ∈ (mC M).exceptionTable.toList, False) (hnd : (mS M).methodNamed? yX3_overlapsAny = some (mM M)) : ∀ (n : Nat), ∀ (x1 : Int32) (x2 : Int32) (w : Wd) (fx1 : Bool) (fx2 : Bool), Jf (G, true, M, 3, w0) (rrV G pZ) (b_X3_overlapsAny_2 d n x1 x2 w) w 2 [some (aR 3 (some 30)), some (aB fx1 x1), some (aB fx2 x2)] [] := by
  intro n
  induction n with
  | zero => intros; exact j_none
  | succ n ih =>
    intro x1 x2 w fx1 fx2
    refine j_iload_n K dX3_overlapsAny_2 rfl ?_
    refine j_aload_n K dX3_overlapsAny_3 rfl ?_
    refine j_getI (k := 10) K dX3_overlapsAny_4 rfl rfl rfl q1266 rfl rfl rfl ?_
    refine j_icmp_ge 52 K dX3_overlapsAny_7 (by decide) ?_ ?_
    · refine j_iconstZ K dX3_overlapsAny_52 rfl (Or.inl rfl) ?_
      exact j_zret K hr dX3_overlapsAny_53
    · refine j_iload_n K dX3_overlapsAny_10 rfl ?_
      refine j_iload_n K dX3_overlapsAny_11 rfl ?_
      refine j_icmp_eq 46 K dX3_overlapsAny_12 (by decide) ?_ ?_
      · exact sb_X3_overlapsAny_46 hG hl K hr hnm hxt hnd ih _ _ _ _ _
      · refine j_aload_n K dX3_overlapsAny_15 rfl ?_
        refine j_getA (k := 4) 18 K dX3_overlapsAny_16 rfl rfl rfl q1260 rfl rfl (by decide) rfl rfl rfl ?_
        refine j_iload_n K dX3_overlapsAny_19 rfl ?_
        refine j_ib (fun hi1 => ?_)
        refine j_ial K dX3_overlapsAny_20 rfl (fxLen 18 rfl rfl) hi1 ?_
        refine j_if_ne 46 K dX3_overlapsAny_21 (by decide) ?_ ?_
        · exact sb_X3_overlapsAny_46 hG hl K hr hnm hxt hnd ih _ _ _ _ _
        · refine j_aload_n K dX3_overlapsAny_24 rfl ?_
          refine j_iload_n K dX3_overlapsAny_25 rfl ?_
          refine j_aload_n K dX3_overlapsAny_26 rfl ?_
          refine j_getA (k := 1) 15 K dX3_overlapsAny_27 rfl rfl rfl q1257 rfl rfl (by decide) rfl rfl rfl ?_
          refine j_iload_n K dX3_overlapsAny_30 rfl ?_
          refine j_ib (fun hi2 => ?_)
          refine j_ial K dX3_overlapsAny_31 rfl (fxLen 15 rfl rfl) hi2 ?_
          refine j_aload_n K dX3_overlapsAny_32 rfl ?_
          refine j_getA (k := 2) 16 K dX3_overlapsAny_33 rfl rfl rfl q1258 rfl rfl (by decide) rfl rfl rfl ?_
          refine j_iload_n K dX3_overlapsAny_36 rfl ?_
          refine j_ial K dX3_overlapsAny_37 rfl (fxLen 16 rfl rfl) hi2 ?_
          refine j_callV _ K (sim_X3_overlaps hG hl d x2 (gI w 31 x1.toNatClampNeg) (gI w 32 x1.toNatClampNeg) w fx2 false false) dX3_overlapsAny_38 rfl rfl q1591 q1593 qs71 q95 q1594 pm_X3_overlaps rfl rfl rfl rfl rfl (fun r3 _ => ?_)
          refine j_if_eq 46 K dX3_overlapsAny_41 (by decide) ?_ ?_
          · exact sb_X3_overlapsAny_46 hG hl K hr hnm hxt hnd ih _ _ _ _ _
          · refine j_iconstZ K dX3_overlapsAny_44 rfl (Or.inr rfl) ?_
            exact j_zret K hr dX3_overlapsAny_45
theorem sim_X3_overlapsAny {G : Gx} (hG : GW G) {l : Launch} (hl : l.stackTraces = false) (d : Nat) (p1 : Int32) (w : Wd) (fp1 : Bool) : Mt G true l yX3_overlapsAny (ws_ yX3_overlapsAny cX3_overlapsAny 3 (some .boolean)) d (rrV G pZ) [aR 3 (some 30), aB fp1 p1] w (f_X3_overlapsAny d p1 w) := by
  refine Mt.of (own := "IntervalTreeModel") hG hl (by decide +kernel) rfl rfl ?_
  intro M hM hr hnm hxt hnd K
  subst hM
  cases d with
  | zero => exact j_none
  | succ d =>
    refine j_iconstZ K dX3_overlapsAny_0 rfl (Or.inl rfl) ?_
    refine j_istore_n K dX3_overlapsAny_1 rfl rfl ?_
    exact sb_X3_overlapsAny_2 hG hl K hr hnm hxt hnd FU _ _ _ _ _

theorem pm_X3_propertyOf : yX3_propertyOf.cls = RX3 ∧ yX3_propertyOf.cls ≠ "java/lang/invoke/MethodHandle" ∧ yX3_propertyOf.cls ≠ "java/lang/invoke/VarHandle" ∧ (parseMethodDescriptor yX3_propertyOf.desc).map (fun d => d.parameters.length) = some 2 := by decide +kernel
def f_X3_propertyOf (d : Nat) (p1 : Int32) (p2 : Int32) (w : Wd) : Option (Wd × Int32) :=
  match d with
  | 0 => none
  | d + 1 =>
    if p2 = 0 then
      if ib p1 500 = true then
        some (w, (gI w 31 p1.toNatClampNeg))
      else none
    else
      if p2 = 1 then
        if ib p1 500 = true then
          some (w, (gI w 32 p1.toNatClampNeg))
        else none
      else
        if p2 = 2 then
          if ib p1 500 = true then
            some (w, (gI w 33 p1.toNatClampNeg))
          else none
        else
          if ib p1 500 = true then
            some (w, ((gI w 32 p1.toNatClampNeg) - (gI w 31 p1.toNatClampNeg)))
          else none
theorem sim_X3_propertyOf {G : Gx} (hG : GW G) {l : Launch} (hl : l.stackTraces = false) (d : Nat) (p1 : Int32) (p2 : Int32) (w : Wd) (fp1 : Bool) (fp2 : Bool) : Mt G true l yX3_propertyOf (ws_ yX3_propertyOf cX3_propertyOf 3 (some .int)) d (rrV G pI) [aR 3 (some 30), aB fp1 p1, aB fp2 p2] w (f_X3_propertyOf d p1 p2 w) := by
  refine Mt.of (own := "IntervalTreeModel") hG hl (by decide +kernel) rfl rfl ?_
  intro M hM hr hnm hxt hnd K
  subst hM
  cases d with
  | zero => exact j_none
  | succ d =>
    refine j_iload_n K dX3_propertyOf_0 rfl ?_
    refine j_if_ne 13 K dX3_propertyOf_1 (by decide) ?_ ?_
    · refine j_iload_n K dX3_propertyOf_13 rfl ?_
      refine j_iconstZ K dX3_propertyOf_14 rfl (Or.inr rfl) ?_
      refine j_icmp_ne 27 K dX3_propertyOf_15 (by decide) ?_ ?_
      · refine j_iload_n K dX3_propertyOf_27 rfl ?_
        refine j_iconst (x := 2) K dX3_propertyOf_28 rfl ?_
        refine j_icmp_ne 41 K dX3_propertyOf_29 (by decide) ?_ ?_
        · refine j_aload_n K dX3_propertyOf_41 rfl ?_
          refine j_getA (k := 2) 16 K dX3_propertyOf_42 rfl rfl rfl q1258 rfl rfl (by decide) rfl rfl rfl ?_
          refine j_iload_n K dX3_propertyOf_45 rfl ?_
          refine j_ib (fun hi1 => ?_)
          refine j_ial K dX3_propertyOf_46 rfl (fxLen 16 rfl rfl) hi1 ?_
          refine j_aload_n K dX3_propertyOf_47 rfl ?_
          refine j_getA (k := 1) 15 K dX3_propertyOf_48 rfl rfl rfl q1257 rfl rfl (by decide) rfl rfl rfl ?_
          refine j_iload_n K dX3_propertyOf_51 rfl ?_
          refine j_ial K dX3_propertyOf_52 rfl (fxLen 15 rfl rfl) hi1 ?_
          refine j_isub K dX3_propertyOf_53 ?_
          exact j_iret K hr dX3_propertyOf_54
        · refine j_aload_n K dX3_propertyOf_32 rfl ?_
          refine j_getA (k := 3) 17 K dX3_propertyOf_33 rfl rfl rfl q1259 rfl rfl (by decide) rfl rfl rfl ?_
          refine j_iload_n K dX3_propertyOf_36 rfl ?_
          refine j_ib (fun hi2 => ?_)
          refine j_ial K dX3_propertyOf_37 rfl (fxLen 17 rfl rfl) hi2 ?_
          refine j_goto 54 K dX3_propertyOf_38 (by decide) ?_
          exact j_iret K hr dX3_propertyOf_54
      · refine j_aload_n K dX3_propertyOf_18 rfl ?_
        refine j_getA (k := 2) 16 K dX3_propertyOf_19 rfl rfl rfl q1258 rfl rfl (by decide) rfl rfl rfl ?_
        refine j_iload_n K dX3_propertyOf_22 rfl ?_
        refine j_ib (fun hi3 => ?_)
        refine j_ial K dX3_propertyOf_23 rfl (fxLen 16 rfl rfl) hi3 ?_
        refine j_goto 54 K dX3_propertyOf_24 (by decide) ?_
        exact j_iret K hr dX3_propertyOf_54
    · refine j_aload_n K dX3_propertyOf_4 rfl ?_
      refine j_getA (k := 1) 15 K dX3_propertyOf_5 rfl rfl rfl q1257 rfl rfl (by decide) rfl rfl rfl ?_
      refine j_iload_n K dX3_propertyOf_8 rfl ?_
      refine j_ib (fun hi4 => ?_)
      refine j_ial K dX3_propertyOf_9 rfl (fxLen 15 rfl rfl) hi4 ?_
      refine j_goto 54 K dX3_propertyOf_10 (by decide) ?_
      exact j_iret K hr dX3_propertyOf_54

theorem pm_X3_isCompared : yX3_isCompared.cls = RX3 ∧ yX3_isCompared.cls ≠ "java/lang/invoke/MethodHandle" ∧ yX3_isCompared.cls ≠ "java/lang/invoke/VarHandle" ∧ (parseMethodDescriptor yX3_isCompared.desc).map (fun d => d.parameters.length) = some 3 := by decide +kernel
def f_X3_isCompared (d : Nat) (p1 : Int32) (p2 : Int32) (p3 : Int32) (w : Wd) : Option (Wd × Int32) :=
  match d with
  | 0 => none
  | d + 1 =>
    if p2 = 60 then
      if p3 ≤ p1 then
        some (w, 0)
      else
        some (w, 1)
    else
      if p2 = 61 then
        if p1 = p3 then
          some (w, 1)
        else
          some (w, 0)
      else
        if p1 ≤ p3 then
          some (w, 0)
        else
          some (w, 1)
theorem sim_X3_isCompared {G : Gx} (hG : GW G) {l : Launch} (hl : l.stackTraces = false) (d : Nat) (p1 : Int32) (p2 : Int32) (p3 : Int32) (w : Wd) (fp1 : Bool) (fp2 : Bool) (fp3 : Bool) : Mt G true l yX3_isCompared (ws_ yX3_isCompared cX3_isCompared 4 (some .boolean)) d (rrV G pZ) [aR 3 (some 30), aB fp1 p1, aB fp2 p2, aB fp3 p3] w (f_X3_isCompared d p1 p2 p3 w) := by
  refine Mt.of (own := "IntervalTreeModel") hG hl (by decide +kernel) rfl rfl ?_
  intro M hM hr hnm hxt hnd K
  subst hM
  cases d with
  | zero => exact j_none
  | succ d =>
    refine j_iload_n K dX3_isCompared_0 rfl ?_
    refine j_bipush (x := 60) K dX3_isCompared_1 (by decide +kernel) ?_
    refine j_icmp_ne 19 K dX3_isCompared_3 (by decide) ?_ ?_
    · refine j_iload_n K dX3_isCompared_19 rfl ?_
      refine j_bipush (x := 61) K dX3_isCompared_20 (by decide +kernel) ?_
      refine j_icmp_ne 38 K dX3_isCompared_22 (by decide) ?_ ?_
      · refine j_iload_n K dX3_isCompared_38 rfl ?_
        refine j_iload_n K dX3_isCompared_39 rfl ?_
        refine j_icmp_le 47 K dX3_isCompared_40 (by decide) ?_ ?_
        · refine j_iconstZ K dX3_isCompared_47 rfl (Or.inl rfl) ?_
          exact j_zret K hr dX3_isCompared_48
        · refine j_iconstZ K dX3_isCompared_43 rfl (Or.inr rfl) ?_
          refine j_goto 48 K dX3_isCompared_44 (by decide) ?_
          exact j_zret K hr dX3_isCompared_48
      · refine j_iload_n K dX3_isCompared_25 rfl ?_
        refine j_iload_n K dX3_isCompared_26 rfl ?_
        refine j_icmp_ne 34 K dX3_isCompared_27 (by decide) ?_ ?_
        · refine j_iconstZ K dX3_isCompared_34 rfl (Or.inl rfl) ?_
          refine j_goto 48 K dX3_isCompared_35 (by decide) ?_
          exact j_zret K hr dX3_isCompared_48
        · refine j_iconstZ K dX3_isCompared_30 rfl (Or.inr rfl) ?_
          refine j_goto 48 K dX3_isCompared_31 (by decide) ?_
          exact j_zret K hr dX3_isCompared_48
    · refine j_iload_n K dX3_isCompared_6 rfl ?_
      refine j_iload_n K dX3_isCompared_7 rfl ?_
      refine j_icmp_ge 15 K dX3_isCompared_8 (by decide) ?_ ?_
      · refine j_iconstZ K dX3_isCompared_15 rfl (Or.inl rfl) ?_
        refine j_goto 48 K dX3_isCompared_16 (by decide) ?_
        exact j_zret K hr dX3_isCompared_48
      · refine j_iconstZ K dX3_isCompared_11 rfl (Or.inr rfl) ?_
        refine j_goto 48 K dX3_isCompared_12 (by decide) ?_
        exact j_zret K hr dX3_isCompared_48

theorem pm_X3_isWritten : yX3_isWritten.cls = RX3 ∧ yX3_isWritten.cls ≠ "java/lang/invoke/MethodHandle" ∧ yX3_isWritten.cls ≠ "java/lang/invoke/VarHandle" ∧ (parseMethodDescriptor yX3_isWritten.desc).map (fun d => d.parameters.length) = some 2 := by decide +kernel
theorem pm_X3_takes : yX3_takes.cls = RX3 ∧ yX3_takes.cls ≠ "java/lang/invoke/MethodHandle" ∧ yX3_takes.cls ≠ "java/lang/invoke/VarHandle" ∧ (parseMethodDescriptor yX3_takes.desc).map (fun d => d.parameters.length) = some 2 := by decide +kernel
def b_X3_isWritten_244 (d : Nat) (g_X3_isWritten : Int32 → Int32 → Wd → Option (Wd × Int32)) (g_X3_takes : Int32 → Int32 → Wd → Option (Wd × Int32)) (k11 : Int32 → Int32 → Int32 → Int32 → Wd → Option (Wd × Int32)) (x1 : Int32) (x2 : Int32) (x3 : Int32) (x4 : Int32) (w : Wd) : Option (Wd × Int32) :=
  k11 x1 x2 x3 (x4 + 1) w
def b_X3_isWritten_99 (d : Nat) (g_X3_isWritten : Int32 → Int32 → Wd → Option (Wd × Int32)) (g_X3_takes : Int32 → Int32 → Wd → Option (Wd × Int32)) (k11 : Int32 → Int32 → Int32 → Int32 → Wd → Option (Wd × Int32)) (x1 : Int32) (x2 : Int32) (x3 : Int32) (x4 : Int32) (s1 : Int32) (s2 : Int32) (w : Wd) : Option (Wd × Int32) :=
  if ib s1 480 = true then
    b_X3_isWritten_244 d g_X3_isWritten g_X3_takes k11 x1 x2 x3 x4 (sI w 52 s1.toNatClampNeg (vp_nar .boolean s2))
  else none
def b_X3_isWritten_138 (d : Nat) (g_X3_isWritten : Int32 → Int32 → Wd → Option (Wd × Int32)) (g_X3_takes : Int32 → Int32 → Wd → Option (Wd × Int32)) (k11 : Int32 → Int32 → Int32 → Int32 → Wd → Option (Wd × Int32)) (x1 : Int32) (x2 : Int32) (x3 : Int32) (x4 : Int32) (s1 : Int32) (s2 : Int32) (w : Wd) : Option (Wd × Int32) :=
  if ib s1 480 = true then
    b_X3_isWritten_244 d g_X3_isWritten g_X3_takes k11 x1 x2 x3 x4 (sI w 52 s1.toNatClampNeg (vp_nar .boolean s2))
  else none
def b_X3_isWritten_137 (d : Nat) (g_X3_isWritten : Int32 → Int32 → Wd → Option (Wd × Int32)) (g_X3_takes : Int32 → Int32 → Wd → Option (Wd × Int32)) (k11 : Int32 → Int32 → Int32 → Int32 → Wd → Option (Wd × Int32)) (x1 : Int32) (x2 : Int32) (x3 : Int32) (x4 : Int32) (s1 : Int32) (w : Wd) : Option (Wd × Int32) :=
  b_X3_isWritten_138 d g_X3_isWritten g_X3_takes k11 x1 x2 x3 x4 s1 0 w
def b_X3_isWritten_177 (d : Nat) (g_X3_isWritten : Int32 → Int32 → Wd → Option (Wd × Int32)) (g_X3_takes : Int32 → Int32 → Wd → Option (Wd × Int32)) (k11 : Int32 → Int32 → Int32 → Int32 → Wd → Option (Wd × Int32)) (x1 : Int32) (x2 : Int32) (x3 : Int32) (x4 : Int32) (s1 : Int32) (s2 : Int32) (w : Wd) : Option (Wd × Int32) :=
  if ib s1 480 = true then
    b_X3_isWritten_244 d g_X3_isWritten g_X3_takes k11 x1 x2 x3 x4 (sI w 52 s1.toNatClampNeg (vp_nar .boolean s2))
  else none
def b_X3_isWritten_172 (d : Nat) (g_X3_isWritten : Int32 → Int32 → Wd → Option (Wd × Int32)) (g_X3_takes : Int32 → Int32 → Wd → Option (Wd × Int32)) (k11 : Int32 → Int32 → Int32 → Int32 → Wd → Option (Wd × Int32)) (x1 : Int32) (x2 : Int32) (x3 : Int32) (x4 : Int32) (s1 : Int32) (w : Wd) : Option (Wd × Int32) :=
  b_X3_isWritten_177 d g_X3_isWritten g_X3_takes k11 x1 x2 x3 x4 s1 1 w
def b_X3_isWritten_11 (d : Nat) (g_X3_isWritten : Int32 → Int32 → Wd → Option (Wd × Int32)) (g_X3_takes : Int32 → Int32 → Wd → Option (Wd × Int32)) : Nat → Int32 → Int32 → Int32 → Int32 → Wd → Option (Wd × Int32)
  | 0, _, _, _, _, _ => none
  | n + 1, x1, x2, x3, x4, w =>
    if ib x1 8 = true then
      if ((x1 * 60) + (gI w 48 x1.toNatClampNeg)) ≤ x4 then
        if ib (x1 * 60) 480 = true then
          some (w, (gI w 52 (x1 * 60).toNatClampNeg))
        else none
      else
        if ib x4 480 = true then
          if (gI w 49 x4.toNatClampNeg) = 33 then
            if ib (x3 - 1) 480 = true then
              if (gI w 52 (x3 - 1).toNatClampNeg) = 0 then
                b_X3_isWritten_99 d g_X3_isWritten g_X3_takes (b_X3_isWritten_11 d g_X3_isWritten g_X3_takes n) x1 x2 x3 x4 (x3 - 1) 1 w
              else
                b_X3_isWritten_99 d g_X3_isWritten g_X3_takes (b_X3_isWritten_11 d g_X3_isWritten g_X3_takes n) x1 x2 x3 x4 (x3 - 1) 0 w
            else none
          else if (gI w 49 x4.toNatClampNeg) = 35 then
            (g_X3_takes (gI w 51 x4.toNatClampNeg) x2 w).bind fun r7 =>
            if ib x3 480 = true then
              b_X3_isWritten_244 d g_X3_isWritten g_X3_takes (b_X3_isWritten_11 d g_X3_isWritten g_X3_takes n) x1 x2 (x3 + 1) x4 (sI r7.1 52 x3.toNatClampNeg (vp_nar .boolean r7.2))
            else none
          else if (gI w 49 x4.toNatClampNeg) = 38 then
            if ib ((x3 + (-1)) - 1) 480 = true then
              if (gI w 52 ((x3 + (-1)) - 1).toNatClampNeg) = 0 then
                b_X3_isWritten_137 d g_X3_isWritten g_X3_takes (b_X3_isWritten_11 d g_X3_isWritten g_X3_takes n) x1 x2 (x3 + (-1)) x4 ((x3 + (-1)) - 1) w
              else
                if ib (x3 + (-1)) 480 = true then
                  if (gI w 52 (x3 + (-1)).toNatClampNeg) = 0 then
                    b_X3_isWritten_137 d g_X3_isWritten g_X3_takes (b_X3_isWritten_11 d g_X3_isWritten g_X3_takes n) x1 x2 (x3 + (-1)) x4 ((x3 + (-1)) - 1) w
                  else
                    b_X3_isWritten_138 d g_X3_isWritten g_X3_takes (b_X3_isWritten_11 d g_X3_isWritten g_X3_takes n) x1 x2 (x3 + (-1)) x4 ((x3 + (-1)) - 1) 1 w
                else none
            else none
          else if (gI w 49 x4.toNatClampNeg) = 124 then
            if ib ((x3 + (-1)) - 1) 480 = true then
              if (gI w 52 ((x3 + (-1)) - 1).toNatClampNeg) = 0 then
                if ib (x3 + (-1)) 480 = true then
                  if (gI w 52 (x3 + (-1)).toNatClampNeg) = 0 then
                    b_X3_isWritten_177 d g_X3_isWritten g_X3_takes (b_X3_isWritten_11 d g_X3_isWritten g_X3_takes n) x1 x2 (x3 + (-1)) x4 ((x3 + (-1)) - 1) 0 w
                  else
                    b_X3_isWritten_172 d g_X3_isWritten g_X3_takes (b_X3_isWritten_11 d g_X3_isWritten g_X3_takes n) x1 x2 (x3 + (-1)) x4 ((x3 + (-1)) - 1) w
                else none
              else
                b_X3_isWritten_172 d g_X3_isWritten g_X3_takes (b_X3_isWritten_11 d g_X3_isWritten g_X3_takes n) x1 x2 (x3 + (-1)) x4 ((x3 + (-1)) - 1) w
            else none
          else 
          (f_X3_propertyOf d x2 (gI w 49 x4.toNatClampNeg) w).bind fun r15 =>
          (f_X3_isCompared d r15.2 (gI r15.1 50 x4.toNatClampNeg) (gI r15.1 51 x4.toNatClampNeg) r15.1).bind fun r16 =>
          if ib x3 480 = true then
            b_X3_isWritten_244 d g_X3_isWritten g_X3_takes (b_X3_isWritten_11 d g_X3_isWritten g_X3_takes n) x1 x2 (x3 + 1) x4 (sI r16.1 52 x3.toNatClampNeg (vp_nar .boolean r16.2))
          else none
        else none
    else none
def fB_X3_isWritten (d : Nat) (g_X3_isWritten : Int32 → Int32 → Wd → Option (Wd × Int32)) (g_X3_takes : Int32 → Int32 → Wd → Option (Wd × Int32)) (p1 : Int32) (p2 : Int32) (w : Wd) : Option (Wd × Int32) :=
  b_X3_isWritten_11 d g_X3_isWritten g_X3_takes FU p1 p2 (p1 * 60) (p1 * 60) w
theorem sb_X3_isWritten_244 {G : Gx} (hG : GW G) {M : Mx} (hl : (mL M).stackTraces = false) {w0 : Wd} {d : Nat} (K : Cx (G, true, M, 5, w0) cX3_isWritten "IntervalTreeModel" (d + 1)) (hr : (mH M).sig.returnType = some .boolean) (hnm : (mH M).name = yX3_isWritten.name) (hxt : ∀ x ∈ (mC M).exceptionTable.toList, False) (hnd : (mS M).methodNamed? yX3_isWritten = some (mM M)) {g_X3_isWritten : Int32 → Int32 → Wd → Option (Wd × Int32)} (hg_X3_isWritten : ∀ (p1 : Int32) (p2 : Int32) (w : Wd) (fp1 : Bool) (fp2 : Bool), Mt G true (mL M) yX3_isWritten (ws_ yX3_isWritten cX3_isWritten 5 (some .boolean)) d (rrV G pZ) [aR 3 (some 30), aB fp1 p1, aB fp2 p2] w (g_X3_isWritten p1 p2 w)) {g_X3_takes : Int32 → Int32 → Wd → Option (Wd × Int32)} (hg_X3_takes : ∀ (p1 : Int32) (p2 : Int32) (w : Wd) (fp1 : Bool) (fp2 : Bool), Mt G true (mL M) yX3_takes (ws_ yX3_takes cX3_takes 5 (some .boolean)) d (rrV G pZ) [aR 3 (some 30), aB fp1 p1, aB fp2 p2] w (g_X3_takes p1 p2 w)) {k11 : Int32 → Int32 → Int32 → Int32 → Wd → Option (Wd × Int32)} (hk11 : ∀ (x1 : Int32) (x2 : Int32) (x3 : Int32) (x4 : Int32) (w : Wd) (fx1 : Bool) (fx2 : Bool) (fx3 : Bool) (fx4 : Bool), Jf (G, true, M, 5, w0) (rrV G pZ) (k11 x1 x2 x3 x4 w) w 11 [some (aR 3 (some 30)), some (aB fx1 x1), some (aB fx2 x2), some (aB fx3 x3), some (aB fx4 x4)] []) : ∀ (x1 : Int32) (x2 : Int32) (x3 : Int32) (x4 : Int32) (w : Wd) (fx1 : Bool) (fx2 : Bool) (fx3 : Bool) (fx4 : Bool), Jf (G, true, M, 5, w0) (rrV G pZ) (b_X3_isWritten_244 d g_X3_isWritten g_X3_takes k11 x1 x2 x3 x4 w) w 244 [some (aR 3 (some 30)), some (aB fx1 x1), some (aB fx2 x2), some (aB fx3 x3), some (aB fx4 x4)] [] := by
  intro x1 x2 x3 x4 w fx1 fx2 fx3 fx4
  refine j_iinc (y := 1) K dX3_isWritten_244 rfl rfl rfl rfl ?_
  refine j_goto 11 K dX3_isWritten_247 (by decide) ?_
  exact hk11 _ _ _ _ _ _ _ _ _
theorem sb_X3_isWritten_99 {G : Gx} (hG : GW G) {M : Mx} (hl : (mL M).stackTraces = false) {w0 : Wd} {d : Nat} (K : Cx (G, true, M, 5, w0) cX3_isWritten "IntervalTreeModel" (d + 1)) (hr : (mH M).sig.returnType = some .boolean) (hnm : (mH M).name = yX3_isWritten.name) (hxt : ∀ x ∈ (mC M).exceptionTable.toList, False) (hnd : (mS M).methodNamed? yX3_isWritten = some (mM M)) {g_X3_isWritten : Int32 → Int32 → Wd → Option (Wd × Int32)} (hg_X3_isWritten : ∀ (p1 : Int32) (p2 : Int32) (w : Wd) (fp1 : Bool) (fp2 : Bool), Mt G true (mL M) yX3_isWritten (ws_ yX3_isWritten cX3_isWritten 5 (some .boolean)) d (rrV G pZ) [aR 3 (some 30), aB fp1 p1, aB fp2 p2] w (g_X3_isWritten p1 p2 w)) {g_X3_takes : Int32 → Int32 → Wd → Option (Wd × Int32)} (hg_X3_takes : ∀ (p1 : Int32) (p2 : Int32) (w : Wd) (fp1 : Bool) (fp2 : Bool), Mt G true (mL M) yX3_takes (ws_ yX3_takes cX3_takes 5 (some .boolean)) d (rrV G pZ) [aR 3 (some 30), aB fp1 p1, aB fp2 p2] w (g_X3_takes p1 p2 w)) {k11 : Int32 → Int32 → Int32 → Int32 → Wd → Option (Wd × Int32)} (hk11 : ∀ (x1 : Int32) (x2 : Int32) (x3 : Int32) (x4 : Int32) (w : Wd) (fx1 : Bool) (fx2 : Bool) (fx3 : Bool) (fx4 : Bool), Jf (G, true, M, 5, w0) (rrV G pZ) (k11 x1 x2 x3 x4 w) w 11 [some (aR 3 (some 30)), some (aB fx1 x1), some (aB fx2 x2), some (aB fx3 x3), some (aB fx4 x4)] []) : ∀ (x1 : Int32) (x2 : Int32) (x3 : Int32) (x4 : Int32) (s1 : Int32) (s2 : Int32) (w : Wd) (fx1 : Bool) (fx2 : Bool) (fx3 : Bool) (fx4 : Bool) (fs1 : Bool), Jf (G, true, M, 5, w0) (rrV G pZ) (b_X3_isWritten_99 d g_X3_isWritten g_X3_takes k11 x1 x2 x3 x4 s1 s2 w) w 99 [some (aR 3 (some 30)), some (aB fx1 x1), some (aB fx2 x2), some (aB fx3 x3), some (aB fx4 x4)] [aB true s2, aB fs1 s1, aR 11 (some 52)] := by
  intro x1 x2 x3 x4 s1 s2 w fx1 fx2 fx3 fx4 fs1
  refine j_ib (fun hi6 => ?_)
  refine j_zas K dX3_isWritten_99 rfl (fxLen2 36 rfl rfl) hi6 ?_
  refine j_goto 244 K dX3_isWritten_100 (by decide) ?_
  exact sb_X3_isWritten_244 hG hl K hr hnm hxt hnd hg_X3_isWritten hg_X3_takes hk11 _ _ _ _ _ _ _ _ _
theorem sb_X3_isWritten_138 {G : Gx} (hG : GW G) {M : Mx} (hl : (mL M).stackTraces = false) {w0 : Wd} {d : Nat} (K : Cx (G, true, M, 5, w0) cX3_isWritten "IntervalTreeModel" (d + 1)) (hr : (mH M).sig.returnType = some .boolean) (hnm : (mH M).name = yX3_isWritten.name) (hxt : ∀ x ∈ (mC M).exceptionTable.toList, False) (hnd : (mS M).methodNamed? yX3_isWritten = some (mM M)) {g_X3_isWritten : Int32 → Int32 → Wd → Option (Wd × Int32)} (hg_X3_isWritten : ∀ (p1 : Int32) (p2 : Int32) (w : Wd) (fp1 : Bool) (fp2 : Bool), Mt G true (mL M) yX3_isWritten (ws_ yX3_isWritten cX3_isWritten 5 (some .boolean)) d (rrV G pZ) [aR 3 (some 30), aB fp1 p1, aB fp2 p2] w (g_X3_isWritten p1 p2 w)) {g_X3_takes : Int32 → Int32 → Wd → Option (Wd × Int32)} (hg_X3_takes : ∀ (p1 : Int32) (p2 : Int32) (w : Wd) (fp1 : Bool) (fp2 : Bool), Mt G true (mL M) yX3_takes (ws_ yX3_takes cX3_takes 5 (some .boolean)) d (rrV G pZ) [aR 3 (some 30), aB fp1 p1, aB fp2 p2] w (g_X3_takes p1 p2 w)) {k11 : Int32 → Int32 → Int32 → Int32 → Wd → Option (Wd × Int32)} (hk11 : ∀ (x1 : Int32) (x2 : Int32) (x3 : Int32) (x4 : Int32) (w : Wd) (fx1 : Bool) (fx2 : Bool) (fx3 : Bool) (fx4 : Bool), Jf (G, true, M, 5, w0) (rrV G pZ) (k11 x1 x2 x3 x4 w) w 11 [some (aR 3 (some 30)), some (aB fx1 x1), some (aB fx2 x2), some (aB fx3 x3), some (aB fx4 x4)] []) : ∀ (x1 : Int32) (x2 : Int32) (x3 : Int32) (x4 : Int32) (s1 : Int32) (s2 : Int32) (w : Wd) (fx1 : Bool) (fx2 : Bool) (fx3 : Bool) (fx4 : Bool) (fs1 : Bool), Jf (G, true, M, 5, w0) (rrV G pZ) (b_X3_isWritten_138 d g_X3_isWritten g_X3_takes k11 x1 x2 x3 x4 s1 s2 w) w 138 [some (aR 3 (some 30)), some (aB fx1 x1), some (aB fx2 x2), some (aB fx3 x3), some (aB fx4 x4)] [aB true s2, aB fs1 s1, aR 11 (some 52)] := by
  intro x1 x2 x3 x4 s1 s2 w fx1 fx2 fx3 fx4 fs1
  refine j_ib (fun hi12 => ?_)
  refine j_zas K dX3_isWritten_138 rfl (fxLen2 36 rfl rfl) hi12 ?_
  refine j_goto 244 K dX3_isWritten_139 (by decide) ?_
  exact sb_X3_isWritten_244 hG hl K hr hnm hxt hnd hg_X3_isWritten hg_X3_takes hk11 _ _ _ _ _ _ _ _ _
theorem sb_X3_isWritten_137 {G : Gx} (hG : GW G) {M : Mx} (hl : (mL M).stackTraces = false) {w0 : Wd} {d : Nat} (K : Cx (G, true, M, 5, w0) cX3_isWritten "IntervalTreeModel" (d + 1)) (hr : (mH M).sig.returnType = some .boolean) (hnm : (mH M).name = yX3_isWritten.name) (hxt : ∀ x ∈ (mC M).exceptionTable.toList, False) (hnd : (mS M).methodNamed? yX3_isWritten = some (mM M)) {g_X3_isWritten : Int32 → Int32 → Wd → Option (Wd × Int32)} (hg_X3_isWritten : ∀ (p1 : Int32) (p2 : Int32) (w : Wd) (fp1 : Bool) (fp2 : Bool), Mt G true (mL M) yX3_isWritten (ws_ yX3_isWritten cX3_isWritten 5 (some .boolean)) d (rrV G pZ) [aR 3 (some 30), aB fp1 p1, aB fp2 p2] w (g_X3_isWritten p1 p2 w)) {g_X3_takes : Int32 → Int32 → Wd → Option (Wd × Int32)} (hg_X3_takes : ∀ (p1 : Int32) (p2 : Int32) (w : Wd) (fp1 : Bool) (fp2 : Bool), Mt G true (mL M) yX3_takes (ws_ yX3_takes cX3_takes 5 (some .boolean)) d (rrV G pZ) [aR 3 (some 30), aB fp1 p1, aB fp2 p2] w (g_X3_takes p1 p2 w)) {k11 : Int32 → Int32 → Int32 → Int32 → Wd → Option (Wd × Int32)} (hk11 : ∀ (x1 : Int32) (x2 : Int32) (x3 : Int32) (x4 : Int32) (w : Wd) (fx1 : Bool) (fx2 : Bool) (fx3 : Bool) (fx4 : Bool), Jf (G, true, M, 5, w0) (rrV G pZ) (k11 x1 x2 x3 x4 w) w 11 [some (aR 3 (some 30)), some (aB fx1 x1), some (aB fx2 x2), some (aB fx3 x3), some (aB fx4 x4)] []) : ∀ (x1 : Int32) (x2 : Int32) (x3 : Int32) (x4 : Int32) (s1 : Int32) (w : Wd) (fx1 : Bool) (fx2 : Bool) (fx3 : Bool) (fx4 : Bool) (fs1 : Bool), Jf (G, true, M, 5, w0) (rrV G pZ) (b_X3_isWritten_137 d g_X3_isWritten g_X3_takes k11 x1 x2 x3 x4 s1 w) w 137 [some (aR 3 (some 30)), some (aB fx1 x1), some (aB fx2 x2), some (aB fx3 x3), some (aB fx4 x4)] [aB fs1 s1, aR 11 (some 52)] := by
  intro x1 x2 x3 x4 s1 w fx1 fx2 fx3 fx4 fs1
  refine j_iconstZ K dX3_isWritten_137 rfl (Or.inl rfl) ?_
  exact sb_X3_isWritten_138 hG hl K hr hnm hxt hnd hg_X3_isWritten hg_X3_takes hk11 _ _ _ _ _ _ _ _ _ _ _ _
theorem sb_X3_isWritten_177 {G : Gx} (hG : GW G) {M : Mx} (hl : (mL M).stackTraces = false) {w0 : Wd} {d : Nat} (K : Cx (G, true, M, 5, w0) cX3_isWritten "IntervalTreeModel" (d + 1)) (hr : (mH M).sig.returnType = some .boolean) (hnm : (mH M).name = yX3_isWritten.name) (hxt : ∀ x ∈ (mC M).exceptionTable.toList, False) (hnd : (mS M).methodNamed? yX3_isWritten = some (mM M)) {g_X3_isWritten : Int32 → Int32 → Wd → Option (Wd × Int32)} (hg_X3_isWritten : ∀ (p1 : Int32) (p2 : Int32) (w : Wd) (fp1 : Bool) (fp2 : Bool), Mt G true (mL M) yX3_isWritten (ws_ yX3_isWritten cX3_isWritten 5 (some .boolean)) d (rrV G pZ) [aR 3 (some 30), aB fp1 p1, aB fp2 p2] w (g_X3_isWritten p1 p2 w)) {g_X3_takes : Int32 → Int32 → Wd → Option (Wd × Int32)} (hg_X3_takes : ∀ (p1 : Int32) (p2 : Int32) (w : Wd) (fp1 : Bool) (fp2 : Bool), Mt G true (mL M) yX3_takes (ws_ yX3_takes cX3_takes 5 (some .boolean)) d (rrV G pZ) [aR 3 (some 30), aB fp1 p1, aB fp2 p2] w (g_X3_takes p1 p2 w)) {k11 : Int32 → Int32 → Int32 → Int32 → Wd → Option (Wd × Int32)} (hk11 : ∀ (x1 : Int32) (x2 : Int32) (x3 : Int32) (x4 : Int32) (w : Wd) (fx1 : Bool) (fx2 : Bool) (fx3 : Bool) (fx4 : Bool), Jf (G, true, M, 5, w0) (rrV G pZ) (k11 x1 x2 x3 x4 w) w 11 [some (aR 3 (some 30)), some (aB fx1 x1), some (aB fx2 x2), some (aB fx3 x3), some (aB fx4 x4)] []) : ∀ (x1 : Int32) (x2 : Int32) (x3 : Int32) (x4 : Int32) (s1 : Int32) (s2 : Int32) (w : Wd) (fx1 : Bool) (fx2 : Bool) (fx3 : Bool) (fx4 : Bool) (fs1 : Bool), Jf (G, true, M, 5, w0) (rrV G pZ) (b_X3_isWritten_177 d g_X3_isWritten g_X3_takes k11 x1 x2 x3 x4 s1 s2 w) w 177 [some (aR 3 (some 30)), some (aB fx1 x1), some (aB fx2 x2), some (aB fx3 x3), some (aB fx4 x4)] [aB true s2, aB fs1 s1, aR 11 (some 52)] := by
  intro x1 x2 x3 x4 s1 s2 w fx1 fx2 fx3 fx4 fs1
  refine j_ib (fun hi15 => ?_)
  refine j_zas K dX3_isWritten_177 rfl (fxLen2 36 rfl rfl) hi15 ?_
  refine j_goto 244 K dX3_isWritten_178 (by decide) ?_
  exact sb_X3_isWritten_244 hG hl K hr hnm hxt hnd hg_X3_isWritten hg_X3_takes hk11 _ _ _ _ _ _ _ _ _
theorem sb_X3_isWritten_172 {G : Gx} (hG : GW G) {M : Mx} (hl : (mL M).stackTraces = false) {w0 : Wd} {d : Nat} (K : Cx (G, true, M, 5, w0) cX3_isWritten "IntervalTreeModel" (d + 1)) (hr : (mH M).sig.returnType = some .boolean) (hnm : (mH M).name = yX3_isWritten.name) (hxt : ∀ x ∈ (mC M).exceptionTable.toList, False) (hnd : (mS M).methodNamed? yX3_isWritten = some (mM M)) {g_X3_isWritten : Int32 → Int32 → Wd → Option (Wd × Int32)} (hg_X3_isWritten : ∀ (p1 : Int32) (p2 : Int32) (w : Wd) (fp1 : Bool) (fp2 : Bool), Mt G true (mL M) yX3_isWritten (ws_ yX3_isWritten cX3_isWritten 5 (some .boolean)) d (rrV G pZ) [aR 3 (some 30), aB fp1 p1, aB fp2 p2] w (g_X3_isWritten p1 p2 w)) {g_X3_takes : Int32 → Int32 → Wd → Option (Wd × Int32)} (hg_X3_takes : ∀ (p1 : Int32) (p2 : Int32) (w : Wd) (fp1 : Bool) (fp2 : Bool), Mt G true (mL M) yX3_takes (ws_ yX3_takes cX3_takes 5 (some .boolean)) d (rrV G pZ) [aR 3 (some 30), aB fp1 p1, aB fp2 p2] w (g_X3_takes p1 p2 w)) {k11 : Int32 → Int32 → Int32 → Int32 → Wd → Option (Wd × Int32)} (hk11 : ∀ (x1 : Int32) (x2 : Int32) (x3 : Int32) (x4 : Int32) (w : Wd) (fx1 : Bool) (fx2 : Bool) (fx3 : Bool) (fx4 : Bool), Jf (G, true, M, 5, w0) (rrV G pZ) (k11 x1 x2 x3 x4 w) w 11 [some (aR 3 (some 30)), some (aB fx1 x1), some (aB fx2 x2), some (aB fx3 x3), some (aB fx4 x4)] []) : ∀ (x1 : Int32) (x2 : Int32) (x3 : Int32) (x4 : Int32) (s1 : Int32) (w : Wd) (fx1 : Bool) (fx2 : Bool) (fx3 : Bool) (fx4 : Bool) (fs1 : Bool), Jf (G, true, M, 5, w0) (rrV G pZ) (b_X3_isWritten_172 d g_X3_isWritten g_X3_takes k11 x1 x2 x3 x4 s1 w) w 172 [some (aR 3 (some 30)), some (aB fx1 x1), some (aB fx2 x2), some (aB fx3 x3), some (aB fx4 x4)] [aB fs1 s1, aR 11 (some 52)] := by
  intro x1 x2 x3 x4 s1 w fx1 fx2 fx3 fx4 fs1
  refine j_iconstZ K dX3_isWritten_172 rfl (Or.inr rfl) ?_
  refine j_goto 177 K dX3_isWritten_173 (by decide) ?_
  exact sb_X3_isWritten_177 hG hl K hr hnm hxt hnd hg_X3_isWritten hg_X3_takes hk11 _ _ _ _ _ _ _ _ _ _ _ _
theorem sb_X3_isWritten_11 {G : Gx} (hG : GW G) {M : Mx} (hl : (mL M).stackTraces = false) {w0 : Wd} {d : Nat} (K : Cx (G, true, M, 5, w0) cX3_isWritten "IntervalTreeModel" (d + 1)) (hr : (mH M).sig.returnType = some .boolean) (hnm : (mH M).name = yX3_isWritten.name) (hxt : ∀ x ∈ (mC M).exceptionTable.toList, False) (hnd : (mS M).methodNamed? yX3_isWritten = some (mM M)) {g_X3_isWritten : Int32 → Int32 → Wd → Option (Wd × Int32)} (hg_X3_isWritten : ∀ (p1 : Int32) (p2 : Int32) (w : Wd) (fp1 : Bool) (fp2 : Bool), Mt G true (mL M) yX3_isWritten (ws_ yX3_isWritten cX3_isWritten 5 (some .boolean)) d (rrV G pZ) [aR 3 (some 30), aB fp1 p1, aB fp2 p2] w (g_X3_isWritten p1 p2 w)) {g_X3_takes : Int32 → Int32 → Wd → Option (Wd × Int32)} (hg_X3_takes : ∀ (p1 : Int32) (p2 : Int32) (w : Wd) (fp1 : Bool) (fp2 : Bool), Mt G true (mL M) yX3_takes (ws_ yX3_takes cX3_takes 5 (some .boolean)) d (rrV G pZ) [aR 3 (some 30), aB fp1 p1, aB fp2 p2] w (g_X3_takes p1 p2 w)) : ∀ (n : Nat), ∀ (x1 : Int32) (x2 : Int32) (x3 : Int32) (x4 : Int32) (w : Wd) (fx1 : Bool) (fx2 : Bool) (fx3 : Bool) (fx4 : Bool), Jf (G, true, M, 5, w0) (rrV G pZ) (b_X3_isWritten_11 d g_X3_isWritten g_X3_takes n x1 x2 x3 x4 w) w 11 [some (aR 3 (some 30)), some (aB fx1 x1), some (aB fx2 x2), some (aB fx3 x3), some (aB fx4 x4)] [] := by
  intro n
  induction n with
  | zero => intros; exact j_none
  | succ n ih =>
    intro x1 x2 x3 x4 w fx1 fx2 fx3 fx4
    refine j_iload K dX3_isWritten_11 rfl ?_
    refine j_iload_n K dX3_isWritten_13 rfl ?_
    refine j_bipush (x := 60) K dX3_isWritten_14 (by decide +kernel) ?_
    refine j_imul K dX3_isWritten_16 ?_
    refine j_aload_n K dX3_isWritten_17 rfl ?_
    refine j_getA (k := 29) 32 K dX3_isWritten_18 rfl rfl rfl q1285 rfl rfl (by decide) rfl rfl rfl ?_
    refine j_iload_n K dX3_isWritten_21 rfl ?_
    refine j_ib (fun hi1 => ?_)
    refine j_ial K dX3_isWritten_22 rfl (fxLen 32 rfl rfl) hi1 ?_
    refine j_iadd K dX3_isWritten_23 ?_
    refine j_icmp_ge 250 K dX3_isWritten_24 (by decide) ?_ ?_
    · refine j_aload_n K dX3_isWritten_250 rfl ?_
      refine j_getA (k := 33) 36 K dX3_isWritten_251 rfl rfl rfl q1289 rfl rfl (by decide) rfl rfl rfl ?_
      refine j_iload_n K dX3_isWritten_254 rfl ?_
      refine j_bipush (x := 60) K dX3_isWritten_255 (by decide +kernel) ?_
      refine j_imul K dX3_isWritten_257 ?_
      refine j_ib (fun hi2 => ?_)
      refine j_zal K dX3_isWritten_258 rfl (fxLen 36 rfl rfl) hi2 ?_
      exact j_zret K hr dX3_isWritten_259
    · refine j_aload_n K dX3_isWritten_27 rfl ?_
      refine j_getA (k := 30) 33 K dX3_isWritten_28 rfl rfl rfl q1286 rfl rfl (by decide) rfl rfl rfl ?_
      refine j_iload K dX3_isWritten_31 rfl ?_
      refine j_ib (fun hi3 => ?_)
      refine j_ial K dX3_isWritten_33 rfl (fxLen 33 rfl rfl) hi3 ?_
      refine j_ite (c := 33) (fun hs4 => ?_) (fun hs4 => ?_)
      · refine j_look (off := 42) 76 K dX3_isWritten_34 (by decide +kernel) (by rw [hs4]; rfl) (by decide) ?_
        refine j_aload_n K dX3_isWritten_76 rfl ?_
        refine j_getA (k := 33) 36 K dX3_isWritten_77 rfl rfl rfl q1289 rfl rfl (by decide) rfl rfl rfl ?_
        refine j_iload_n K dX3_isWritten_80 rfl ?_
        refine j_iconstZ K dX3_isWritten_81 rfl (Or.inr rfl) ?_
        refine j_isub K dX3_isWritten_82 ?_
        refine j_aload_n K dX3_isWritten_83 rfl ?_
        refine j_getA (k := 33) 36 K dX3_isWritten_84 rfl rfl rfl q1289 rfl rfl (by decide) rfl rfl rfl ?_
        refine j_iload_n K dX3_isWritten_87 rfl ?_
        refine j_iconstZ K dX3_isWritten_88 rfl (Or.inr rfl) ?_
        refine j_isub K dX3_isWritten_89 ?_
        refine j_ib (fun hi5 => ?_)
        refine j_zal K dX3_isWritten_90 rfl (fxLen 36 rfl rfl) hi5 ?_
        refine j_if_ne 98 K dX3_isWritten_91 (by decide) ?_ ?_
        · refine j_iconstZ K dX3_isWritten_98 rfl (Or.inl rfl) ?_
          exact sb_X3_isWritten_99 hG hl K hr hnm hxt hnd hg_X3_isWritten hg_X3_takes ih _ _ _ _ _ _ _ _ _ _ _ _
        · refine j_iconstZ K dX3_isWritten_94 rfl (Or.inr rfl) ?_
          refine j_goto 99 K dX3_isWritten_95 (by decide) ?_
          exact sb_X3_isWritten_99 hG hl K hr hnm hxt hnd hg_X3_isWritten hg_X3_takes ih _ _ _ _ _ _ _ _ _ _ _ _
      refine j_ite (c := 35) (fun hs6 => ?_) (fun hs6 => ?_)
      · refine j_look (off := 147) 181 K dX3_isWritten_34 (by decide +kernel) (by rw [hs6]; rfl) (by decide) ?_
        refine j_aload_n K dX3_isWritten_181 rfl ?_
        refine j_getA (k := 33) 36 K dX3_isWritten_182 rfl rfl rfl q1289 rfl rfl (by decide) rfl rfl rfl ?_
        refine j_iload_n K dX3_isWritten_185 rfl ?_
        refine j_aload_n K dX3_isWritten_186 rfl ?_
        refine j_aload_n K dX3_isWritten_187 rfl ?_
        refine j_getA (k := 32) 35 K dX3_isWritten_188 rfl rfl rfl q1288 rfl rfl (by decide) rfl rfl rfl ?_
        refine j_iload K dX3_isWritten_191 rfl ?_
        refine j_ial K dX3_isWritten_193 rfl (fxLen 35 rfl rfl) hi3 ?_
        refine j_iload_n K dX3_isWritten_194 rfl ?_
        refine j_callV _ K (hg_X3_takes (gI w 51 x4.toNatClampNeg) x2 w false fx2) dX3_isWritten_195 rfl rfl q1736 q1738 qs86 q95 q1739 pm_X3_takes rfl rfl rfl rfl rfl (fun r7 _ => ?_)
        refine j_ib (fun hi8 => ?_)
        refine j_zas K dX3_isWritten_198 rfl (fxLen2 36 rfl rfl) hi8 ?_
        refine j_iinc (y := 1) K dX3_isWritten_199 rfl rfl rfl rfl ?_
        refine j_goto 244 K dX3_isWritten_202 (by decide) ?_
        exact sb_X3_isWritten_244 hG hl K hr hnm hxt hnd hg_X3_isWritten hg_X3_takes ih _ _ _ _ _ _ _ _ _
      refine j_ite (c := 38) (fun hs9 => ?_) (fun hs9 => ?_)
      · refine j_look (off := 69) 103 K dX3_isWritten_34 (by decide +kernel) (by rw [hs9]; rfl) (by decide) ?_
        refine j_iinc (y := (-1)) K dX3_isWritten_103 rfl rfl rfl rfl ?_
        refine j_aload_n K dX3_isWritten_106 rfl ?_
        refine j_getA (k := 33) 36 K dX3_isWritten_107 rfl rfl rfl q1289 rfl rfl (by decide) rfl rfl rfl ?_
        refine j_iload_n K dX3_isWritten_110 rfl ?_
        refine j_iconstZ K dX3_isWritten_111 rfl (Or.inr rfl) ?_
        refine j_isub K dX3_isWritten_112 ?_
        refine j_aload_n K dX3_isWritten_113 rfl ?_
        refine j_getA (k := 33) 36 K dX3_isWritten_114 rfl rfl rfl q1289 rfl rfl (by decide) rfl rfl rfl ?_
        refine j_iload_n K dX3_isWritten_117 rfl ?_
        refine j_iconstZ K dX3_isWritten_118 rfl (Or.inr rfl) ?_
        refine j_isub K dX3_isWritten_119 ?_
        refine j_ib (fun hi10 => ?_)
        refine j_zal K dX3_isWritten_120 rfl (fxLen 36 rfl rfl) hi10 ?_
        refine j_if_eq 137 K dX3_isWritten_121 (by decide) ?_ ?_
        · exact sb_X3_isWritten_137 hG hl K hr hnm hxt hnd hg_X3_isWritten hg_X3_takes ih _ _ _ _ _ _ _ _ _ _ _
        · refine j_aload_n K dX3_isWritten_124 rfl ?_
          refine j_getA (k := 33) 36 K dX3_isWritten_125 rfl rfl rfl q1289 rfl rfl (by decide) rfl rfl rfl ?_
          refine j_iload_n K dX3_isWritten_128 rfl ?_
          refine j_ib (fun hi11 => ?_)
          refine j_zal K dX3_isWritten_129 rfl (fxLen 36 rfl rfl) hi11 ?_
          refine j_if_eq 137 K dX3_isWritten_130 (by decide) ?_ ?_
          · exact sb_X3_isWritten_137 hG hl K hr hnm hxt hnd hg_X3_isWritten hg_X3_takes ih _ _ _ _ _ _ _ _ _ _ _
          · refine j_iconstZ K dX3_isWritten_133 rfl (Or.inr rfl) ?_
            refine j_goto 138 K dX3_isWritten_134 (by decide) ?_
            exact sb_X3_isWritten_138 hG hl K hr hnm hxt hnd hg_X3_isWritten hg_X3_takes ih _ _ _ _ _ _ _ _ _ _ _ _
      refine j_ite (c := 124) (fun hs12 => ?_) (fun hs12 => ?_)
      · refine j_look (off := 108) 142 K dX3_isWritten_34 (by decide +kernel) (by rw [hs12]; rfl) (by decide) ?_
        refine j_iinc (y := (-1)) K dX3_isWritten_142 rfl rfl rfl rfl ?_
        refine j_aload_n K dX3_isWritten_145 rfl ?_
        refine j_getA (k := 33) 36 K dX3_isWritten_146 rfl rfl rfl q1289 rfl rfl (by decide) rfl rfl rfl ?_
        refine j_iload_n K dX3_isWritten_149 rfl ?_
        refine j_iconstZ K dX3_isWritten_150 rfl (Or.inr rfl) ?_
        refine j_isub K dX3_isWritten_151 ?_
        refine j_aload_n K dX3_isWritten_152 rfl ?_
        refine j_getA (k := 33) 36 K dX3_isWritten_153 rfl rfl rfl q1289 rfl rfl (by decide) rfl rfl rfl ?_
        refine j_iload_n K dX3_isWritten_156 rfl ?_
        refine j_iconstZ K dX3_isWritten_157 rfl (Or.inr rfl) ?_
        refine j_isub K dX3_isWritten_158 ?_
        refine j_ib (fun hi13 => ?_)
        refine j_zal K dX3_isWritten_159 rfl (fxLen 36 rfl rfl) hi13 ?_
        refine j_if_ne 172 K dX3_isWritten_160 (by decide) ?_ ?_
        · exact sb_X3_isWritten_172 hG hl K hr hnm hxt hnd hg_X3_isWritten hg_X3_takes ih _ _ _ _ _ _ _ _ _ _ _
        · refine j_aload_n K dX3_isWritten_163 rfl ?_
          refine j_getA (k := 33) 36 K dX3_isWritten_164 rfl rfl rfl q1289 rfl rfl (by decide) rfl rfl rfl ?_
          refine j_iload_n K dX3_isWritten_167 rfl ?_
          refine j_ib (fun hi14 => ?_)
          refine j_zal K dX3_isWritten_168 rfl (fxLen 36 rfl rfl) hi14 ?_
          refine j_if_eq 176 K dX3_isWritten_169 (by decide) ?_ ?_
          · refine j_iconstZ K dX3_isWritten_176 rfl (Or.inl rfl) ?_
            exact sb_X3_isWritten_177 hG hl K hr hnm hxt hnd hg_X3_isWritten hg_X3_takes ih _ _ _ _ _ _ _ _ _ _ _ _
          · exact sb_X3_isWritten_172 hG hl K hr hnm hxt hnd hg_X3_isWritten hg_X3_takes ih _ _ _ _ _ _ _ _ _ _ _
      refine j_look (off := 171) 205 K dX3_isWritten_34 (by decide +kernel) (by have hs4 : _ ≠ (33 : Int) := ne_toInt hs4; have hs6 : _ ≠ (35 : Int) := ne_toInt hs6; have hs9 : _ ≠ (38 : Int) := ne_toInt hs9; have hs12 : _ ≠ (124 : Int) := ne_toInt hs12; simp [Op.lookupswitch.offset, hs4, hs6, hs9, hs12, Ne.symm hs4, Ne.symm hs6, Ne.symm hs9, Ne.symm hs12]) (by decide) ?_
      refine j_aload_n K dX3_isWritten_205 rfl ?_
      refine j_getA (k := 33) 36 K dX3_isWritten_206 rfl rfl rfl q1289 rfl rfl (by decide) rfl rfl rfl ?_
      refine j_iload_n K dX3_isWritten_209 rfl ?_
      refine j_aload_n K dX3_isWritten_210 rfl ?_
      refine j_aload_n K dX3_isWritten_211 rfl ?_
      refine j_iload_n K dX3_isWritten_212 rfl ?_
      refine j_aload_n K dX3_isWritten_213 rfl ?_
      refine j_getA (k := 30) 33 K dX3_isWritten_214 rfl rfl rfl q1286 rfl rfl (by decide) rfl rfl rfl ?_
      refine j_iload K dX3_isWritten_217 rfl ?_
      refine j_ial K dX3_isWritten_219 rfl (fxLen 33 rfl rfl) hi3 ?_
      refine j_callV _ K (sim_X3_propertyOf hG hl d x2 (gI w 49 x4.toNatClampNeg) w fx2 false) dX3_isWritten_220 rfl rfl q1744 q1746 qs88 q95 q1747 pm_X3_propertyOf rfl rfl rfl rfl rfl (fun r15 _ => ?_)
      refine j_aload_n K dX3_isWritten_223 rfl ?_
      refine j_getA (k := 31) 34 K dX3_isWritten_224 rfl rfl rfl q1287 rfl rfl (by decide) rfl rfl rfl ?_
      refine j_iload K dX3_isWritten_227 rfl ?_
      refine j_ial K dX3_isWritten_229 rfl (fxLen 34 rfl rfl) hi3 ?_
      refine j_aload_n K dX3_isWritten_230 rfl ?_
      refine j_getA (k := 32) 35 K dX3_isWritten_231 rfl rfl rfl q1288 rfl rfl (by decide) rfl rfl rfl ?_
      refine j_iload K dX3_isWritten_234 rfl ?_
      refine j_ial K dX3_isWritten_236 rfl (fxLen 35 rfl rfl) hi3 ?_
      refine j_callV _ K (sim_X3_isCompared hG hl d r15.2 (gI r15.1 50 x4.toNatClampNeg) (gI r15.1 51 x4.toNatClampNeg) r15.1 false false false) dX3_isWritten_237 rfl rfl q1752 q1754 qs90 q95 q1755 pm_X3_isCompared rfl rfl rfl rfl rfl (fun r16 _ => ?_)
      refine j_ib (fun hi17 => ?_)
      refine j_zas K dX3_isWritten_240 rfl (fxLen2 36 rfl rfl) hi17 ?_
      refine j_iinc (y := 1) K dX3_isWritten_241 rfl rfl rfl rfl ?_
      exact sb_X3_isWritten_244 hG hl K hr hnm hxt hnd hg_X3_isWritten hg_X3_takes ih _ _ _ _ _ _ _ _ _
theorem simB_X3_isWritten {G : Gx} (hG : GW G) {l : Launch} (hl : l.stackTraces = false) (d : Nat) {g_X3_isWritten : Int32 → Int32 → Wd → Option (Wd × Int32)} (hg_X3_isWritten : ∀ (p1 : Int32) (p2 : Int32) (w : Wd) (fp1 : Bool) (fp2 : Bool), Mt G true l yX3_isWritten (ws_ yX3_isWritten cX3_isWritten 5 (some .boolean)) d (rrV G pZ) [aR 3 (some 30), aB fp1 p1, aB fp2 p2] w (g_X3_isWritten p1 p2 w)) {g_X3_takes : Int32 → Int32 → Wd → Option (Wd × Int32)} (hg_X3_takes : ∀ (p1 : Int32) (p2 : Int32) (w : Wd) (fp1 : Bool) (fp2 : Bool), Mt G true l yX3_takes (ws_ yX3_takes cX3_takes 5 (some .boolean)) d (rrV G pZ) [aR 3 (some 30), aB fp1 p1, aB fp2 p2] w (g_X3_takes p1 p2 w)) (p1 : Int32) (p2 : Int32) (w : Wd) (fp1 : Bool) (fp2 : Bool) : Mt G true l yX3_isWritten (ws_ yX3_isWritten cX3_isWritten 5 (some .boolean)) (d + 1) (rrV G pZ) [aR 3 (some 30), aB fp1 p1, aB fp2 p2] w (fB_X3_isWritten d g_X3_isWritten g_X3_takes p1 p2 w) := by
  refine Mt.of (own := "IntervalTreeModel") hG hl (by decide +kernel) rfl rfl ?_
  intro M hM hr hnm hxt hnd K
  subst hM
  refine j_iload_n K dX3_isWritten_0 rfl ?_
  refine j_bipush (x := 60) K dX3_isWritten_1 (by decide +kernel) ?_
  refine j_imul K dX3_isWritten_3 ?_
  refine j_istore_n K dX3_isWritten_4 rfl rfl ?_
  refine j_iload_n K dX3_isWritten_5 rfl ?_
  refine j_bipush (x := 60) K dX3_isWritten_6 (by decide +kernel) ?_
  refine j_imul K dX3_isWritten_8 ?_
  refine j_istore K dX3_isWritten_9 rfl rfl ?_
  exact sb_X3_isWritten_11 hG hl K hr hnm hxt hnd hg_X3_isWritten hg_X3_takes FU _ _ _ _ _ _ _ _ _
def fB_X3_takes (d : Nat) (g_X3_isWritten : Int32 → Int32 → Wd → Option (Wd × Int32)) (g_X3_takes : Int32 → Int32 → Wd → Option (Wd × Int32)) (p1 : Int32) (p2 : Int32) (w : Wd) : Option (Wd × Int32) :=
  if ib p1 8 = true then
    if (gI w 44 p1.toNatClampNeg) = 0 then
      some (w, 1)
    else if (gI w 44 p1.toNatClampNeg) = 1 then
      if ib p2 500 = true then
        if (gI w 31 p2.toNatClampNeg) = (gI w 32 p2.toNatClampNeg) then
          some (w, 1)
        else
          some (w, 0)
      else none
    else if (gI w 44 p1.toNatClampNeg) = 2 then
      (f_X3_overlapsAny d p2 w).bind fun r6 =>
      some (r6.1, r6.2)
    else if (gI w 44 p1.toNatClampNeg) = 3 then
      (f_X3_propertyOf d p2 (gI w 45 p1.toNatClampNeg) w).bind fun r8 =>
      (f_X3_in d r8.2 (gI r8.1 46 p1.toNatClampNeg) (gI r8.1 47 p1.toNatClampNeg) r8.1).bind fun r9 =>
      some (r9.1, r9.2)
    else if (gI w 44 p1.toNatClampNeg) = 4 then
      if ib p2 500 = true then
        if (gI w 33 p2.toNatClampNeg) ≤ (gI w 45 p1.toNatClampNeg) then
          some (w, 0)
        else
          some (w, 1)
      else none
    else if (gI w 44 p1.toNatClampNeg) = 5 then
      (g_X3_takes (gI w 46 p1.toNatClampNeg) p2 w).bind fun r13 =>
      (g_X3_takes (gI r13.1 47 p1.toNatClampNeg) p2 r13.1).bind fun r14 =>
      if (gI r14.1 45 p1.toNatClampNeg) = 0 then
        if r13.2 = 0 then
          some (r14.1, 0)
        else
          if r14.2 = 0 then
            some (r14.1, 0)
          else
            some (r14.1, 1)
      else
        if (gI r14.1 45 p1.toNatClampNeg) = 1 then
          if r13.2 = 0 then
            if r14.2 = 0 then
              some (r14.1, 0)
            else
              some (r14.1, 1)
          else
            some (r14.1, 1)
        else
          if r13.2 = 0 then
            some (r14.1, 0)
          else
            if r14.2 = 0 then
              some (r14.1, 1)
            else
              some (r14.1, 0)
    else 
    (g_X3_isWritten p1 p2 w).bind fun r15 =>
    some (r15.1, r15.2)
  else none
theorem simB_X3_takes {G : Gx} (hG : GW G) {l : Launch} (hl : l.stackTraces = false) (d : Nat) {g_X3_isWritten : Int32 → Int32 → Wd → Option (Wd × Int32)} (hg_X3_isWritten : ∀ (p1 : Int32) (p2 : Int32) (w : Wd) (fp1 : Bool) (fp2 : Bool), Mt G true l yX3_isWritten (ws_ yX3_isWritten cX3_isWritten 5 (some .boolean)) d (rrV G pZ) [aR 3 (some 30), aB fp1 p1, aB fp2 p2] w (g_X3_isWritten p1 p2 w)) {g_X3_takes : Int32 → Int32 → Wd → Option (Wd × Int32)} (hg_X3_takes : ∀ (p1 : Int32) (p2 : Int32) (w : Wd) (fp1 : Bool) (fp2 : Bool), Mt G true l yX3_takes (ws_ yX3_takes cX3_takes 5 (some .boolean)) d (rrV G pZ) [aR 3 (some 30), aB fp1 p1, aB fp2 p2] w (g_X3_takes p1 p2 w)) (p1 : Int32) (p2 : Int32) (w : Wd) (fp1 : Bool) (fp2 : Bool) : Mt G true l yX3_takes (ws_ yX3_takes cX3_takes 5 (some .boolean)) (d + 1) (rrV G pZ) [aR 3 (some 30), aB fp1 p1, aB fp2 p2] w (fB_X3_takes d g_X3_isWritten g_X3_takes p1 p2 w) := by
  refine Mt.of (own := "IntervalTreeModel") hG hl (by decide +kernel) rfl rfl ?_
  intro M hM hr hnm hxt hnd K
  subst hM
  refine j_aload_n K dX3_takes_0 rfl ?_
  refine j_getA (k := 25) 28 K dX3_takes_1 rfl rfl rfl q1281 rfl rfl (by decide) rfl rfl rfl ?_
  refine j_iload_n K dX3_takes_4 rfl ?_
  refine j_ib (fun hi1 => ?_)
  refine j_ial K dX3_takes_5 rfl (fxLen 28 rfl rfl) hi1 ?_
  refine j_ite (c := 0) (fun hs2 => ?_) (fun hs2 => ?_)
  · refine j_tabI 44 0 K dX3_takes_6 (by rw [hs2]; rfl) (by decide) (by decide) rfl (by decide) ?_
    refine j_iconstZ K dX3_takes_44 rfl (Or.inr rfl) ?_
    exact j_zret K hr dX3_takes_45
  refine j_ite (c := 1) (fun hs3 => ?_) (fun hs3 => ?_)
  · refine j_tabI 46 1 K dX3_takes_6 (by rw [hs3]; rfl) (by decide) (by decide) rfl (by decide) ?_
    refine j_aload_n K dX3_takes_46 rfl ?_
    refine j_getA (k := 1) 15 K dX3_takes_47 rfl rfl rfl q1257 rfl rfl (by decide) rfl rfl rfl ?_
    refine j_iload_n K dX3_takes_50 rfl ?_
    refine j_ib (fun hi4 => ?_)
    refine j_ial K dX3_takes_51 rfl (fxLen 15 rfl rfl) hi4 ?_
    refine j_aload_n K dX3_takes_52 rfl ?_
    refine j_getA (k := 2) 16 K dX3_takes_53 rfl rfl rfl q1258 rfl rfl (by decide) rfl rfl rfl ?_
    refine j_iload_n K dX3_takes_56 rfl ?_
    refine j_ial K dX3_takes_57 rfl (fxLen 16 rfl rfl) hi4 ?_
    refine j_icmp_ne 65 K dX3_takes_58 (by decide) ?_ ?_
    · refine j_iconstZ K dX3_takes_65 rfl (Or.inl rfl) ?_
      exact j_zret K hr dX3_takes_66
    · refine j_iconstZ K dX3_takes_61 rfl (Or.inr rfl) ?_
      refine j_goto 66 K dX3_takes_62 (by decide) ?_
      exact j_zret K hr dX3_takes_66
  refine j_ite (c := 2) (fun hs5 => ?_) (fun hs5 => ?_)
  · refine j_tabI 67 2 K dX3_takes_6 (by rw [hs5]; rfl) (by decide) (by decide) rfl (by decide) ?_
    refine j_aload_n K dX3_takes_67 rfl ?_
    refine j_iload_n K dX3_takes_68 rfl ?_
    refine j_callV _ K (sim_X3_overlapsAny hG hl d p2 w fp2) dX3_takes_69 rfl rfl q1740 q1742 qs87 q95 q1743 pm_X3_overlapsAny rfl rfl rfl rfl rfl (fun r6 _ => ?_)
    exact j_zret K hr dX3_takes_72
  refine j_ite (c := 3) (fun hs7 => ?_) (fun hs7 => ?_)
  · refine j_tabI 73 3 K dX3_takes_6 (by rw [hs7]; rfl) (by decide) (by decide) rfl (by decide) ?_
    refine j_aload_n K dX3_takes_73 rfl ?_
    refine j_iload_n K dX3_takes_74 rfl ?_
    refine j_aload_n K dX3_takes_75 rfl ?_
    refine j_getA (k := 26) 29 K dX3_takes_76 rfl rfl rfl q1282 rfl rfl (by decide) rfl rfl rfl ?_
    refine j_iload_n K dX3_takes_79 rfl ?_
    refine j_ial K dX3_takes_80 rfl (fxLen 29 rfl rfl) hi1 ?_
    refine j_callV _ K (sim_X3_propertyOf hG hl d p2 (gI w 45 p1.toNatClampNeg) w fp2 false) dX3_takes_81 rfl rfl q1744 q1746 qs88 q95 q1747 pm_X3_propertyOf rfl rfl rfl rfl rfl (fun r8 _ => ?_)
    refine j_aload_n K dX3_takes_84 rfl ?_
    refine j_getA (k := 27) 30 K dX3_takes_85 rfl rfl rfl q1283 rfl rfl (by decide) rfl rfl rfl ?_
    refine j_iload_n K dX3_takes_88 rfl ?_
    refine j_ial K dX3_takes_89 rfl (fxLen 30 rfl rfl) hi1 ?_
    refine j_aload_n K dX3_takes_90 rfl ?_
    refine j_getA (k := 28) 31 K dX3_takes_91 rfl rfl rfl q1284 rfl rfl (by decide) rfl rfl rfl ?_
    refine j_iload_n K dX3_takes_94 rfl ?_
    refine j_ial K dX3_takes_95 rfl (fxLen 31 rfl rfl) hi1 ?_
    refine j_callS _ K (sim_X3_in hG hl d r8.2 (gI r8.1 46 p1.toNatClampNeg) (gI r8.1 47 p1.toNatClampNeg) r8.1 false false false) dX3_takes_96 q1417 q1418 q95 q1419 pm_X3_in.2 rfl rfl rfl rfl (fun r9 _ => ?_)
    exact j_zret K hr dX3_takes_99
  refine j_ite (c := 4) (fun hs10 => ?_) (fun hs10 => ?_)
  · refine j_tabI 100 4 K dX3_takes_6 (by rw [hs10]; rfl) (by decide) (by decide) rfl (by decide) ?_
    refine j_aload_n K dX3_takes_100 rfl ?_
    refine j_getA (k := 3) 17 K dX3_takes_101 rfl rfl rfl q1259 rfl rfl (by decide) rfl rfl rfl ?_
    refine j_iload_n K dX3_takes_104 rfl ?_
    refine j_ib (fun hi11 => ?_)
    refine j_ial K dX3_takes_105 rfl (fxLen 17 rfl rfl) hi11 ?_
    refine j_aload_n K dX3_takes_106 rfl ?_
    refine j_getA (k := 26) 29 K dX3_takes_107 rfl rfl rfl q1282 rfl rfl (by decide) rfl rfl rfl ?_
    refine j_iload_n K dX3_takes_110 rfl ?_
    refine j_ial K dX3_takes_111 rfl (fxLen 29 rfl rfl) hi1 ?_
    refine j_icmp_le 119 K dX3_takes_112 (by decide) ?_ ?_
    · refine j_iconstZ K dX3_takes_119 rfl (Or.inl rfl) ?_
      exact j_zret K hr dX3_takes_120
    · refine j_iconstZ K dX3_takes_115 rfl (Or.inr rfl) ?_
      refine j_goto 120 K dX3_takes_116 (by decide) ?_
      exact j_zret K hr dX3_takes_120
  refine j_ite (c := 5) (fun hs12 => ?_) (fun hs12 => ?_)
  · refine j_tabI 121 5 K dX3_takes_6 (by rw [hs12]; rfl) (by decide) (by decide) rfl (by decide) ?_
    refine j_aload_n K dX3_takes_121 rfl ?_
    refine j_aload_n K dX3_takes_122 rfl ?_
    refine j_getA (k := 27) 30 K dX3_takes_123 rfl rfl rfl q1283 rfl rfl (by decide) rfl rfl rfl ?_
    refine j_iload_n K dX3_takes_126 rfl ?_
    refine j_ial K dX3_takes_127 rfl (fxLen 30 rfl rfl) hi1 ?_
    refine j_iload_n K dX3_takes_128 rfl ?_
    refine j_callV _ K (hg_X3_takes (gI w 46 p1.toNatClampNeg) p2 w false fp2) dX3_takes_129 rfl rfl q1736 q1738 qs86 q95 q1739 pm_X3_takes rfl rfl rfl rfl rfl (fun r13 _ => ?_)
    refine j_istore_n K dX3_takes_132 rfl rfl ?_
    refine j_aload_n K dX3_takes_133 rfl ?_
    refine j_aload_n K dX3_takes_134 rfl ?_
    refine j_getA (k := 28) 31 K dX3_takes_135 rfl rfl rfl q1284 rfl rfl (by decide) rfl rfl rfl ?_
    refine j_iload_n K dX3_takes_138 rfl ?_
    refine j_ial K dX3_takes_139 rfl (fxLen 31 rfl rfl) hi1 ?_
    refine j_iload_n K dX3_takes_140 rfl ?_
    refine j_callV _ K (hg_X3_takes (gI r13.1 47 p1.toNatClampNeg) p2 r13.1 false fp2) dX3_takes_141 rfl rfl q1736 q1738 qs86 q95 q1739 pm_X3_takes rfl rfl rfl rfl rfl (fun r14 _ => ?_)
    refine j_istore K dX3_takes_144 rfl rfl ?_
    refine j_aload_n K dX3_takes_146 rfl ?_
    refine j_getA (k := 26) 29 K dX3_takes_147 rfl rfl rfl q1282 rfl rfl (by decide) rfl rfl rfl ?_
    refine j_iload_n K dX3_takes_150 rfl ?_
    refine j_ial K dX3_takes_151 rfl (fxLen 29 rfl rfl) hi1 ?_
    refine j_if_ne 172 K dX3_takes_152 (by decide) ?_ ?_
    · refine j_aload_n K dX3_takes_172 rfl ?_
      refine j_getA (k := 26) 29 K dX3_takes_173 rfl rfl rfl q1282 rfl rfl (by decide) rfl rfl rfl ?_
      refine j_iload_n K dX3_takes_176 rfl ?_
      refine j_ial K dX3_takes_177 rfl (fxLen 29 rfl rfl) hi1 ?_
      refine j_iconstZ K dX3_takes_178 rfl (Or.inr rfl) ?_
      refine j_icmp_ne 199 K dX3_takes_179 (by decide) ?_ ?_
      · refine j_iload_n K dX3_takes_199 rfl ?_
        refine j_if_eq 212 K dX3_takes_200 (by decide) ?_ ?_
        · refine j_iconstZ K dX3_takes_212 rfl (Or.inl rfl) ?_
          exact j_zret K hr dX3_takes_213
        · refine j_iload K dX3_takes_203 rfl ?_
          refine j_if_ne 212 K dX3_takes_205 (by decide) ?_ ?_
          · refine j_iconstZ K dX3_takes_212 rfl (Or.inl rfl) ?_
            exact j_zret K hr dX3_takes_213
          · refine j_iconstZ K dX3_takes_208 rfl (Or.inr rfl) ?_
            refine j_goto 213 K dX3_takes_209 (by decide) ?_
            exact j_zret K hr dX3_takes_213
      · refine j_iload_n K dX3_takes_182 rfl ?_
        refine j_if_ne 191 K dX3_takes_183 (by decide) ?_ ?_
        · refine j_iconstZ K dX3_takes_191 rfl (Or.inr rfl) ?_
          refine j_goto 213 K dX3_takes_192 (by decide) ?_
          exact j_zret K hr dX3_takes_213
        · refine j_iload K dX3_takes_186 rfl ?_
          refine j_if_eq 195 K dX3_takes_188 (by decide) ?_ ?_
          · refine j_iconstZ K dX3_takes_195 rfl (Or.inl rfl) ?_
            refine j_goto 213 K dX3_takes_196 (by decide) ?_
            exact j_zret K hr dX3_takes_213
          · refine j_iconstZ K dX3_takes_191 rfl (Or.inr rfl) ?_
            refine j_goto 213 K dX3_takes_192 (by decide) ?_
            exact j_zret K hr dX3_takes_213
    · refine j_iload_n K dX3_takes_155 rfl ?_
      refine j_if_eq 168 K dX3_takes_156 (by decide) ?_ ?_
      · refine j_iconstZ K dX3_takes_168 rfl (Or.inl rfl) ?_
        refine j_goto 213 K dX3_takes_169 (by decide) ?_
        exact j_zret K hr dX3_takes_213
      · refine j_iload K dX3_takes_159 rfl ?_
        refine j_if_eq 168 K dX3_takes_161 (by decide) ?_ ?_
        · refine j_iconstZ K dX3_takes_168 rfl (Or.inl rfl) ?_
          refine j_goto 213 K dX3_takes_169 (by decide) ?_
          exact j_zret K hr dX3_takes_213
        · refine j_iconstZ K dX3_takes_164 rfl (Or.inr rfl) ?_
          refine j_goto 213 K dX3_takes_165 (by decide) ?_
          exact j_zret K hr dX3_takes_213
  refine j_tabO 214 K dX3_takes_6 (by have hs2 : _ ≠ (0 : Int) := ne_toInt hs2; have hs3 : _ ≠ (1 : Int) := ne_toInt hs3; have hs5 : _ ≠ (2 : Int) := ne_toInt hs5; have hs7 : _ ≠ (3 : Int) := ne_toInt hs7; have hs10 : _ ≠ (4 : Int) := ne_toInt hs10; have hs12 : _ ≠ (5 : Int) := ne_toInt hs12; omega) (by decide) ?_
  refine j_aload_n K dX3_takes_214 rfl ?_
  refine j_iload_n K dX3_takes_215 rfl ?_
  refine j_iload_n K dX3_takes_216 rfl ?_
  refine j_callV _ K (hg_X3_isWritten p1 p2 w fp1 fp2) dX3_takes_217 rfl rfl q1748 q1750 qs89 q95 q1751 pm_X3_isWritten rfl rfl rfl rfl rfl (fun r15 _ => ?_)
  exact j_zret K hr dX3_takes_220
def fs_X3_isWritten : Nat → (Int32 → Int32 → Wd → Option (Wd × Int32)) × (Int32 → Int32 → Wd → Option (Wd × Int32))
  | 0 => (fun _ _ _ => none, fun _ _ _ => none)
  | d + 1 => (fB_X3_isWritten d (fs_X3_isWritten d).1 (fs_X3_isWritten d).2, fB_X3_takes d (fs_X3_isWritten d).1 (fs_X3_isWritten d).2)
def f_X3_isWritten (d : Nat) : (Int32 → Int32 → Wd → Option (Wd × Int32)) := (fs_X3_isWritten d).1
def f_X3_takes (d : Nat) : (Int32 → Int32 → Wd → Option (Wd × Int32)) := (fs_X3_isWritten d).2
theorem sims_X3_isWritten {G : Gx} (hG : GW G) {l : Launch} (hl : l.stackTraces = false) : ∀ (d : Nat), (∀ (p1 : Int32) (p2 : Int32) (w : Wd) (fp1 : Bool) (fp2 : Bool), Mt G true l yX3_isWritten (ws_ yX3_isWritten cX3_isWritten 5 (some .boolean)) d (rrV G pZ) [aR 3 (some 30), aB fp1 p1, aB fp2 p2] w (f_X3_isWritten d p1 p2 w)) ∧ (∀ (p1 : Int32) (p2 : Int32) (w : Wd) (fp1 : Bool) (fp2 : Bool), Mt G true l yX3_takes (ws_ yX3_takes cX3_takes 5 (some .boolean)) d (rrV G pZ) [aR 3 (some 30), aB fp1 p1, aB fp2 p2] w (f_X3_takes d p1 p2 w)) := by
  intro d
  induction d with
  | zero => exact ⟨(by intros; intro _ h9; cases (show (none : Option (Wd × Int32)) = some _ from h9)), (by intros; intro _ h9; cases (show (none : Option (Wd × Int32)) = some _ from h9))⟩
  | succ d ih => exact ⟨simB_X3_isWritten hG hl d ih.1 ih.2, simB_X3_takes hG hl d ih.1 ih.2⟩
theorem sim_X3_isWritten {G : Gx} (hG : GW G) {l : Launch} (hl : l.stackTraces = false) (d : Nat) : ∀ (p1 : Int32) (p2 : Int32) (w : Wd) (fp1 : Bool) (fp2 : Bool), Mt G true l yX3_isWritten (ws_ yX3_isWritten cX3_isWritten 5 (some .boolean)) d (rrV G pZ) [aR 3 (some 30), aB fp1 p1, aB fp2 p2] w (f_X3_isWritten d p1 p2 w) := (sims_X3_isWritten hG hl d).1
theorem sim_X3_takes {G : Gx} (hG : GW G) {l : Launch} (hl : l.stackTraces = false) (d : Nat) : ∀ (p1 : Int32) (p2 : Int32) (w : Wd) (fp1 : Bool) (fp2 : Bool), Mt G true l yX3_takes (ws_ yX3_takes cX3_takes 5 (some .boolean)) d (rrV G pZ) [aR 3 (some 30), aB fp1 p1, aB fp2 p2] w (f_X3_takes d p1 p2 w) := (sims_X3_isWritten hG hl d).2

theorem pm_X3_matchCount : yX3_matchCount.cls = RX3 ∧ yX3_matchCount.cls ≠ "java/lang/invoke/MethodHandle" ∧ yX3_matchCount.cls ≠ "java/lang/invoke/VarHandle" ∧ (parseMethodDescriptor yX3_matchCount.desc).map (fun d => d.parameters.length) = some 1 := by decide +kernel
def b_X3_matchCount_55 (d : Nat) (k23 : Int32 → Int32 → Int32 → Wd → Option (Wd × Int32)) (x1 : Int32) (x3 : Int32) (s0 : Int32) (s1 : Int32) (w : Wd) : Option (Wd × Int32) :=
  k23 x1 (s0 + s1) (x3 + 1) w
def b_X3_matchCount_54 (d : Nat) (k23 : Int32 → Int32 → Int32 → Wd → Option (Wd × Int32)) (x1 : Int32) (x3 : Int32) (s0 : Int32) (w : Wd) : Option (Wd × Int32) :=
  b_X3_matchCount_55 d k23 x1 x3 s0 0 w
def b_X3_matchCount_23 (d : Nat) : Nat → Int32 → Int32 → Int32 → Wd → Option (Wd × Int32)
  | 0, _, _, _, _ => none
  | n + 1, x1, x2, x3, w =>
    if (gI w 30 10) ≤ x3 then
      some (w, x2)
    else
      if ib x3 500 = true then
        if (gI w 34 x3.toNatClampNeg) = 0 then
          (f_X3_takes d x1 x3 w).bind fun r3 =>
          if r3.2 = 0 then
            b_X3_matchCount_54 d (b_X3_matchCount_23 d n) x1 x3 x2 r3.1
          else
            b_X3_matchCount_55 d (b_X3_matchCount_23 d n) x1 x3 x2 1 r3.1
        else
          b_X3_matchCount_54 d (b_X3_matchCount_23 d n) x1 x3 x2 w
      else none
def f_X3_matchCount (d : Nat) (p1 : Int32) (w : Wd) : Option (Wd × Int32) :=
  match d with
  | 0 => none
  | d + 1 =>
    (f_X3_isFilter d p1 (sI w 30 0 0)).bind fun r1 =>
    if r1.2 = 0 then
      (f_X3_fails d 1 r1.1).bind fun r4 =>
      some (r4.1, r4.2)
    else
      b_X3_matchCount_23 d FU p1 0 0 r1.1
theorem sb_X3_matchCount_55 {G : Gx} (hG : GW G) {M : Mx} (hl : (mL M).stackTraces = false) {w0 : Wd} {d : Nat} (K : Cx (G, true, M, 4, w0) cX3_matchCount "IntervalTreeModel" (d + 1)) (hr : (mH M).sig.returnType = some .int) (hnm : (mH M).name = yX3_matchCount.name) (hxt : ∀ x ∈ (mC M).exceptionTable.toList, False) (hnd : (mS M).methodNamed? yX3_matchCount = some (mM M)) {k23 : Int32 → Int32 → Int32 → Wd → Option (Wd × Int32)} (hk23 : ∀ (x1 : Int32) (x2 : Int32) (x3 : Int32) (w : Wd) (fx1 : Bool) (fx2 : Bool) (fx3 : Bool), Jf (G, true, M, 4, w0) (rrV G pI) (k23 x1 x2 x3 w) w 23 [some (aR 3 (some 30)), some (aB fx1 x1), some (aB fx2 x2), some (aB fx3 x3)] []) : ∀ (x1 : Int32) (x3 : Int32) (s0 : Int32) (s1 : Int32) (w : Wd) (fx1 : Bool) (fx3 : Bool) (fs0 : Bool), Jf (G, true, M, 4, w0) (rrV G pI) (b_X3_matchCount_55 d k23 x1 x3 s0 s1 w) w 55 [some (aR 3 (some 30)), some (aB fx1 x1), none, some (aB fx3 x3)] [aB true s1, aB fs0 s0] := by
  intro x1 x3 s0 s1 w fx1 fx3 fs0
  refine j_iadd K dX3_matchCount_55 ?_
  refine j_istore_n K dX3_matchCount_56 rfl rfl ?_
  refine j_iinc (y := 1) K dX3_matchCount_57 rfl rfl rfl rfl ?_
  refine j_goto 23 K dX3_matchCount_60 (by decide) ?_
  exact hk23 _ _ _ _ _ _ _
theorem sb_X3_matchCount_54 {G : Gx} (hG : GW G) {M : Mx} (hl : (mL M).stackTraces = false) {w0 : Wd} {d : Nat} (K : Cx (G, true, M, 4, w0) cX3_matchCount "IntervalTreeModel" (d + 1)) (hr : (mH M).sig.returnType = some .int) (hnm : (mH M).name = yX3_matchCount.name) (hxt : ∀ x ∈ (mC M).exceptionTable.toList, False) (hnd : (mS M).methodNamed? yX3_matchCount = some (mM M)) {k23 : Int32 → Int32 → Int32 → Wd → Option (Wd × Int32)} (hk23 : ∀ (x1 : Int32) (x2 : Int32) (x3 : Int32) (w : Wd) (fx1 : Bool) (fx2 : Bool) (fx3 : Bool), Jf (G, true, M, 4, w0) (rrV G pI) (k23 x1 x2 x3 w) w 23 [some (aR 3 (some 30)), some (aB fx1 x1), some (aB fx2 x2), some (aB fx3 x3)] []) : ∀ (x1 : Int32) (x3 : Int32) (s0 : Int32) (w : Wd) (fx1 : Bool) (fx3 : Bool) (fs0 : Bool), Jf (G, true, M, 4, w0) (rrV G pI) (b_X3_matchCount_54 d k23 x1 x3 s0 w) w 54 [some (aR 3 (some 30)), some (aB fx1 x1), none, some (aB fx3 x3)] [aB fs0 s0] := by
  intro x1 x3 s0 w fx1 fx3 fs0
  refine j_iconstZ K dX3_matchCount_54 rfl (Or.inl rfl) ?_
  exact j_wk (sb_X3_matchCount_55 hG hl K hr hnm hxt hnd hk23 _ _ _ _ _ _ _ _) ⟨rfl, rfl, rfl, trivial⟩
theorem sb_X3_matchCount_23 {G : Gx} (hG : GW G) {M : Mx} (hl : (mL M).stackTraces = false) {w0 : Wd} {d : Nat} (K : Cx (G, true, M, 4, w0) cX3_matchCount "IntervalTreeModel" (d + 1)) (hr : (mH M).sig.returnType = some .int) (hnm : (mH M).name = yX3_matchCount.name) (hxt : ∀ x ∈ (mC M).exceptionTable.toList, False) (hnd : (mS M).methodNamed? yX3_matchCount = some (mM M)) : ∀ (n : Nat), ∀ (x1 : Int32) (x2 : Int32) (x3 : Int32) (w : Wd) (fx1 : Bool) (fx2 : Bool) (fx3 : Bool), Jf (G, true, M, 4, w0) (rrV G pI) (b_X3_matchCount_23 d n x1 x2 x3 w) w 23 [some (aR 3 (some 30)), some (aB fx1 x1), some (aB fx2 x2), some (aB fx3 x3)] [] := by
  intro n
  induction n with
  | zero => intros; exact j_none
  | succ n ih =>
    intro x1 x2 x3 w fx1 fx2 fx3
    refine j_iload_n K dX3_matchCount_23 rfl ?_
    refine j_aload_n K dX3_matchCount_24 rfl ?_
    refine j_getI (k := 10) K dX3_matchCount_25 rfl rfl rfl q1266 rfl rfl rfl ?_
    refine j_icmp_ge 63 K dX3_matchCount_28 (by decide) ?_ ?_
    · refine j_iload_n K dX3_matchCount_63 rfl ?_
      exact j_iret K hr dX3_matchCount_64
    · refine j_iload_n K dX3_matchCount_31 rfl ?_
      refine j_aload_n K dX3_matchCount_32 rfl ?_
      refine j_getA (k := 4) 18 K dX3_matchCount_33 rfl rfl rfl q1260 rfl rfl (by decide) rfl rfl rfl ?_
      refine j_iload_n K dX3_matchCount_36 rfl ?_
      refine j_ib (fun hi2 => ?_)
      refine j_ial K dX3_matchCount_37 rfl (fxLen 18 rfl rfl) hi2 ?_
      refine j_if_ne 54 K dX3_matchCount_38 (by decide) ?_ ?_
      · exact j_wk (sb_X3_matchCount_54 hG hl K hr hnm hxt hnd ih _ _ _ _ _ _ _) ⟨rfl, rfl, rfl, trivial⟩
      · refine j_aload_n K dX3_matchCount_41 rfl ?_
        refine j_iload_n K dX3_matchCount_42 rfl ?_
        refine j_iload_n K dX3_matchCount_43 rfl ?_
        refine j_callV _ K (sim_X3_takes hG hl d x1 x3 w fx1 fx3) dX3_matchCount_44 rfl rfl q1736 q1738 qs86 q95 q1739 pm_X3_takes rfl rfl rfl rfl rfl (fun r3 _ => ?_)
        refine j_if_eq 54 K dX3_matchCount_47 (by decide) ?_ ?_
        · exact j_wk (sb_X3_matchCount_54 hG hl K hr hnm hxt hnd ih _ _ _ _ _ _ _) ⟨rfl, rfl, rfl, trivial⟩
        · refine j_iconstZ K dX3_matchCount_50 rfl (Or.inr rfl) ?_
          refine j_goto 55 K dX3_matchCount_51 (by decide) ?_
          exact j_wk (sb_X3_matchCount_55 hG hl K hr hnm hxt hnd ih _ _ _ _ _ _ _ _) ⟨rfl, rfl, rfl, trivial⟩
theorem sim_X3_matchCount {G : Gx} (hG : GW G) {l : Launch} (hl : l.stackTraces = false) (d : Nat) (p1 : Int32) (w : Wd) (fp1 : Bool) : Mt G true l yX3_matchCount (ws_ yX3_matchCount cX3_matchCount 4 (some .int)) d (rrV G pI) [aR 3 (some 30), aB fp1 p1] w (f_X3_matchCount d p1 w) := by
  refine Mt.of (own := "IntervalTreeModel") hG hl (by decide +kernel) rfl rfl ?_
  intro M hM hr hnm hxt hnd K
  subst hM
  cases d with
  | zero => exact j_none
  | succ d =>
    refine j_aload_n K dX3_matchCount_0 rfl ?_
    refine j_iconstZ K dX3_matchCount_1 rfl (Or.inl rfl) ?_
    refine j_putI (k := 0) K dX3_matchCount_2 rfl rfl q1256 rfl (Or.inl rfl) rfl rfl rfl rfl ?_
    refine j_aload_n K dX3_matchCount_5 rfl ?_
    refine j_iload_n K dX3_matchCount_6 rfl ?_
    refine j_callV _ K (sim_X3_isFilter hG hl d p1 (sI w 30 0 0) fp1) dX3_matchCount_7 rfl rfl q1688 q1690 qs77 q95 q1691 pm_X3_isFilter rfl rfl rfl rfl rfl (fun r1 _ => ?_)
    refine j_if_ne 19 K dX3_matchCount_10 (by decide) ?_ ?_
    · refine j_iconstZ K dX3_matchCount_19 rfl (Or.inl rfl) ?_
      refine j_istore_n K dX3_matchCount_20 rfl rfl ?_
      refine j_iconstZ K dX3_matchCount_21 rfl (Or.inl rfl) ?_
      refine j_istore_n K dX3_matchCount_22 rfl rfl ?_
      exact sb_X3_matchCount_23 hG hl K hr hnm hxt hnd FU _ _ _ _ _ _ _
    · refine j_aload_n K dX3_matchCount_13 rfl ?_
      refine j_iconstZ K dX3_matchCount_14 rfl (Or.inr rfl) ?_
      refine j_callV _ K (sim_X3_fails hG hl d 1 r1.1 true) dX3_matchCount_15 rfl rfl q1420 q1422 qs51 q95 q1423 pm_X3_fails rfl rfl rfl rfl rfl (fun r4 _ => ?_)
      exact j_iret K hr dX3_matchCount_18

theorem pm_X3_accepts : yX3_accepts.cls = RX3 ∧ yX3_accepts.cls ≠ "java/lang/invoke/MethodHandle" ∧ yX3_accepts.cls ≠ "java/lang/invoke/VarHandle" ∧ (parseMethodDescriptor yX3_accepts.desc).map (fun d => d.parameters.length) = some 2 := by decide +kernel
def f_X3_accepts (d : Nat) (p1 : Int32) (p2 : Int32) (w : Wd) : Option (Wd × Int32) :=
  match d with
  | 0 => none
  | d + 1 =>
    (f_X3_isFilter d p1 (sI w 30 0 0)).bind fun r1 =>
    if r1.2 = 0 then
      (f_X3_fails d 1 r1.1).bind fun r5 =>
      if r5.2 ≤ 0 then
        some (r5.1, 0)
      else
        some (r5.1, 1)
    else
      (f_X3_isInTree d p2 r1.1).bind fun r2 =>
      if r2.2 = 0 then
        (f_X3_fails d 2 r2.1).bind fun r3 =>
        if r3.2 ≤ 0 then
          some (r3.1, 0)
        else
          some (r3.1, 1)
      else
        (f_X3_takes d p1 p2 r2.1).bind fun r4 =>
        some (r4.1, r4.2)
theorem sim_X3_accepts {G : Gx} (hG : GW G) {l : Launch} (hl : l.stackTraces = false) (d : Nat) (p1 : Int32) (p2 : Int32) (w : Wd) (fp1 : Bool) (fp2 : Bool) : Mt G true l yX3_accepts (ws_ yX3_accepts cX3_accepts 3 (some .boolean)) d (rrV G pZ) [aR 3 (some 30), aB fp1 p1, aB fp2 p2] w (f_X3_accepts d p1 p2 w) := by
  refine Mt.of (own := "IntervalTreeModel") hG hl (by decide +kernel) rfl rfl ?_
  intro M hM hr hnm hxt hnd K
  subst hM
  cases d with
  | zero => exact j_none
  | succ d =>
    refine j_aload_n K dX3_accepts_0 rfl ?_
    refine j_iconstZ K dX3_accepts_1 rfl (Or.inl rfl) ?_
    refine j_putI (k := 0) K dX3_accepts_2 rfl rfl q1256 rfl (Or.inl rfl) rfl rfl rfl rfl ?_
    refine j_aload_n K dX3_accepts_5 rfl ?_
    refine j_iload_n K dX3_accepts_6 rfl ?_
    refine j_callV _ K (sim_X3_isFilter hG hl d p1 (sI w 30 0 0) fp1) dX3_accepts_7 rfl rfl q1688 q1690 qs77 q95 q1691 pm_X3_isFilter rfl rfl rfl rfl rfl (fun r1 _ => ?_)
    refine j_if_ne 27 K dX3_accepts_10 (by decide) ?_ ?_
    · refine j_aload_n K dX3_accepts_27 rfl ?_
      refine j_iload_n K dX3_accepts_28 rfl ?_
      refine j_callV _ K (sim_X3_isInTree hG hl d p2 r1.1 fp2) dX3_accepts_29 rfl rfl q1525 q1527 qs65 q95 q1528 pm_X3_isInTree rfl rfl rfl rfl rfl (fun r2 _ => ?_)
      refine j_if_eq 44 K dX3_accepts_32 (by decide) ?_ ?_
      · refine j_aload_n K dX3_accepts_44 rfl ?_
        refine j_iconst (x := 2) K dX3_accepts_45 rfl ?_
        refine j_callV _ K (sim_X3_fails hG hl d 2 r2.1 false) dX3_accepts_46 rfl rfl q1420 q1422 qs51 q95 q1423 pm_X3_fails rfl rfl rfl rfl rfl (fun r3 _ => ?_)
        refine j_if_le 56 K dX3_accepts_49 (by decide) ?_ ?_
        · refine j_iconstZ K dX3_accepts_56 rfl (Or.inl rfl) ?_
          exact j_zret K hr dX3_accepts_57
        · refine j_iconstZ K dX3_accepts_52 rfl (Or.inr rfl) ?_
          refine j_goto 57 K dX3_accepts_53 (by decide) ?_
          exact j_zret K hr dX3_accepts_57
      · refine j_aload_n K dX3_accepts_35 rfl ?_
        refine j_iload_n K dX3_accepts_36 rfl ?_
        refine j_iload_n K dX3_accepts_37 rfl ?_
        refine j_callV _ K (sim_X3_takes hG hl d p1 p2 r2.1 fp1 fp2) dX3_accepts_38 rfl rfl q1736 q1738 qs86 q95 q1739 pm_X3_takes rfl rfl rfl rfl rfl (fun r4 _ => ?_)
        refine j_goto 57 K dX3_accepts_41 (by decide) ?_
        exact j_zret K hr dX3_accepts_57
    · refine j_aload_n K dX3_accepts_13 rfl ?_
      refine j_iconstZ K dX3_accepts_14 rfl (Or.inr rfl) ?_
      refine j_callV _ K (sim_X3_fails hG hl d 1 r1.1 true) dX3_accepts_15 rfl rfl q1420 q1422 qs51 q95 q1423 pm_X3_fails rfl rfl rfl rfl rfl (fun r5 _ => ?_)
      refine j_if_le 25 K dX3_accepts_18 (by decide) ?_ ?_
      · refine j_iconstZ K dX3_accepts_25 rfl (Or.inl rfl) ?_
        exact j_zret K hr dX3_accepts_26
      · refine j_iconstZ K dX3_accepts_21 rfl (Or.inr rfl) ?_
        refine j_goto 26 K dX3_accepts_22 (by decide) ?_
        exact j_zret K hr dX3_accepts_26

theorem pm_X3_isCursor : yX3_isCursor.cls = RX3 ∧ yX3_isCursor.cls ≠ "java/lang/invoke/MethodHandle" ∧ yX3_isCursor.cls ≠ "java/lang/invoke/VarHandle" ∧ (parseMethodDescriptor yX3_isCursor.desc).map (fun d => d.parameters.length) = some 1 := by decide +kernel
def f_X3_isCursor (d : Nat) (p1 : Int32) (w : Wd) : Option (Wd × Int32) :=
  match d with
  | 0 => none
  | d + 1 =>
    (f_X3_in d p1 0 3 w).bind fun r1 =>
    some (r1.1, r1.2)
theorem sim_X3_isCursor {G : Gx} (hG : GW G) {l : Launch} (hl : l.stackTraces = false) (d : Nat) (p1 : Int32) (w : Wd) (fp1 : Bool) : Mt G true l yX3_isCursor (ws_ yX3_isCursor cX3_isCursor 1 (some .boolean)) d (rrV G pZ) [aB fp1 p1] w (f_X3_isCursor d p1 w) := by
  refine Mt.of (own := "IntervalTreeModel") hG hl (by decide +kernel) rfl rfl ?_
  intro M hM hr hnm hxt hnd K
  subst hM
  cases d with
  | zero => exact j_none
  | succ d =>
    refine j_iload_n K dX3_isCursor_0 rfl ?_
    refine j_iconstZ K dX3_isCursor_1 rfl (Or.inl rfl) ?_
    refine j_iconst (x := 3) K dX3_isCursor_2 rfl ?_
    refine j_callS _ K (sim_X3_in hG hl d p1 0 3 w fp1 true false) dX3_isCursor_3 q1417 q1418 q95 q1419 pm_X3_in.2 rfl rfl rfl rfl (fun r1 _ => ?_)
    exact j_zret K hr dX3_isCursor_6

theorem pm_X3_following : yX3_following.cls = RX3 ∧ yX3_following.cls ≠ "java/lang/invoke/MethodHandle" ∧ yX3_following.cls ≠ "java/lang/invoke/VarHandle" ∧ (parseMethodDescriptor yX3_following.desc).map (fun d => d.parameters.length) = some 1 := by decide +kernel
def b_X3_following_78 (d : Nat) (k4 : Int32 → Int32 → Int32 → Wd → Option (Wd × Int32)) (x1 : Int32) (x2 : Int32) (x3 : Int32) (w : Wd) : Option (Wd × Int32) :=
  k4 x1 x2 (x3 + 1) w
def b_X3_following_62 (d : Nat) (k4 : Int32 → Int32 → Int32 → Wd → Option (Wd × Int32)) (x1 : Int32) (x2 : Int32) (x3 : Int32) (w : Wd) : Option (Wd × Int32) :=
  if ib x1 4 = true then
    (f_X3_takes d (gI w 55 x1.toNatClampNeg) x3 w).bind fun r4 =>
    if r4.2 = 0 then
      b_X3_following_78 d k4 x1 x2 x3 r4.1
    else
      b_X3_following_78 d k4 x1 x3 x3 r4.1
  else none
def b_X3_following_45 (d : Nat) (k4 : Int32 → Int32 → Int32 → Wd → Option (Wd × Int32)) (x1 : Int32) (x2 : Int32) (x3 : Int32) (w : Wd) : Option (Wd × Int32) :=
  if x2 = (-1) then
    b_X3_following_62 d k4 x1 x2 x3 w
  else
    (f_X3_isLess d x3 x2 w).bind fun r3 =>
    if r3.2 = 0 then
      b_X3_following_78 d k4 x1 x2 x3 r3.1
    else
      b_X3_following_62 d k4 x1 x2 x3 r3.1
def b_X3_following_4 (d : Nat) : Nat → Int32 → Int32 → Int32 → Wd → Option (Wd × Int32)
  | 0, _, _, _, _ => none
  | n + 1, x1, x2, x3, w =>
    if (gI w 30 10) ≤ x3 then
      some (w, x2)
    else
      if ib x3 500 = true then
        if (gI w 34 x3.toNatClampNeg) = 0 then
          if ib x1 4 = true then
            if (gI w 56 x1.toNatClampNeg) = (-1) then
              b_X3_following_45 d (b_X3_following_4 d n) x1 x2 x3 w
            else
              (f_X3_isLess d (gI w 56 x1.toNatClampNeg) x3 w).bind fun r3 =>
              if r3.2 = 0 then
                b_X3_following_78 d (b_X3_following_4 d n) x1 x2 x3 r3.1
              else
                b_X3_following_45 d (b_X3_following_4 d n) x1 x2 x3 r3.1
          else none
        else
          b_X3_following_78 d (b_X3_following_4 d n) x1 x2 x3 w
      else none
def f_X3_following (d : Nat) (p1 : Int32) (w : Wd) : Option (Wd × Int32) :=
  match d with
  | 0 => none
  | d + 1 =>
    b_X3_following_4 d FU p1 (-1) 0 w
theorem sb_X3_following_78 {G : Gx} (hG : GW G) {M : Mx} (hl : (mL M).stackTraces = false) {w0 : Wd} {d : Nat} (K : Cx (G, true, M, 4, w0) cX3_following "IntervalTreeModel" (d + 1)) (hr : (mH M).sig.returnType = some .int) (hnm : (mH M).name = yX3_following.name) (hxt : ∀ x ∈ (mC M).exceptionTable.toList, False) (hnd : (mS M).methodNamed? yX3_following = some (mM M)) {k4 : Int32 → Int32 → Int32 → Wd → Option (Wd × Int32)} (hk4 : ∀ (x1 : Int32) (x2 : Int32) (x3 : Int32) (w : Wd) (fx1 : Bool) (fx2 : Bool) (fx3 : Bool), Jf (G, true, M, 4, w0) (rrV G pI) (k4 x1 x2 x3 w) w 4 [some (aR 3 (some 30)), some (aB fx1 x1), some (aB fx2 x2), some (aB fx3 x3)] []) : ∀ (x1 : Int32) (x2 : Int32) (x3 : Int32) (w : Wd) (fx1 : Bool) (fx2 : Bool) (fx3 : Bool), Jf (G, true, M, 4, w0) (rrV G pI) (b_X3_following_78 d k4 x1 x2 x3 w) w 78 [some (aR 3 (some 30)), some (aB fx1 x1), some (aB fx2 x2), some (aB fx3 x3)] [] := by
  intro x1 x2 x3 w fx1 fx2 fx3
  refine j_iinc (y := 1) K dX3_following_78 rfl rfl rfl rfl ?_
  refine j_goto 4 K dX3_following_81 (by decide) ?_
  exact hk4 _ _ _ _ _ _ _
theorem sb_X3_following_62 {G : Gx} (hG : GW G) {M : Mx} (hl : (mL M).stackTraces = false) {w0 : Wd} {d : Nat} (K : Cx (G, true, M, 4, w0) cX3_following "IntervalTreeModel" (d + 1)) (hr : (mH M).sig.returnType = some .int) (hnm : (mH M).name = yX3_following.name) (hxt : ∀ x ∈ (mC M).exceptionTable.toList, False) (hnd : (mS M).methodNamed? yX3_following = some (mM M)) {k4 : Int32 → Int32 → Int32 → Wd → Option (Wd × Int32)} (hk4 : ∀ (x1 : Int32) (x2 : Int32) (x3 : Int32) (w : Wd) (fx1 : Bool) (fx2 : Bool) (fx3 : Bool), Jf (G, true, M, 4, w0) (rrV G pI) (k4 x1 x2 x3 w) w 4 [some (aR 3 (some 30)), some (aB fx1 x1), some (aB fx2 x2), some (aB fx3 x3)] []) : ∀ (x1 : Int32) (x2 : Int32) (x3 : Int32) (w : Wd) (fx1 : Bool) (fx2 : Bool) (fx3 : Bool), Jf (G, true, M, 4, w0) (rrV G pI) (b_X3_following_62 d k4 x1 x2 x3 w) w 62 [some (aR 3 (some 30)), some (aB fx1 x1), some (aB fx2 x2), some (aB fx3 x3)] [] := by
  intro x1 x2 x3 w fx1 fx2 fx3
  refine j_aload_n K dX3_following_62 rfl ?_
  refine j_aload_n K dX3_following_63 rfl ?_
  refine j_getA (k := 40) 39 K dX3_following_64 rfl rfl rfl q1296 rfl rfl (by decide) rfl rfl rfl ?_
  refine j_iload_n K dX3_following_67 rfl ?_
  refine j_ib (fun hi3 => ?_)
  refine j_ial K dX3_following_68 rfl (fxLen 39 rfl rfl) hi3 ?_
  refine j_iload_n K dX3_following_69 rfl ?_
  refine j_callV _ K (sim_X3_takes hG hl d (gI w 55 x1.toNatClampNeg) x3 w false fx3) dX3_following_70 rfl rfl q1736 q1738 qs86 q95 q1739 pm_X3_takes rfl rfl rfl rfl rfl (fun r4 _ => ?_)
  refine j_if_eq 78 K dX3_following_73 (by decide) ?_ ?_
  · exact sb_X3_following_78 hG hl K hr hnm hxt hnd hk4 _ _ _ _ _ _ _
  · refine j_iload_n K dX3_following_76 rfl ?_
    refine j_istore_n K dX3_following_77 rfl rfl ?_
    exact sb_X3_following_78 hG hl K hr hnm hxt hnd hk4 _ _ _ _ _ _ _
theorem sb_X3_following_45 {G : Gx} (hG : GW G) {M : Mx} (hl : (mL M).stackTraces = false) {w0 : Wd} {d : Nat} (K : Cx (G, true, M, 4, w0) cX3_following "IntervalTreeModel" (d + 1)) (hr : (mH M).sig.returnType = some .int) (hnm : (mH M).name = yX3_following.name) (hxt : ∀ x ∈ (mC M).exceptionTable.toList, False) (hnd : (mS M).methodNamed? yX3_following = some (mM M)) {k4 : Int32 → Int32 → Int32 → Wd → Option (Wd × Int32)} (hk4 : ∀ (x1 : Int32) (x2 : Int32) (x3 : Int32) (w : Wd) (fx1 : Bool) (fx2 : Bool) (fx3 : Bool), Jf (G, true, M, 4, w0) (rrV G pI) (k4 x1 x2 x3 w) w 4 [some (aR 3 (some 30)), some (aB fx1 x1), some (aB fx2 x2), some (aB fx3 x3)] []) : ∀ (x1 : Int32) (x2 : Int32) (x3 : Int32) (w : Wd) (fx1 : Bool) (fx2 : Bool) (fx3 : Bool), Jf (G, true, M, 4, w0) (rrV G pI) (b_X3_following_45 d k4 x1 x2 x3 w) w 45 [some (aR 3 (some 30)), some (aB fx1 x1), some (aB fx2 x2), some (aB fx3 x3)] [] := by
  intro x1 x2 x3 w fx1 fx2 fx3
  refine j_iload_n K dX3_following_45 rfl ?_
  refine j_iconst (x := (-1)) K dX3_following_46 rfl ?_
  refine j_icmp_eq 62 K dX3_following_47 (by decide) ?_ ?_
  · exact sb_X3_following_62 hG hl K hr hnm hxt hnd hk4 _ _ _ _ _ _ _
  · refine j_aload_n K dX3_following_50 rfl ?_
    refine j_iload_n K dX3_following_51 rfl ?_
    refine j_iload_n K dX3_following_52 rfl ?_
    refine j_callV _ K (sim_X3_isLess hG hl d x3 x2 w fx3 fx2) dX3_following_53 rfl rfl q1432 q1434 qs54 q95 q1435 pm_X3_isLess rfl rfl rfl rfl rfl (fun r3 _ => ?_)
    refine j_if_ne 62 K dX3_following_56 (by decide) ?_ ?_
    · exact sb_X3_following_62 hG hl K hr hnm hxt hnd hk4 _ _ _ _ _ _ _
    · refine j_goto 78 K dX3_following_59 (by decide) ?_
      exact sb_X3_following_78 hG hl K hr hnm hxt hnd hk4 _ _ _ _ _ _ _
theorem sb_X3_following_4 {G : Gx} (hG : GW G) {M : Mx} (hl : (mL M).stackTraces = false) {w0 : Wd} {d : Nat} (K : Cx (G, true, M, 4, w0) cX3_following "IntervalTreeModel" (d + 1)) (hr : (mH M).sig.returnType = some .int) (hnm : (mH M).name = yX3_following.name) (hxt : ∀ x ∈ (mC M).exceptionTable.toList, False) (hnd : (mS M).methodNamed? yX3_following = some (mM M)) : ∀ (n : Nat), ∀ (x1 : Int32) (x2 : Int32) (x3 : Int32) (w : Wd) (fx1 : Bool) (fx2 : Bool) (fx3 : Bool), Jf (G, true, M, 4, w0) (rrV G pI) (b_X3_following_4 d n x1 x2 x3 w) w 4 [some (aR 3 (some 30)), some (aB fx1 x1), some (aB fx2 x2), some (aB fx3 x3)] [] := by
  intro n
  induction n with
  | zero => intros; exact j_none
  | succ n ih =>
    intro x1 x2 x3 w fx1 fx2 fx3
    refine j_iload_n K dX3_following_4 rfl ?_
    refine j_aload_n K dX3_following_5 rfl ?_
    refine j_getI (k := 10) K dX3_following_6 rfl rfl rfl q1266 rfl rfl rfl ?_
    refine j_icmp_ge 84 K dX3_following_9 (by decide) ?_ ?_
    · refine j_iload_n K dX3_following_84 rfl ?_
      exact j_iret K hr dX3_following_85
    · refine j_aload_n K dX3_following_12 rfl ?_
      refine j_getA (k := 4) 18 K dX3_following_13 rfl rfl rfl q1260 rfl rfl (by decide) rfl rfl rfl ?_
      refine j_iload_n K dX3_following_16 rfl ?_
      refine j_ib (fun hi1 => ?_)
      refine j_ial K dX3_following_17 rfl (fxLen 18 rfl rfl) hi1 ?_
      refine j_if_ne 78 K dX3_following_18 (by decide) ?_ ?_
      · exact sb_X3_following_78 hG hl K hr hnm hxt hnd ih _ _ _ _ _ _ _
      · refine j_aload_n K dX3_following_21 rfl ?_
        refine j_getA (k := 41) 40 K dX3_following_22 rfl rfl rfl q1297 rfl rfl (by decide) rfl rfl rfl ?_
        refine j_iload_n K dX3_following_25 rfl ?_
        refine j_ib (fun hi2 => ?_)
        refine j_ial K dX3_following_26 rfl (fxLen 40 rfl rfl) hi2 ?_
        refine j_iconst (x := (-1)) K dX3_following_27 rfl ?_
        refine j_icmp_eq 45 K dX3_following_28 (by decide) ?_ ?_
        · exact sb_X3_following_45 hG hl K hr hnm hxt hnd ih _ _ _ _ _ _ _
        · refine j_aload_n K dX3_following_31 rfl ?_
          refine j_aload_n K dX3_following_32 rfl ?_
          refine j_getA (k := 41) 40 K dX3_following_33 rfl rfl rfl q1297 rfl rfl (by decide) rfl rfl rfl ?_
          refine j_iload_n K dX3_following_36 rfl ?_
          refine j_ial K dX3_following_37 rfl (fxLen 40 rfl rfl) hi2 ?_
          refine j_iload_n K dX3_following_38 rfl ?_
          refine j_callV _ K (sim_X3_isLess hG hl d (gI w 56 x1.toNatClampNeg) x3 w false fx3) dX3_following_39 rfl rfl q1432 q1434 qs54 q95 q1435 pm_X3_isLess rfl rfl rfl rfl rfl (fun r3 _ => ?_)
          refine j_if_eq 78 K dX3_following_42 (by decide) ?_ ?_
          · exact sb_X3_following_78 hG hl K hr hnm hxt hnd ih _ _ _ _ _ _ _
          · exact sb_X3_following_45 hG hl K hr hnm hxt hnd ih _ _ _ _ _ _ _
theorem sim_X3_following {G : Gx} (hG : GW G) {l : Launch} (hl : l.stackTraces = false) (d : Nat) (p1 : Int32) (w : Wd) (fp1 : Bool) : Mt G true l yX3_following (ws_ yX3_following cX3_following 4 (some .int)) d (rrV G pI) [aR 3 (some 30), aB fp1 p1] w (f_X3_following d p1 w) := by
  refine Mt.of (own := "IntervalTreeModel") hG hl (by decide +kernel) rfl rfl ?_
  intro M hM hr hnm hxt hnd K
  subst hM
  cases d with
  | zero => exact j_none
  | succ d =>
    refine j_iconst (x := (-1)) K dX3_following_0 rfl ?_
    refine j_istore_n K dX3_following_1 rfl rfl ?_
    refine j_iconstZ K dX3_following_2 rfl (Or.inl rfl) ?_
    refine j_istore_n K dX3_following_3 rfl rfl ?_
    exact sb_X3_following_4 hG hl K hr hnm hxt hnd FU _ _ _ _ _ _ _

theorem pm_X3_open : yX3_open.cls = RX3 ∧ yX3_open.cls ≠ "java/lang/invoke/MethodHandle" ∧ yX3_open.cls ≠ "java/lang/invoke/VarHandle" ∧ (parseMethodDescriptor yX3_open.desc).map (fun d => d.parameters.length) = some 2 := by decide +kernel
def b_X3_open_20 (d : Nat) (w : Wd) : Option (Wd × Int32) :=
  (f_X3_fails d 1 w).bind fun r2 =>
  some (r2.1, r2.2)
def f_X3_open (d : Nat) (p1 : Int32) (p2 : Int32) (w : Wd) : Option (Wd × Int32) :=
  match d with
  | 0 => none
  | d + 1 =>
    (f_X3_isCursor d p1 (sI w 30 0 0)).bind fun r1 =>
    if r1.2 = 0 then
      b_X3_open_20 d r1.1
    else
      (f_X3_isFilter d p2 r1.1).bind fun r3 =>
      if r3.2 = 0 then
        b_X3_open_20 d r3.1
      else
        if ib p1 4 = true then
          (f_X3_following d p1 (sI (sI (sI r3.1 54 p1.toNatClampNeg (vp_nar .boolean 1)) 55 p1.toNatClampNeg p2) 56 p1.toNatClampNeg (-1))).bind fun r5 =>
          some (r5.1, r5.2)
        else none
theorem sb_X3_open_20 {G : Gx} (hG : GW G) {M : Mx} (hl : (mL M).stackTraces = false) {w0 : Wd} {d : Nat} (K : Cx (G, true, M, 3, w0) cX3_open "IntervalTreeModel" (d + 1)) (hr : (mH M).sig.returnType = some .int) (hnm : (mH M).name = yX3_open.name) (hxt : ∀ x ∈ (mC M).exceptionTable.toList, False) (hnd : (mS M).methodNamed? yX3_open = some (mM M)) : ∀ (w : Wd), Jf (G, true, M, 3, w0) (rrV G pI) (b_X3_open_20 d w) w 20 [some (aR 3 (some 30)), none, none] [] := by
  intro w
  refine j_aload_n K dX3_open_20 rfl ?_
  refine j_iconstZ K dX3_open_21 rfl (Or.inr rfl) ?_
  refine j_callV _ K (sim_X3_fails hG hl d 1 w true) dX3_open_22 rfl rfl q1420 q1422 qs51 q95 q1423 pm_X3_fails rfl rfl rfl rfl rfl (fun r2 _ => ?_)
  exact j_iret K hr dX3_open_25
theorem sim_X3_open {G : Gx} (hG : GW G) {l : Launch} (hl : l.stackTraces = false) (d : Nat) (p1 : Int32) (p2 : Int32) (w : Wd) (fp1 : Bool) (fp2 : Bool) : Mt G true l yX3_open (ws_ yX3_open cX3_open 3 (some .int)) d (rrV G pI) [aR 3 (some 30), aB fp1 p1, aB fp2 p2] w (f_X3_open d p1 p2 w) := by
  refine Mt.of (own := "IntervalTreeModel") hG hl (by decide +kernel) rfl rfl ?_
  intro M hM hr hnm hxt hnd K
  subst hM
  cases d with
  | zero => exact j_none
  | succ d =>
    refine j_aload_n K dX3_open_0 rfl ?_
    refine j_iconstZ K dX3_open_1 rfl (Or.inl rfl) ?_
    refine j_putI (k := 0) K dX3_open_2 rfl rfl q1256 rfl (Or.inl rfl) rfl rfl rfl rfl ?_
    refine j_iload_n K dX3_open_5 rfl ?_
    refine j_callS _ K (sim_X3_isCursor hG hl d p1 (sI w 30 0 0) fp1) dX3_open_6 q1764 q1765 q95 q1766 pm_X3_isCursor.2 rfl rfl rfl rfl (fun r1 _ => ?_)
    refine j_if_eq 20 K dX3_open_9 (by decide) ?_ ?_
    · exact j_wk (sb_X3_open_20 hG hl K hr hnm hxt hnd _) ⟨rfl, trivial⟩
    · refine j_aload_n K dX3_open_12 rfl ?_
      refine j_iload_n K dX3_open_13 rfl ?_
      refine j_callV _ K (sim_X3_isFilter hG hl d p2 r1.1 fp2) dX3_open_14 rfl rfl q1688 q1690 qs77 q95 q1691 pm_X3_isFilter rfl rfl rfl rfl rfl (fun r3 _ => ?_)
      refine j_if_ne 26 K dX3_open_17 (by decide) ?_ ?_
      · refine j_aload_n K dX3_open_26 rfl ?_
        refine j_getA (k := 39) 38 K dX3_open_27 rfl rfl rfl q1295 rfl rfl (by decide) rfl rfl rfl ?_
        refine j_iload_n K dX3_open_30 rfl ?_
        refine j_iconstZ K dX3_open_31 rfl (Or.inr rfl) ?_
        refine j_ib (fun hi4 => ?_)
        refine j_zas K dX3_open_32 rfl (fxLen2 38 rfl rfl) hi4 ?_
        refine j_aload_n K dX3_open_33 rfl ?_
        refine j_getA (k := 40) 39 K dX3_open_34 rfl rfl rfl q1296 rfl rfl (by decide) rfl rfl rfl ?_
        refine j_iload_n K dX3_open_37 rfl ?_
        refine j_iload_n K dX3_open_38 rfl ?_
        refine j_ias K dX3_open_39 rfl (fxLen2 39 rfl rfl) hi4 ?_
        refine j_aload_n K dX3_open_40 rfl ?_
        refine j_getA (k := 41) 40 K dX3_open_41 rfl rfl rfl q1297 rfl rfl (by decide) rfl rfl rfl ?_
        refine j_iload_n K dX3_open_44 rfl ?_
        refine j_iconst (x := (-1)) K dX3_open_45 rfl ?_
        refine j_ias K dX3_open_46 rfl (fxLen2 40 rfl rfl) hi4 ?_
        refine j_aload_n K dX3_open_47 rfl ?_
        refine j_iload_n K dX3_open_48 rfl ?_
        refine j_callV _ K (sim_X3_following hG hl d p1 (sI (sI (sI r3.1 54 p1.toNatClampNeg (vp_nar .boolean 1)) 55 p1.toNatClampNeg p2) 56 p1.toNatClampNeg (-1)) fp1) dX3_open_49 rfl rfl q1767 q1769 qs91 q95 q1770 pm_X3_following rfl rfl rfl rfl rfl (fun r5 _ => ?_)
        exact j_iret K hr dX3_open_52
      · exact j_wk (sb_X3_open_20 hG hl K hr hnm hxt hnd _) ⟨rfl, trivial⟩

theorem pm_X3_hasNext : yX3_hasNext.cls = RX3 ∧ yX3_hasNext.cls ≠ "java/lang/invoke/MethodHandle" ∧ yX3_hasNext.cls ≠ "java/lang/invoke/VarHandle" ∧ (parseMethodDescriptor yX3_hasNext.desc).map (fun d => d.parameters.length) = some 1 := by decide +kernel
def f_X3_hasNext (d : Nat) (p1 : Int32) (w : Wd) : Option (Wd × Int32) :=
  match d with
  | 0 => none
  | d + 1 =>
    (f_X3_isCursor d p1 (sI w 30 0 0)).bind fun r1 =>
    if r1.2 = 0 then
      (f_X3_fails d 1 r1.1).bind fun r5 =>
      if r5.2 ≤ 0 then
        some (r5.1, 0)
      else
        some (r5.1, 1)
    else
      if ib p1 4 = true then
        if (gI r1.1 54 p1.toNatClampNeg) = 0 then
          (f_X3_fails d 2 r1.1).bind fun r3 =>
          if r3.2 ≤ 0 then
            some (r3.1, 0)
          else
            some (r3.1, 1)
        else
          (f_X3_following d p1 r1.1).bind fun r4 =>
          if r4.2 = (-1) then
            some (r4.1, 0)
          else
            some (r4.1, 1)
      else none
theorem sim_X3_hasNext {G : Gx} (hG : GW G) {l : Launch} (hl : l.stackTraces = false) (d : Nat) (p1 : Int32) (w : Wd) (fp1 : Bool) : Mt G true l yX3_hasNext (ws_ yX3_hasNext cX3_hasNext 2 (some .boolean)) d (rrV G pZ) [aR 3 (some 30), aB fp1 p1] w (f_X3_hasNext d p1 w) := by
  refine Mt.of (own := "IntervalTreeModel") hG hl (by decide +kernel) rfl rfl ?_
  intro M hM hr hnm hxt hnd K
  subst hM
  cases d with
  | zero => exact j_none
  | succ d =>
    refine j_aload_n K dX3_hasNext_0 rfl ?_
    refine j_iconstZ K dX3_hasNext_1 rfl (Or.inl rfl) ?_
    refine j_putI (k := 0) K dX3_hasNext_2 rfl rfl q1256 rfl (Or.inl rfl) rfl rfl rfl rfl ?_
    refine j_iload_n K dX3_hasNext_5 rfl ?_
    refine j_callS _ K (sim_X3_isCursor hG hl d p1 (sI w 30 0 0) fp1) dX3_hasNext_6 q1764 q1765 q95 q1766 pm_X3_isCursor.2 rfl rfl rfl rfl (fun r1 _ => ?_)
    refine j_if_ne 26 K dX3_hasNext_9 (by decide) ?_ ?_
    · refine j_aload_n K dX3_hasNext_26 rfl ?_
      refine j_getA (k := 39) 38 K dX3_hasNext_27 rfl rfl rfl q1295 rfl rfl (by decide) rfl rfl rfl ?_
      refine j_iload_n K dX3_hasNext_30 rfl ?_
      refine j_ib (fun hi2 => ?_)
      refine j_zal K dX3_hasNext_31 rfl (fxLen 38 rfl rfl) hi2 ?_
      refine j_if_eq 52 K dX3_hasNext_32 (by decide) ?_ ?_
      · refine j_aload_n K dX3_hasNext_52 rfl ?_
        refine j_iconst (x := 2) K dX3_hasNext_53 rfl ?_
        refine j_callV _ K (sim_X3_fails hG hl d 2 r1.1 false) dX3_hasNext_54 rfl rfl q1420 q1422 qs51 q95 q1423 pm_X3_fails rfl rfl rfl rfl rfl (fun r3 _ => ?_)
        refine j_if_le 64 K dX3_hasNext_57 (by decide) ?_ ?_
        · refine j_iconstZ K dX3_hasNext_64 rfl (Or.inl rfl) ?_
          exact j_zret K hr dX3_hasNext_65
        · refine j_iconstZ K dX3_hasNext_60 rfl (Or.inr rfl) ?_
          refine j_goto 65 K dX3_hasNext_61 (by decide) ?_
          exact j_zret K hr dX3_hasNext_65
      · refine j_aload_n K dX3_hasNext_35 rfl ?_
        refine j_iload_n K dX3_hasNext_36 rfl ?_
        refine j_callV _ K (sim_X3_following hG hl d p1 r1.1 fp1) dX3_hasNext_37 rfl rfl q1767 q1769 qs91 q95 q1770 pm_X3_following rfl rfl rfl rfl rfl (fun r4 _ => ?_)
        refine j_iconst (x := (-1)) K dX3_hasNext_40 rfl ?_
        refine j_icmp_eq 48 K dX3_hasNext_41 (by decide) ?_ ?_
        · refine j_iconstZ K dX3_hasNext_48 rfl (Or.inl rfl) ?_
          refine j_goto 65 K dX3_hasNext_49 (by decide) ?_
          exact j_zret K hr dX3_hasNext_65
        · refine j_iconstZ K dX3_hasNext_44 rfl (Or.inr rfl) ?_
          refine j_goto 65 K dX3_hasNext_45 (by decide) ?_
          exact j_zret K hr dX3_hasNext_65
    · refine j_aload_n K dX3_hasNext_12 rfl ?_
      refine j_iconstZ K dX3_hasNext_13 rfl (Or.inr rfl) ?_
      refine j_callV _ K (sim_X3_fails hG hl d 1 r1.1 true) dX3_hasNext_14 rfl rfl q1420 q1422 qs51 q95 q1423 pm_X3_fails rfl rfl rfl rfl rfl (fun r5 _ => ?_)
      refine j_if_le 24 K dX3_hasNext_17 (by decide) ?_ ?_
      · refine j_iconstZ K dX3_hasNext_24 rfl (Or.inl rfl) ?_
        exact j_zret K hr dX3_hasNext_25
      · refine j_iconstZ K dX3_hasNext_20 rfl (Or.inr rfl) ?_
        refine j_goto 25 K dX3_hasNext_21 (by decide) ?_
        exact j_zret K hr dX3_hasNext_25

theorem pm_X3_next : yX3_next.cls = RX3 ∧ yX3_next.cls ≠ "java/lang/invoke/MethodHandle" ∧ yX3_next.cls ≠ "java/lang/invoke/VarHandle" ∧ (parseMethodDescriptor yX3_next.desc).map (fun d => d.parameters.length) = some 1 := by decide +kernel
def f_X3_next (d : Nat) (p1 : Int32) (w : Wd) : Option (Wd × Int32) :=
  match d with
  | 0 => none
  | d + 1 =>
    (f_X3_isCursor d p1 (sI w 30 0 0)).bind fun r1 =>
    if r1.2 = 0 then
      (f_X3_fails d 1 r1.1).bind fun r6 =>
      some (r6.1, r6.2)
    else
      if ib p1 4 = true then
        if (gI r1.1 54 p1.toNatClampNeg) = 0 then
          (f_X3_fails d 2 r1.1).bind fun r5 =>
          some (r5.1, r5.2)
        else
          (f_X3_following d p1 r1.1).bind fun r3 =>
          if r3.2 = (-1) then
            (f_X3_fails d 3 r3.1).bind fun r4 =>
            some (r4.1, r4.2)
          else
            some (sI r3.1 56 p1.toNatClampNeg r3.2, r3.2)
      else none
theorem sim_X3_next {G : Gx} (hG : GW G) {l : Launch} (hl : l.stackTraces = false) (d : Nat) (p1 : Int32) (w : Wd) (fp1 : Bool) : Mt G true l yX3_next (ws_ yX3_next cX3_next 3 (some .int)) d (rrV G pI) [aR 3 (some 30), aB fp1 p1] w (f_X3_next d p1 w) := by
  refine Mt.of (own := "IntervalTreeModel") hG hl (by decide +kernel) rfl rfl ?_
  intro M hM hr hnm hxt hnd K
  subst hM
  cases d with
  | zero => exact j_none
  | succ d =>
    refine j_aload_n K dX3_next_0 rfl ?_
    refine j_iconstZ K dX3_next_1 rfl (Or.inl rfl) ?_
    refine j_putI (k := 0) K dX3_next_2 rfl rfl q1256 rfl (Or.inl rfl) rfl rfl rfl rfl ?_
    refine j_iload_n K dX3_next_5 rfl ?_
    refine j_callS _ K (sim_X3_isCursor hG hl d p1 (sI w 30 0 0) fp1) dX3_next_6 q1764 q1765 q95 q1766 pm_X3_isCursor.2 rfl rfl rfl rfl (fun r1 _ => ?_)
    refine j_if_ne 18 K dX3_next_9 (by decide) ?_ ?_
    · refine j_aload_n K dX3_next_18 rfl ?_
      refine j_getA (k := 39) 38 K dX3_next_19 rfl rfl rfl q1295 rfl rfl (by decide) rfl rfl rfl ?_
      refine j_iload_n K dX3_next_22 rfl ?_
      refine j_ib (fun hi2 => ?_)
      refine j_zal K dX3_next_23 rfl (fxLen 38 rfl rfl) hi2 ?_
      refine j_if_ne 33 K dX3_next_24 (by decide) ?_ ?_
      · refine j_aload_n K dX3_next_33 rfl ?_
        refine j_iload_n K dX3_next_34 rfl ?_
        refine j_callV _ K (sim_X3_following hG hl d p1 r1.1 fp1) dX3_next_35 rfl rfl q1767 q1769 qs91 q95 q1770 pm_X3_following rfl rfl rfl rfl rfl (fun r3 _ => ?_)
        refine j_istore_n K dX3_next_38 rfl rfl ?_
        refine j_iload_n K dX3_next_39 rfl ?_
        refine j_iconst (x := (-1)) K dX3_next_40 rfl ?_
        refine j_icmp_ne 50 K dX3_next_41 (by decide) ?_ ?_
        · refine j_aload_n K dX3_next_50 rfl ?_
          refine j_getA (k := 41) 40 K dX3_next_51 rfl rfl rfl q1297 rfl rfl (by decide) rfl rfl rfl ?_
          refine j_iload_n K dX3_next_54 rfl ?_
          refine j_iload_n K dX3_next_55 rfl ?_
          refine j_ias K dX3_next_56 rfl (fxLen2 40 rfl rfl) hi2 ?_
          refine j_iload_n K dX3_next_57 rfl ?_
          exact j_iret K hr dX3_next_58
        · refine j_aload_n K dX3_next_44 rfl ?_
          refine j_iconst (x := 3) K dX3_next_45 rfl ?_
          refine j_callV _ K (sim_X3_fails hG hl d 3 r3.1 false) dX3_next_46 rfl rfl q1420 q1422 qs51 q95 q1423 pm_X3_fails rfl rfl rfl rfl rfl (fun r4 _ => ?_)
          exact j_iret K hr dX3_next_49
      · refine j_aload_n K dX3_next_27 rfl ?_
        refine j_iconst (x := 2) K dX3_next_28 rfl ?_
        refine j_callV _ K (sim_X3_fails hG hl d 2 r1.1 false) dX3_next_29 rfl rfl q1420 q1422 qs51 q95 q1423 pm_X3_fails rfl rfl rfl rfl rfl (fun r5 _ => ?_)
        exact j_iret K hr dX3_next_32
    · refine j_aload_n K dX3_next_12 rfl ?_
      refine j_iconstZ K dX3_next_13 rfl (Or.inr rfl) ?_
      refine j_callV _ K (sim_X3_fails hG hl d 1 r1.1 true) dX3_next_14 rfl rfl q1420 q1422 qs51 q95 q1423 pm_X3_fails rfl rfl rfl rfl rfl (fun r6 _ => ?_)
      exact j_iret K hr dX3_next_17

theorem pm_X3_removeCurrent : yX3_removeCurrent.cls = RX3 ∧ yX3_removeCurrent.cls ≠ "java/lang/invoke/MethodHandle" ∧ yX3_removeCurrent.cls ≠ "java/lang/invoke/VarHandle" ∧ (parseMethodDescriptor yX3_removeCurrent.desc).map (fun d => d.parameters.length) = some 1 := by decide +kernel
def b_X3_removeCurrent_51 (d : Nat) (w : Wd) : Option (Wd × Int32) :=
  (f_X3_fails d 2 w).bind fun r3 =>
  some (r3.1, r3.2)
def f_X3_removeCurrent (d : Nat) (p1 : Int32) (w : Wd) : Option (Wd × Int32) :=
  match d with
  | 0 => none
  | d + 1 =>
    (f_X3_isCursor d p1 (sI w 30 0 0)).bind fun r1 =>
    if r1.2 = 0 then
      (f_X3_fails d 1 r1.1).bind fun r6 =>
      some (r6.1, r6.2)
    else
      if ib p1 4 = true then
        if (gI r1.1 54 p1.toNatClampNeg) = 0 then
          b_X3_removeCurrent_51 d r1.1
        else
          if (gI r1.1 56 p1.toNatClampNeg) = (-1) then
            b_X3_removeCurrent_51 d r1.1
          else
            if ib (gI r1.1 56 p1.toNatClampNeg) 500 = true then
              if (gI r1.1 34 (gI r1.1 56 p1.toNatClampNeg).toNatClampNeg) = 0 then
                (f_X3_goes d (gI r1.1 56 p1.toNatClampNeg) r1.1).bind fun r5 =>
                some (r5.1, r5.2)
              else
                b_X3_removeCurrent_51 d r1.1
            else none
      else none
theorem sb_X3_removeCurrent_51 {G : Gx} (hG : GW G) {M : Mx} (hl : (mL M).stackTraces = false) {w0 : Wd} {d : Nat} (K : Cx (G, true, M, 2, w0) cX3_removeCurrent "IntervalTreeModel" (d + 1)) (hr : (mH M).sig.returnType = some .int) (hnm : (mH M).name = yX3_removeCurrent.name) (hxt : ∀ x ∈ (mC M).exceptionTable.toList, False) (hnd : (mS M).methodNamed? yX3_removeCurrent = some (mM M)) : ∀ (w : Wd), Jf (G, true, M, 2, w0) (rrV G pI) (b_X3_removeCurrent_51 d w) w 51 [some (aR 3 (some 30)), none] [] := by
  intro w
  refine j_aload_n K dX3_removeCurrent_51 rfl ?_
  refine j_iconst (x := 2) K dX3_removeCurrent_52 rfl ?_
  refine j_callV _ K (sim_X3_fails hG hl d 2 w false) dX3_removeCurrent_53 rfl rfl q1420 q1422 qs51 q95 q1423 pm_X3_fails rfl rfl rfl rfl rfl (fun r3 _ => ?_)
  exact j_iret K hr dX3_removeCurrent_56
theorem sim_X3_removeCurrent {G : Gx} (hG : GW G) {l : Launch} (hl : l.stackTraces = false) (d : Nat) (p1 : Int32) (w : Wd) (fp1 : Bool) : Mt G true l yX3_removeCurrent (ws_ yX3_removeCurrent cX3_removeCurrent 2 (some .int)) d (rrV G pI) [aR 3 (some 30), aB fp1 p1] w (f_X3_removeCurrent d p1 w) := by
  refine Mt.of (own := "IntervalTreeModel") hG hl (by decide +kernel) rfl rfl ?_
  intro M hM hr hnm hxt hnd K
  subst hM
  cases d with
  | zero => exact j_none
  | succ d =>
    refine j_aload_n K dX3_removeCurrent_0 rfl ?_
    refine j_iconstZ K dX3_removeCurrent_1 rfl (Or.inl rfl) ?_
    refine j_putI (k := 0) K dX3_removeCurrent_2 rfl rfl q1256 rfl (Or.inl rfl) rfl rfl rfl rfl ?_
    refine j_iload_n K dX3_removeCurrent_5 rfl ?_
    refine j_callS _ K (sim_X3_isCursor hG hl d p1 (sI w 30 0 0) fp1) dX3_removeCurrent_6 q1764 q1765 q95 q1766 pm_X3_isCursor.2 rfl rfl rfl rfl (fun r1 _ => ?_)
    refine j_if_ne 18 K dX3_removeCurrent_9 (by decide) ?_ ?_
    · refine j_aload_n K dX3_removeCurrent_18 rfl ?_
      refine j_getA (k := 39) 38 K dX3_removeCurrent_19 rfl rfl rfl q1295 rfl rfl (by decide) rfl rfl rfl ?_
      refine j_iload_n K dX3_removeCurrent_22 rfl ?_
      refine j_ib (fun hi2 => ?_)
      refine j_zal K dX3_removeCurrent_23 rfl (fxLen 38 rfl rfl) hi2 ?_
      refine j_if_eq 51 K dX3_removeCurrent_24 (by decide) ?_ ?_
      · exact j_wk (sb_X3_removeCurrent_51 hG hl K hr hnm hxt hnd _) ⟨rfl, trivial⟩
      · refine j_aload_n K dX3_removeCurrent_27 rfl ?_
        refine j_getA (k := 41) 40 K dX3_removeCurrent_28 rfl rfl rfl q1297 rfl rfl (by decide) rfl rfl rfl ?_
        refine j_iload_n K dX3_removeCurrent_31 rfl ?_
        refine j_ial K dX3_removeCurrent_32 rfl (fxLen 40 rfl rfl) hi2 ?_
        refine j_iconst (x := (-1)) K dX3_removeCurrent_33 rfl ?_
        refine j_icmp_eq 51 K dX3_removeCurrent_34 (by decide) ?_ ?_
        · exact j_wk (sb_X3_removeCurrent_51 hG hl K hr hnm hxt hnd _) ⟨rfl, trivial⟩
        · refine j_aload_n K dX3_removeCurrent_37 rfl ?_
          refine j_getA (k := 4) 18 K dX3_removeCurrent_38 rfl rfl rfl q1260 rfl rfl (by decide) rfl rfl rfl ?_
          refine j_aload_n K dX3_removeCurrent_41 rfl ?_
          refine j_getA (k := 41) 40 K dX3_removeCurrent_42 rfl rfl rfl q1297 rfl rfl (by decide) rfl rfl rfl ?_
          refine j_iload_n K dX3_removeCurrent_45 rfl ?_
          refine j_ial K dX3_removeCurrent_46 rfl (fxLen 40 rfl rfl) hi2 ?_
          refine j_ib (fun hi4 => ?_)
          refine j_ial K dX3_removeCurrent_47 rfl (fxLen 18 rfl rfl) hi4 ?_
          refine j_if_eq 57 K dX3_removeCurrent_48 (by decide) ?_ ?_
          · refine j_aload_n K dX3_removeCurrent_57 rfl ?_
            refine j_aload_n K dX3_removeCurrent_58 rfl ?_
            refine j_getA (k := 41) 40 K dX3_removeCurrent_59 rfl rfl rfl q1297 rfl rfl (by decide) rfl rfl rfl ?_
            refine j_iload_n K dX3_removeCurrent_62 rfl ?_
            refine j_ial K dX3_removeCurrent_63 rfl (fxLen 40 rfl rfl) hi2 ?_
            refine j_callV _ K (sim_X3_goes hG hl d (gI r1.1 56 p1.toNatClampNeg) r1.1 false) dX3_removeCurrent_64 rfl rfl q1468 q1470 qs62 q95 q1471 pm_X3_goes rfl rfl rfl rfl rfl (fun r5 _ => ?_)
            exact j_iret K hr dX3_removeCurrent_67
          · exact j_wk (sb_X3_removeCurrent_51 hG hl K hr hnm hxt hnd _) ⟨rfl, trivial⟩
    · refine j_aload_n K dX3_removeCurrent_12 rfl ?_
      refine j_iconstZ K dX3_removeCurrent_13 rfl (Or.inr rfl) ?_
      refine j_callV _ K (sim_X3_fails hG hl d 1 r1.1 true) dX3_removeCurrent_14 rfl rfl q1420 q1422 qs51 q95 q1423 pm_X3_fails rfl rfl rfl rfl rfl (fun r6 _ => ?_)
      exact j_iret K hr dX3_removeCurrent_17

theorem pm_X3_save : yX3_save.cls = RX3 ∧ yX3_save.cls ≠ "java/lang/invoke/MethodHandle" ∧ yX3_save.cls ≠ "java/lang/invoke/VarHandle" ∧ (parseMethodDescriptor yX3_save.desc).map (fun d => d.parameters.length) = some 0 := by decide +kernel
def b_X3_save_7 (d : Nat) : Nat → Int32 → Wd → Option (Wd × Int32)
  | 0, _, _ => none
  | n + 1, x1, w =>
    if 500 ≤ x1 then
      if ib 0 7 = true then
        if ib 1 7 = true then
          if ib 2 7 = true then
            if ib 3 7 = true then
              if ib 4 7 = true then
                if ib 5 7 = true then
                  if ib 6 7 = true then
                    (f_X3_live d (sI (sI (sI (sI (sI (sI (sI w 64 (Int32.toNatClampNeg 0) (gI w 30 9)) 64 (Int32.toNatClampNeg 1) (gI (sI w 64 (Int32.toNatClampNeg 0) (gI w 30 9)) 30 10)) 64 (Int32.toNatClampNeg 2) (gI (sI (sI w 64 (Int32.toNatClampNeg 0) (gI w 30 9)) 64 (Int32.toNatClampNeg 1) (gI (sI w 64 (Int32.toNatClampNeg 0) (gI w 30 9)) 30 10)) 30 11)) 64 (Int32.toNatClampNeg 3) (gI (sI (sI (sI w 64 (Int32.toNatClampNeg 0) (gI w 30 9)) 64 (Int32.toNatClampNeg 1) (gI (sI w 64 (Int32.toNatClampNeg 0) (gI w 30 9)) 30 10)) 64 (Int32.toNatClampNeg 2) (gI (sI (sI w 64 (Int32.toNatClampNeg 0) (gI w 30 9)) 64 (Int32.toNatClampNeg 1) (gI (sI w 64 (Int32.toNatClampNeg 0) (gI w 30 9)) 30 10)) 30 11)) 30 12)) 64 (Int32.toNatClampNeg 4) (gI (sI (sI (sI (sI w 64 (Int32.toNatClampNeg 0) (gI w 30 9)) 64 (Int32.toNatClampNeg 1) (gI (sI w 64 (Int32.toNatClampNeg 0) (gI w 30 9)) 30 10)) 64 (Int32.toNatClampNeg 2) (gI (sI (sI w 64 (Int32.toNatClampNeg 0) (gI w 30 9)) 64 (Int32.toNatClampNeg 1) (gI (sI w 64 (Int32.toNatClampNeg 0) (gI w 30 9)) 30 10)) 30 11)) 64 (Int32.toNatClampNeg 3) (gI (sI (sI (sI w 64 (Int32.toNatClampNeg 0) (gI w 30 9)) 64 (Int32.toNatClampNeg 1) (gI (sI w 64 (Int32.toNatClampNeg 0) (gI w 30 9)) 30 10)) 64 (Int32.toNatClampNeg 2) (gI (sI (sI w 64 (Int32.toNatClampNeg 0) (gI w 30 9)) 64 (Int32.toNatClampNeg 1) (gI (sI w 64 (Int32.toNatClampNeg 0) (gI w 30 9)) 30 10)) 30 11)) 30 12)) 30 13)) 64 (Int32.toNatClampNeg 5) (gI (sI (sI (sI (sI (sI w 64 (Int32.toNatClampNeg 0) (gI w 30 9)) 64 (Int32.toNatClampNeg 1) (gI (sI w 64 (Int32.toNatClampNeg 0) (gI w 30 9)) 30 10)) 64 (Int32.toNatClampNeg 2) (gI (sI (sI w 64 (Int32.toNatClampNeg 0) (gI w 30 9)) 64 (Int32.toNatClampNeg 1) (gI (sI w 64 (Int32.toNatClampNeg 0) (gI w 30 9)) 30 10)) 30 11)) 64 (Int32.toNatClampNeg 3) (gI (sI (sI (sI w 64 (Int32.toNatClampNeg 0) (gI w 30 9)) 64 (Int32.toNatClampNeg 1) (gI (sI w 64 (Int32.toNatClampNeg 0) (gI w 30 9)) 30 10)) 64 (Int32.toNatClampNeg 2) (gI (sI (sI w 64 (Int32.toNatClampNeg 0) (gI w 30 9)) 64 (Int32.toNatClampNeg 1) (gI (sI w 64 (Int32.toNatClampNeg 0) (gI w 30 9)) 30 10)) 30 11)) 30 12)) 64 (Int32.toNatClampNeg 4) (gI (sI (sI (sI (sI w 64 (Int32.toNatClampNeg 0) (gI w 30 9)) 64 (Int32.toNatClampNeg 1) (gI (sI w 64 (Int32.toNatClampNeg 0) (gI w 30 9)) 30 10)) 64 (Int32.toNatClampNeg 2) (gI (sI (sI w 64 (Int32.toNatClampNeg 0) (gI w 30 9)) 64 (Int32.toNatClampNeg 1) (gI (sI w 64 (Int32.toNatClampNeg 0) (gI w 30 9)) 30 10)) 30 11)) 64 (Int32.toNatClampNeg 3) (gI (sI (sI (sI w 64 (Int32.toNatClampNeg 0) (gI w 30 9)) 64 (Int32.toNatClampNeg 1) (gI (sI w 64 (Int32.toNatClampNeg 0) (gI w 30 9)) 30 10)) 64 (Int32.toNatClampNeg 2) (gI (sI (sI w 64 (Int32.toNatClampNeg 0) (gI w 30 9)) 64 (Int32.toNatClampNeg 1) (gI (sI w 64 (Int32.toNatClampNeg 0) (gI w 30 9)) 30 10)) 30 11)) 30 12)) 30 13)) 30 14)) 64 (Int32.toNatClampNeg 6) (gI (sI (sI (sI (sI (sI (sI w 64 (Int32.toNatClampNeg 0) (gI w 30 9)) 64 (Int32.toNatClampNeg 1) (gI (sI w 64 (Int32.toNatClampNeg 0) (gI w 30 9)) 30 10)) 64 (Int32.toNatClampNeg 2) (gI (sI (sI w 64 (Int32.toNatClampNeg 0) (gI w 30 9)) 64 (Int32.toNatClampNeg 1) (gI (sI w 64 (Int32.toNatClampNeg 0) (gI w 30 9)) 30 10)) 30 11)) 64 (Int32.toNatClampNeg 3) (gI (sI (sI (sI w 64 (Int32.toNatClampNeg 0) (gI w 30 9)) 64 (Int32.toNatClampNeg 1) (gI (sI w 64 (Int32.toNatClampNeg 0) (gI w 30 9)) 30 10)) 64 (Int32.toNatClampNeg 2) (gI (sI (sI w 64 (Int32.toNatClampNeg 0) (gI w 30 9)) 64 (Int32.toNatClampNeg 1) (gI (sI w 64 (Int32.toNatClampNeg 0) (gI w 30 9)) 30 10)) 30 11)) 30 12)) 64 (Int32.toNatClampNeg 4) (gI (sI (sI (sI (sI w 64 (Int32.toNatClampNeg 0) (gI w 30 9)) 64 (Int32.toNatClampNeg 1) (gI (sI w 64 (Int32.toNatClampNeg 0) (gI w 30 9)) 30 10)) 64 (Int32.toNatClampNeg 2) (gI (sI (sI w 64 (Int32.toNatClampNeg 0) (gI w 30 9)) 64 (Int32.toNatClampNeg 1) (gI (sI w 64 (Int32.toNatClampNeg 0) (gI w 30 9)) 30 10)) 30 11)) 64 (Int32.toNatClampNeg 3) (gI (sI (sI (sI w 64 (Int32.toNatClampNeg 0) (gI w 30 9)) 64 (Int32.toNatClampNeg 1) (gI (sI w 64 (Int32.toNatClampNeg 0) (gI w 30 9)) 30 10)) 64 (Int32.toNatClampNeg 2) (gI (sI (sI w 64 (Int32.toNatClampNeg 0) (gI w 30 9)) 64 (Int32.toNatClampNeg 1) (gI (sI w 64 (Int32.toNatClampNeg 0) (gI w 30 9)) 30 10)) 30 11)) 30 12)) 30 13)) 64 (Int32.toNatClampNeg 5) (gI (sI (sI (sI (sI (sI w 64 (Int32.toNatClampNeg 0) (gI w 30 9)) 64 (Int32.toNatClampNeg 1) (gI (sI w 64 (Int32.toNatClampNeg 0) (gI w 30 9)) 30 10)) 64 (Int32.toNatClampNeg 2) (gI (sI (sI w 64 (Int32.toNatClampNeg 0) (gI w 30 9)) 64 (Int32.toNatClampNeg 1) (gI (sI w 64 (Int32.toNatClampNeg 0) (gI w 30 9)) 30 10)) 30 11)) 64 (Int32.toNatClampNeg 3) (gI (sI (sI (sI w 64 (Int32.toNatClampNeg 0) (gI w 30 9)) 64 (Int32.toNatClampNeg 1) (gI (sI w 64 (Int32.toNatClampNeg 0) (gI w 30 9)) 30 10)) 64 (Int32.toNatClampNeg 2) (gI (sI (sI w 64 (Int32.toNatClampNeg 0) (gI w 30 9)) 64 (Int32.toNatClampNeg 1) (gI (sI w 64 (Int32.toNatClampNeg 0) (gI w 30 9)) 30 10)) 30 11)) 30 12)) 64 (Int32.toNatClampNeg 4) (gI (sI (sI (sI (sI w 64 (Int32.toNatClampNeg 0) (gI w 30 9)) 64 (Int32.toNatClampNeg 1) (gI (sI w 64 (Int32.toNatClampNeg 0) (gI w 30 9)) 30 10)) 64 (Int32.toNatClampNeg 2) (gI (sI (sI w 64 (Int32.toNatClampNeg 0) (gI w 30 9)) 64 (Int32.toNatClampNeg 1) (gI (sI w 64 (Int32.toNatClampNeg 0) (gI w 30 9)) 30 10)) 30 11)) 64 (Int32.toNatClampNeg 3) (gI (sI (sI (sI w 64 (Int32.toNatClampNeg 0) (gI w 30 9)) 64 (Int32.toNatClampNeg 1) (gI (sI w 64 (Int32.toNatClampNeg 0) (gI w 30 9)) 30 10)) 64 (Int32.toNatClampNeg 2) (gI (sI (sI w 64 (Int32.toNatClampNeg 0) (gI w 30 9)) 64 (Int32.toNatClampNeg 1) (gI (sI w 64 (Int32.toNatClampNeg 0) (gI w 30 9)) 30 10)) 30 11)) 30 12)) 30 13)) 30 14)) 30 15))).bind fun r8 =>
                    some (r8.1, r8.2)
                  else none
                else none
              else none
            else none
          else none
        else none
      else none
    else
      if ib x1 500 = true then
        b_X3_save_7 d n (x1 + 1) (sI (sI (sI (sI (sI (sI (sI (sI w 57 x1.toNatClampNeg (gI w 31 x1.toNatClampNeg)) 58 x1.toNatClampNeg (gI (sI w 57 x1.toNatClampNeg (gI w 31 x1.toNatClampNeg)) 32 x1.toNatClampNeg)) 59 x1.toNatClampNeg (gI (sI (sI w 57 x1.toNatClampNeg (gI w 31 x1.toNatClampNeg)) 58 x1.toNatClampNeg (gI (sI w 57 x1.toNatClampNeg (gI w 31 x1.toNatClampNeg)) 32 x1.toNatClampNeg)) 33 x1.toNatClampNeg)) 60 x1.toNatClampNeg (gI (sI (sI (sI w 57 x1.toNatClampNeg (gI w 31 x1.toNatClampNeg)) 58 x1.toNatClampNeg (gI (sI w 57 x1.toNatClampNeg (gI w 31 x1.toNatClampNeg)) 32 x1.toNatClampNeg)) 59 x1.toNatClampNeg (gI (sI (sI w 57 x1.toNatClampNeg (gI w 31 x1.toNatClampNeg)) 58 x1.toNatClampNeg (gI (sI w 57 x1.toNatClampNeg (gI w 31 x1.toNatClampNeg)) 32 x1.toNatClampNeg)) 33 x1.toNatClampNeg)) 34 x1.toNatClampNeg)) 61 x1.toNatClampNeg (gI (sI (sI (sI (sI w 57 x1.toNatClampNeg (gI w 31 x1.toNatClampNeg)) 58 x1.toNatClampNeg (gI (sI w 57 x1.toNatClampNeg (gI w 31 x1.toNatClampNeg)) 32 x1.toNatClampNeg)) 59 x1.toNatClampNeg (gI (sI (sI w 57 x1.toNatClampNeg (gI w 31 x1.toNatClampNeg)) 58 x1.toNatClampNeg (gI (sI w 57 x1.toNatClampNeg (gI w 31 x1.toNatClampNeg)) 32 x1.toNatClampNeg)) 33 x1.toNatClampNeg)) 60 x1.toNatClampNeg (gI (sI (sI (sI w 57 x1.toNatClampNeg (gI w 31 x1.toNatClampNeg)) 58 x1.toNatClampNeg (gI (sI w 57 x1.toNatClampNeg (gI w 31 x1.toNatClampNeg)) 32 x1.toNatClampNeg)) 59 x1.toNatClampNeg (gI (sI (sI w 57 x1.toNatClampNeg (gI w 31 x1.toNatClampNeg)) 58 x1.toNatClampNeg (gI (sI w 57 x1.toNatClampNeg (gI w 31 x1.toNatClampNeg)) 32 x1.toNatClampNeg)) 33 x1.toNatClampNeg)) 34 x1.toNatClampNeg)) 35 x1.toNatClampNeg)) 62 x1.toNatClampNeg (gI (sI (sI (sI (sI (sI w 57 x1.toNatClampNeg (gI w 31 x1.toNatClampNeg)) 58 x1.toNatClampNeg (gI (sI w 57 x1.toNatClampNeg (gI w 31 x1.toNatClampNeg)) 32 x1.toNatClampNeg)) 59 x1.toNatClampNeg (gI (sI (sI w 57 x1.toNatClampNeg (gI w 31 x1.toNatClampNeg)) 58 x1.toNatClampNeg (gI (sI w 57 x1.toNatClampNeg (gI w 31 x1.toNatClampNeg)) 32 x1.toNatClampNeg)) 33 x1.toNatClampNeg)) 60 x1.toNatClampNeg (gI (sI (sI (sI w 57 x1.toNatClampNeg (gI w 31 x1.toNatClampNeg)) 58 x1.toNatClampNeg (gI (sI w 57 x1.toNatClampNeg (gI w 31 x1.toNatClampNeg)) 32 x1.toNatClampNeg)) 59 x1.toNatClampNeg (gI (sI (sI w 57 x1.toNatClampNeg (gI w 31 x1.toNatClampNeg)) 58 x1.toNatClampNeg (gI (sI w 57 x1.toNatClampNeg (gI w 31 x1.toNatClampNeg)) 32 x1.toNatClampNeg)) 33 x1.toNatClampNeg)) 34 x1.toNatClampNeg)) 61 x1.toNatClampNeg (gI (sI (sI (sI (sI w 57 x1.toNatClampNeg (gI w 31 x1.toNatClampNeg)) 58 x1.toNatClampNeg (gI (sI w 57 x1.toNatClampNeg (gI w 31 x1.toNatClampNeg)) 32 x1.toNatClampNeg)) 59 x1.toNatClampNeg (gI (sI (sI w 57 x1.toNatClampNeg (gI w 31 x1.toNatClampNeg)) 58 x1.toNatClampNeg (gI (sI w 57 x1.toNatClampNeg (gI w 31 x1.toNatClampNeg)) 32 x1.toNatClampNeg)) 33 x1.toNatClampNeg)) 60 x1.toNatClampNeg (gI (sI (sI (sI w 57 x1.toNatClampNeg (gI w 31 x1.toNatClampNeg)) 58 x1.toNatClampNeg (gI (sI w 57 x1.toNatClampNeg (gI w 31 x1.toNatClampNeg)) 32 x1.toNatClampNeg)) 59 x1.toNatClampNeg (gI (sI (sI w 57 x1.toNatClampNeg (gI w 31 x1.toNatClampNeg)) 58 x1.toNatClampNeg (gI (sI w 57 x1.toNatClampNeg (gI w 31 x1.toNatClampNeg)) 32 x1.toNatClampNeg)) 33 x1.toNatClampNeg)) 34 x1.toNatClampNeg)) 35 x1.toNatClampNeg)) 36 x1.toNatClampNeg)) 63 x1.toNatClampNeg (gI (sI (sI (sI (sI (sI (sI w 57 x1.toNatClampNeg (gI w 31 x1.toNatClampNeg)) 58 x1.toNatClampNeg (gI (sI w 57 x1.toNatClampNeg (gI w 31 x1.toNatClampNeg)) 32 x1.toNatClampNeg)) 59 x1.toNatClampNeg (gI (sI (sI w 57 x1.toNatClampNeg (gI w 31 x1.toNatClampNeg)) 58 x1.toNatClampNeg (gI (sI w 57 x1.toNatClampNeg (gI w 31 x1.toNatClampNeg)) 32 x1.toNatClampNeg)) 33 x1.toNatClampNeg)) 60 x1.toNatClampNeg (gI (sI (sI (sI w 57 x1.toNatClampNeg (gI w 31 x1.toNatClampNeg)) 58 x1.toNatClampNeg (gI (sI w 57 x1.toNatClampNeg (gI w 31 x1.toNatClampNeg)) 32 x1.toNatClampNeg)) 59 x1.toNatClampNeg (gI (sI (sI w 57 x1.toNatClampNeg (gI w 31 x1.toNatClampNeg)) 58 x1.toNatClampNeg (gI (sI w 57 x1.toNatClampNeg (gI w 31 x1.toNatClampNeg)) 32 x1.toNatClampNeg)) 33 x1.toNatClampNeg)) 34 x1.toNatClampNeg)) 61 x1.toNatClampNeg (gI (sI (sI (sI (sI w 57 x1.toNatClampNeg (gI w 31 x1.toNatClampNeg)) 58 x1.toNatClampNeg (gI (sI w 57 x1.toNatClampNeg (gI w 31 x1.toNatClampNeg)) 32 x1.toNatClampNeg)) 59 x1.toNatClampNeg (gI (sI (sI w 57 x1.toNatClampNeg (gI w 31 x1.toNatClampNeg)) 58 x1.toNatClampNeg (gI (sI w 57 x1.toNatClampNeg (gI w 31 x1.toNatClampNeg)) 32 x1.toNatClampNeg)) 33 x1.toNatClampNeg)) 60 x1.toNatClampNeg (gI (sI (sI (sI w 57 x1.toNatClampNeg (gI w 31 x1.toNatClampNeg)) 58 x1.toNatClampNeg (gI (sI w 57 x1.toNatClampNeg (gI w 31 x1.toNatClampNeg)) 32 x1.toNatClampNeg)) 59 x1.toNatClampNeg (gI (sI (sI w 57 x1.toNatClampNeg (gI w 31 x1.toNatClampNeg)) 58 x1.toNatClampNeg (gI (sI w 57 x1.toNatClampNeg (gI w 31 x1.toNatClampNeg)) 32 x1.toNatClampNeg)) 33 x1.toNatClampNeg)) 34 x1.toNatClampNeg)) 35 x1.toNatClampNeg)) 62 x1.toNatClampNeg (gI (sI (sI (sI (sI (sI w 57 x1.toNatClampNeg (gI w 31 x1.toNatClampNeg)) 58 x1.toNatClampNeg (gI (sI w 57 x1.toNatClampNeg (gI w 31 x1.toNatClampNeg)) 32 x1.toNatClampNeg)) 59 x1.toNatClampNeg (gI (sI (sI w 57 x1.toNatClampNeg (gI w 31 x1.toNatClampNeg)) 58 x1.toNatClampNeg (gI (sI w 57 x1.toNatClampNeg (gI w 31 x1.toNatClampNeg)) 32 x1.toNatClampNeg)) 33 x1.toNatClampNeg)) 60 x1.toNatClampNeg (gI (sI (sI (sI w 57 x1.toNatClampNeg (gI w 31 x1.toNatClampNeg)) 58 x1.toNatClampNeg (gI (sI w 57 x1.toNatClampNeg (gI w 31 x1.toNatClampNeg)) 32 x1.toNatClampNeg)) 59 x1.toNatClampNeg (gI (sI (sI w 57 x1.toNatClampNeg (gI w 31 x1.toNatClampNeg)) 58 x1.toNatClampNeg (gI (sI w 57 x1.toNatClampNeg (gI w 31 x1.toNatClampNeg)) 32 x1.toNatClampNeg)) 33 x1.toNatClampNeg)) 34 x1.toNatClampNeg)) 61 x1.toNatClampNeg (gI (sI (sI (sI (sI w 57 x1.toNatClampNeg (gI w 31 x1.toNatClampNeg)) 58 x1.toNatClampNeg (gI (sI w 57 x1.toNatClampNeg (gI w 31 x1.toNatClampNeg)) 32 x1.toNatClampNeg)) 59 x1.toNatClampNeg (gI (sI (sI w 57 x1.toNatClampNeg (gI w 31 x1.toNatClampNeg)) 58 x1.toNatClampNeg (gI (sI w 57 x1.toNatClampNeg (gI w 31 x1.toNatClampNeg)) 32 x1.toNatClampNeg)) 33 x1.toNatClampNeg)) 60 x1.toNatClampNeg (gI (sI (sI (sI w 57 x1.toNatClampNeg (gI w 31 x1.toNatClampNeg)) 58 x1.toNatClampNeg (gI (sI w 57 x1.toNatClampNeg (gI w 31 x1.toNatClampNeg)) 32 x1.toNatClampNeg)) 59 x1.toNatClampNeg (gI (sI (sI w 57 x1.toNatClampNeg (gI w 31 x1.toNatClampNeg)) 58 x1.toNatClampNeg (gI (sI w 57 x1.toNatClampNeg (gI w 31 x1.toNatClampNeg)) 32 x1.toNatClampNeg)) 33 x1.toNatClampNeg)) 34 x1.toNatClampNeg)) 35 x1.toNatClampNeg)) 36 x1.toNatClampNeg)) 37 x1.toNatClampNeg)) 65 x1.toNatClampNeg (vp_nar .boolean (gI (sI (sI (sI (sI (sI (sI (sI w 57 x1.toNatClampNeg (gI w 31 x1.toNatClampNeg)) 58 x1.toNatClampNeg (gI (sI w 57 x1.toNatClampNeg (gI w 31 x1.toNatClampNeg)) 32 x1.toNatClampNeg)) 59 x1.toNatClampNeg (gI (sI (sI w 57 x1.toNatClampNeg (gI w 31 x1.toNatClampNeg)) 58 x1.toNatClampNeg (gI (sI w 57 x1.toNatClampNeg (gI w 31 x1.toNatClampNeg)) 32 x1.toNatClampNeg)) 33 x1.toNatClampNeg)) 60 x1.toNatClampNeg (gI (sI (sI (sI w 57 x1.toNatClampNeg (gI w 31 x1.toNatClampNeg)) 58 x1.toNatClampNeg (gI (sI w 57 x1.toNatClampNeg (gI w 31 x1.toNatClampNeg)) 32 x1.toNatClampNeg)) 59 x1.toNatClampNeg (gI (sI (sI w 57 x1.toNatClampNeg (gI w 31 x1.toNatClampNeg)) 58 x1.toNatClampNeg (gI (sI w 57 x1.toNatClampNeg (gI w 31 x1.toNatClampNeg)) 32 x1.toNatClampNeg)) 33 x1.toNatClampNeg)) 34 x1.toNatClampNeg)) 61 x1.toNatClampNeg (gI (sI (sI (sI (sI w 57 x1.toNatClampNeg (gI w 31 x1.toNatClampNeg)) 58 x1.toNatClampNeg (gI (sI w 57 x1.toNatClampNeg (gI w 31 x1.toNatClampNeg)) 32 x1.toNatClampNeg)) 59 x1.toNatClampNeg (gI (sI (sI w 57 x1.toNatClampNeg (gI w 31 x1.toNatClampNeg)) 58 x1.toNatClampNeg (gI (sI w 57 x1.toNatClampNeg (gI w 31 x1.toNatClampNeg)) 32 x1.toNatClampNeg)) 33 x1.toNatClampNeg)) 60 x1.toNatClampNeg (gI (sI (sI (sI w 57 x1.toNatClampNeg (gI w 31 x1.toNatClampNeg)) 58 x1.toNatClampNeg (gI (sI w 57 x1.toNatClampNeg (gI w 31 x1.toNatClampNeg)) 32 x1.toNatClampNeg)) 59 x1.toNatClampNeg (gI (sI (sI w 57 x1.toNatClampNeg (gI w 31 x1.toNatClampNeg)) 58 x1.toNatClampNeg (gI (sI w 57 x1.toNatClampNeg (gI w 31 x1.toNatClampNeg)) 32 x1.toNatClampNeg)) 33 x1.toNatClampNeg)) 34 x1.toNatClampNeg)) 35 x1.toNatClampNeg)) 62 x1.toNatClampNeg (gI (sI (sI (sI (sI (sI w 57 x1.toNatClampNeg (gI w 31 x1.toNatClampNeg)) 58 x1.toNatClampNeg (gI (sI w 57 x1.toNatClampNeg (gI w 31 x1.toNatClampNeg)) 32 x1.toNatClampNeg)) 59 x1.toNatClampNeg (gI (sI (sI w 57 x1.toNatClampNeg (gI w 31 x1.toNatClampNeg)) 58 x1.toNatClampNeg (gI (sI w 57 x1.toNatClampNeg (gI w 31 x1.toNatClampNeg)) 32 x1.toNatClampNeg)) 33 x1.toNatClampNeg)) 60 x1.toNatClampNeg (gI (sI (sI (sI w 57 x1.toNatClampNeg (gI w 31 x1.toNatClampNeg)) 58 x1.toNatClampNeg (gI (sI w 57 x1.toNatClampNeg (gI w 31 x1.toNatClampNeg)) 32 x1.toNatClampNeg)) 59 x1.toNatClampNeg (gI (sI (sI w 57 x1.toNatClampNeg (gI w 31 x1.toNatClampNeg)) 58 x1.toNatClampNeg (gI (sI w 57 x1.toNatClampNeg (gI w 31 x1.toNatClampNeg)) 32 x1.toNatClampNeg)) 33 x1.toNatClampNeg)) 34 x1.toNatClampNeg)) 61 x1.toNatClampNeg (gI (sI (sI (sI (sI w 57 x1.toNatClampNeg (gI w 31 x1.toNatClampNeg)) 58 x1.toNatClampNeg (gI (sI w 57 x1.toNatClampNeg (gI w 31 x1.toNatClampNeg)) 32 x1.toNatClampNeg)) 59 x1.toNatClampNeg (gI (sI (sI w 57 x1.toNatClampNeg (gI w 31 x1.toNatClampNeg)) 58 x1.toNatClampNeg (gI (sI w 57 x1.toNatClampNeg (gI w 31 x1.toNatClampNeg)) 32 x1.toNatClampNeg)) 33 x1.toNatClampNeg)) 60 x1.toNatClampNeg (gI (sI (sI (sI w 57 x1.toNatClampNeg (gI w 31 x1.toNatClampNeg)) 58 x1.toNatClampNeg (gI (sI w 57 x1.toNatClampNeg (gI w 31 x1.toNatClampNeg)) 32 x1.toNatClampNeg)) 59 x1.toNatClampNeg (gI (sI (sI w 57 x1.toNatClampNeg (gI w 31 x1.toNatClampNeg)) 58 x1.toNatClampNeg (gI (sI w 57 x1.toNatClampNeg (gI w 31 x1.toNatClampNeg)) 32 x1.toNatClampNeg)) 33 x1.toNatClampNeg)) 34 x1.toNatClampNeg)) 35 x1.toNatClampNeg)) 36 x1.toNatClampNeg)) 63 x1.toNatClampNeg (gI (sI (sI (sI (sI (sI (sI w 57 x1.toNatClampNeg (gI w 31 x1.toNatClampNeg)) 58 x1.toNatClampNeg (gI (sI w 57 x1.toNatClampNeg (gI w 31 x1.toNatClampNeg)) 32 x1.toNatClampNeg)) 59 x1.toNatClampNeg (gI (sI (sI w 57 x1.toNatClampNeg (gI w 31 x1.toNatClampNeg)) 58 x1.toNatClampNeg (gI (sI w 57 x1.toNatClampNeg (gI w 31 x1.toNatClampNeg)) 32 x1.toNatClampNeg)) 33 x1.toNatClampNeg)) 60 x1.toNatClampNeg (gI (sI (sI (sI w 57 x1.toNatClampNeg (gI w 31 x1.toNatClampNeg)) 58 x1.toNatClampNeg (gI (sI w 57 x1.toNatClampNeg (gI w 31 x1.toNatClampNeg)) 32 x1.toNatClampNeg)) 59 x1.toNatClampNeg (gI (sI (sI w 57 x1.toNatClampNeg (gI w 31 x1.toNatClampNeg)) 58 x1.toNatClampNeg (gI (sI w 57 x1.toNatClampNeg (gI w 31 x1.toNatClampNeg)) 32 x1.toNatClampNeg)) 33 x1.toNatClampNeg)) 34 x1.toNatClampNeg)) 61 x1.toNatClampNeg (gI (sI (sI (sI (sI w 57 x1.toNatClampNeg (gI w 31 x1.toNatClampNeg)) 58 x1.toNatClampNeg (gI (sI w 57 x1.toNatClampNeg (gI w 31 x1.toNatClampNeg)) 32 x1.toNatClampNeg)) 59 x1.toNatClampNeg (gI (sI (sI w 57 x1.toNatClampNeg (gI w 31 x1.toNatClampNeg)) 58 x1.toNatClampNeg (gI (sI w 57 x1.toNatClampNeg (gI w 31 x1.toNatClampNeg)) 32 x1.toNatClampNeg)) 33 x1.toNatClampNeg)) 60 x1.toNatClampNeg (gI (sI (sI (sI w 57 x1.toNatClampNeg (gI w 31 x1.toNatClampNeg)) 58 x1.toNatClampNeg (gI (sI w 57 x1.toNatClampNeg (gI w 31 x1.toNatClampNeg)) 32 x1.toNatClampNeg)) 59 x1.toNatClampNeg (gI (sI (sI w 57 x1.toNatClampNeg (gI w 31 x1.toNatClampNeg)) 58 x1.toNatClampNeg (gI (sI w 57 x1.toNatClampNeg (gI w 31 x1.toNatClampNeg)) 32 x1.toNatClampNeg)) 33 x1.toNatClampNeg)) 34 x1.toNatClampNeg)) 35 x1.toNatClampNeg)) 62 x1.toNatClampNeg (gI (sI (sI (sI (sI (sI w 57 x1.toNatClampNeg (gI w 31 x1.toNatClampNeg)) 58 x1.toNatClampNeg (gI (sI w 57 x1.toNatClampNeg (gI w 31 x1.toNatClampNeg)) 32 x1.toNatClampNeg)) 59 x1.toNatClampNeg (gI (sI (sI w 57 x1.toNatClampNeg (gI w 31 x1.toNatClampNeg)) 58 x1.toNatClampNeg (gI (sI w 57 x1.toNatClampNeg (gI w 31 x1.toNatClampNeg)) 32 x1.toNatClampNeg)) 33 x1.toNatClampNeg)) 60 x1.toNatClampNeg (gI (sI (sI (sI w 57 x1.toNatClampNeg (gI w 31 x1.toNatClampNeg)) 58 x1.toNatClampNeg (gI (sI w 57 x1.toNatClampNeg (gI w 31 x1.toNatClampNeg)) 32 x1.toNatClampNeg)) 59 x1.toNatClampNeg (gI (sI (sI w 57 x1.toNatClampNeg (gI w 31 x1.toNatClampNeg)) 58 x1.toNatClampNeg (gI (sI w 57 x1.toNatClampNeg (gI w 31 x1.toNatClampNeg)) 32 x1.toNatClampNeg)) 33 x1.toNatClampNeg)) 34 x1.toNatClampNeg)) 61 x1.toNatClampNeg (gI (sI (sI (sI (sI w 57 x1.toNatClampNeg (gI w 31 x1.toNatClampNeg)) 58 x1.toNatClampNeg (gI (sI w 57 x1.toNatClampNeg (gI w 31 x1.toNatClampNeg)) 32 x1.toNatClampNeg)) 59 x1.toNatClampNeg (gI (sI (sI w 57 x1.toNatClampNeg (gI w 31 x1.toNatClampNeg)) 58 x1.toNatClampNeg (gI (sI w 57 x1.toNatClampNeg (gI w 31 x1.toNatClampNeg)) 32 x1.toNatClampNeg)) 33 x1.toNatClampNeg)) 60 x1.toNatClampNeg (gI (sI (sI (sI w 57 x1.toNatClampNeg (gI w 31 x1.toNatClampNeg)) 58 x1.toNatClampNeg (gI (sI w 57 x1.toNatClampNeg (gI w 31 x1.toNatClampNeg)) 32 x1.toNatClampNeg)) 59 x1.toNatClampNeg (gI (sI (sI w 57 x1.toNatClampNeg (gI w 31 x1.toNatClampNeg)) 58 x1.toNatClampNeg (gI (sI w 57 x1.toNatClampNeg (gI w 31 x1.toNatClampNeg)) 32 x1.toNatClampNeg)) 33 x1.toNatClampNeg)) 34 x1.toNatClampNeg)) 35 x1.toNatClampNeg)) 36 x1.toNatClampNeg)) 37 x1.toNatClampNeg)) 38 x1.toNatClampNeg)))
      else none
def f_X3_save (d : Nat) (w : Wd) : Option (Wd × Int32) :=
  match d with
  | 0 => none
  | d + 1 =>
    b_X3_save_7 d FU 0 (sI w 30 42 1)
theorem sb_X3_save_7 {G : Gx} (hG : GW G) {M : Mx} (hl : (mL M).stackTraces = false) {w0 : Wd} {d : Nat} (K : Cx (G, true, M, 2, w0) cX3_save "IntervalTreeModel" (d + 1)) (hr : (mH M).sig.returnType = some .int) (hnm : (mH M).name = yX3_save.name) (hxt : ∀ x ∈ (mC M).exceptionTable.toList, False) (hnd : (mS M).methodNamed? yX3_save = some (mM M)) : ∀ (n : Nat), ∀ (x1 : Int32) (w : Wd) (fx1 : Bool), Jf (G, true, M, 2, w0) (rrV G pI) (b_X3_save_7 d n x1 w) w 7 [some (aR 3 (some 30)), some (aB fx1 x1)] [] := by
  intro n
  induction n with
  | zero => intros; exact j_none
  | succ n ih =>
    intro x1 w fx1
    refine j_iload_n K dX3_save_7 rfl ?_
    refine j_sipush (x := 500) K dX3_save_8 (by decide +kernel) ?_
    refine j_icmp_ge 116 K dX3_save_11 (by decide) ?_ ?_
    · refine j_aload_n K dX3_save_116 rfl ?_
      refine j_getA (k := 50) 48 K dX3_save_117 rfl rfl rfl q1306 rfl rfl (by decide) rfl rfl rfl ?_
      refine j_iconstZ K dX3_save_120 rfl (Or.inl rfl) ?_
      refine j_aload_n K dX3_save_121 rfl ?_
      refine j_getI (k := 9) K dX3_save_122 rfl rfl rfl q1265 rfl rfl rfl ?_
      refine j_ib (fun hi1 => ?_)
      refine j_ias K dX3_save_125 rfl (fxLen2 48 rfl rfl) hi1 ?_
      refine j_aload_n K dX3_save_126 rfl ?_
      refine j_getA (k := 50) 48 K dX3_save_127 rfl rfl rfl q1306 rfl rfl (by decide) rfl rfl rfl ?_
      refine j_iconstZ K dX3_save_130 rfl (Or.inr rfl) ?_
      refine j_aload_n K dX3_save_131 rfl ?_
      refine j_getI (k := 10) K dX3_save_132 rfl rfl rfl q1266 rfl rfl rfl ?_
      refine j_ib (fun hi2 => ?_)
      refine j_ias K dX3_save_135 rfl (fxLen2 48 rfl rfl) hi2 ?_
      refine j_aload_n K dX3_save_136 rfl ?_
      refine j_getA (k := 50) 48 K dX3_save_137 rfl rfl rfl q1306 rfl rfl (by decide) rfl rfl rfl ?_
      refine j_iconst (x := 2) K dX3_save_140 rfl ?_
      refine j_aload_n K dX3_save_141 rfl ?_
      refine j_getI (k := 11) K dX3_save_142 rfl rfl rfl q1267 rfl rfl rfl ?_
      refine j_ib (fun hi3 => ?_)
      refine j_ias K dX3_save_145 rfl (fxLen2 48 rfl rfl) hi3 ?_
      refine j_aload_n K dX3_save_146 rfl ?_
      refine j_getA (k := 50) 48 K dX3_save_147 rfl rfl rfl q1306 rfl rfl (by decide) rfl rfl rfl ?_
      refine j_iconst (x := 3) K dX3_save_150 rfl ?_
      refine j_aload_n K dX3_save_151 rfl ?_
      refine j_getI (k := 12) K dX3_save_152 rfl rfl rfl q1268 rfl rfl rfl ?_
      refine j_ib (fun hi4 => ?_)
      refine j_ias K dX3_save_155 rfl (fxLen2 48 rfl rfl) hi4 ?_
      refine j_aload_n K dX3_save_156 rfl ?_
      refine j_getA (k := 50) 48 K dX3_save_157 rfl rfl rfl q1306 rfl rfl (by decide) rfl rfl rfl ?_
      refine j_iconst (x := 4) K dX3_save_160 rfl ?_
      refine j_aload_n K dX3_save_161 rfl ?_
      refine j_getI (k := 13) K dX3_save_162 rfl rfl rfl q1269 rfl rfl rfl ?_
      refine j_ib (fun hi5 => ?_)
      refine j_ias K dX3_save_165 rfl (fxLen2 48 rfl rfl) hi5 ?_
      refine j_aload_n K dX3_save_166 rfl ?_
      refine j_getA (k := 50) 48 K dX3_save_167 rfl rfl rfl q1306 rfl rfl (by decide) rfl rfl rfl ?_
      refine j_iconst (x := 5) K dX3_save_170 rfl ?_
      refine j_aload_n K dX3_save_171 rfl ?_
      refine j_getI (k := 14) K dX3_save_172 rfl rfl rfl q1270 rfl rfl rfl ?_
      refine j_ib (fun hi6 => ?_)
      refine j_ias K dX3_save_175 rfl (fxLen2 48 rfl rfl) hi6 ?_
      refine j_aload_n K dX3_save_176 rfl ?_
      refine j_getA (k := 50) 48 K dX3_save_177 rfl rfl rfl q1306 rfl rfl (by decide) rfl rfl rfl ?_
      refine j_bipush (x := 6) K dX3_save_180 (by decide +kernel) ?_
      refine j_aload_n K dX3_save_182 rfl ?_
      refine j_getI (k := 15) K dX3_save_183 rfl rfl rfl q1271 rfl rfl rfl ?_
      refine j_ib (fun hi7 => ?_)
      refine j_ias K dX3_save_186 rfl (fxLen2 48 rfl rfl) hi7 ?_
      refine j_aload_n K dX3_save_187 rfl ?_
      refine j_callV _ K (sim_X3_live hG hl d (sI (sI (sI (sI (sI (sI (sI w 64 (Int32.toNatClampNeg 0) (gI w 30 9)) 64 (Int32.toNatClampNeg 1) (gI (sI w 64 (Int32.toNatClampNeg 0) (gI w 30 9)) 30 10)) 64 (Int32.toNatClampNeg 2) (gI (sI (sI w 64 (Int32.toNatClampNeg 0) (gI w 30 9)) 64 (Int32.toNatClampNeg 1) (gI (sI w 64 (Int32.toNatClampNeg 0) (gI w 30 9)) 30 10)) 30 11)) 64 (Int32.toNatClampNeg 3) (gI (sI (sI (sI w 64 (Int32.toNatClampNeg 0) (gI w 30 9)) 64 (Int32.toNatClampNeg 1) (gI (sI w 64 (Int32.toNatClampNeg 0) (gI w 30 9)) 30 10)) 64 (Int32.toNatClampNeg 2) (gI (sI (sI w 64 (Int32.toNatClampNeg 0) (gI w 30 9)) 64 (Int32.toNatClampNeg 1) (gI (sI w 64 (Int32.toNatClampNeg 0) (gI w 30 9)) 30 10)) 30 11)) 30 12)) 64 (Int32.toNatClampNeg 4) (gI (sI (sI (sI (sI w 64 (Int32.toNatClampNeg 0) (gI w 30 9)) 64 (Int32.toNatClampNeg 1) (gI (sI w 64 (Int32.toNatClampNeg 0) (gI w 30 9)) 30 10)) 64 (Int32.toNatClampNeg 2) (gI (sI (sI w 64 (Int32.toNatClampNeg 0) (gI w 30 9)) 64 (Int32.toNatClampNeg 1) (gI (sI w 64 (Int32.toNatClampNeg 0) (gI w 30 9)) 30 10)) 30 11)) 64 (Int32.toNatClampNeg 3) (gI (sI (sI (sI w 64 (Int32.toNatClampNeg 0) (gI w 30 9)) 64 (Int32.toNatClampNeg 1) (gI (sI w 64 (Int32.toNatClampNeg 0) (gI w 30 9)) 30 10)) 64 (Int32.toNatClampNeg 2) (gI (sI (sI w 64 (Int32.toNatClampNeg 0) (gI w 30 9)) 64 (Int32.toNatClampNeg 1) (gI (sI w 64 (Int32.toNatClampNeg 0) (gI w 30 9)) 30 10)) 30 11)) 30 12)) 30 13)) 64 (Int32.toNatClampNeg 5) (gI (sI (sI (sI (sI (sI w 64 (Int32.toNatClampNeg 0) (gI w 30 9)) 64 (Int32.toNatClampNeg 1) (gI (sI w 64 (Int32.toNatClampNeg 0) (gI w 30 9)) 30 10)) 64 (Int32.toNatClampNeg 2) (gI (sI (sI w 64 (Int32.toNatClampNeg 0) (gI w 30 9)) 64 (Int32.toNatClampNeg 1) (gI (sI w 64 (Int32.toNatClampNeg 0) (gI w 30 9)) 30 10)) 30 11)) 64 (Int32.toNatClampNeg 3) (gI (sI (sI (sI w 64 (Int32.toNatClampNeg 0) (gI w 30 9)) 64 (Int32.toNatClampNeg 1) (gI (sI w 64 (Int32.toNatClampNeg 0) (gI w 30 9)) 30 10)) 64 (Int32.toNatClampNeg 2) (gI (sI (sI w 64 (Int32.toNatClampNeg 0) (gI w 30 9)) 64 (Int32.toNatClampNeg 1) (gI (sI w 64 (Int32.toNatClampNeg 0) (gI w 30 9)) 30 10)) 30 11)) 30 12)) 64 (Int32.toNatClampNeg 4) (gI (sI (sI (sI (sI w 64 (Int32.toNatClampNeg 0) (gI w 30 9)) 64 (Int32.toNatClampNeg 1) (gI (sI w 64 (Int32.toNatClampNeg 0) (gI w 30 9)) 30 10)) 64 (Int32.toNatClampNeg 2) (gI (sI (sI w 64 (Int32.toNatClampNeg 0) (gI w 30 9)) 64 (Int32.toNatClampNeg 1) (gI (sI w 64 (Int32.toNatClampNeg 0) (gI w 30 9)) 30 10)) 30 11)) 64 (Int32.toNatClampNeg 3) (gI (sI (sI (sI w 64 (Int32.toNatClampNeg 0) (gI w 30 9)) 64 (Int32.toNatClampNeg 1) (gI (sI w 64 (Int32.toNatClampNeg 0) (gI w 30 9)) 30 10)) 64 (Int32.toNatClampNeg 2) (gI (sI (sI w 64 (Int32.toNatClampNeg 0) (gI w 30 9)) 64 (Int32.toNatClampNeg 1) (gI (sI w 64 (Int32.toNatClampNeg 0) (gI w 30 9)) 30 10)) 30 11)) 30 12)) 30 13)) 30 14)) 64 (Int32.toNatClampNeg 6) (gI (sI (sI (sI (sI (sI (sI w 64 (Int32.toNatClampNeg 0) (gI w 30 9)) 64 (Int32.toNatClampNeg 1) (gI (sI w 64 (Int32.toNatClampNeg 0) (gI w 30 9)) 30 10)) 64 (Int32.toNatClampNeg 2) (gI (sI (sI w 64 (Int32.toNatClampNeg 0) (gI w 30 9)) 64 (Int32.toNatClampNeg 1) (gI (sI w 64 (Int32.toNatClampNeg 0) (gI w 30 9)) 30 10)) 30 11)) 64 (Int32.toNatClampNeg 3) (gI (sI (sI (sI w 64 (Int32.toNatClampNeg 0) (gI w 30 9)) 64 (Int32.toNatClampNeg 1) (gI (sI w 64 (Int32.toNatClampNeg 0) (gI w 30 9)) 30 10)) 64 (Int32.toNatClampNeg 2) (gI (sI (sI w 64 (Int32.toNatClampNeg 0) (gI w 30 9)) 64 (Int32.toNatClampNeg 1) (gI (sI w 64 (Int32.toNatClampNeg 0) (gI w 30 9)) 30 10)) 30 11)) 30 12)) 64 (Int32.toNatClampNeg 4) (gI (sI (sI (sI (sI w 64 (Int32.toNatClampNeg 0) (gI w 30 9)) 64 (Int32.toNatClampNeg 1) (gI (sI w 64 (Int32.toNatClampNeg 0) (gI w 30 9)) 30 10)) 64 (Int32.toNatClampNeg 2) (gI (sI (sI w 64 (Int32.toNatClampNeg 0) (gI w 30 9)) 64 (Int32.toNatClampNeg 1) (gI (sI w 64 (Int32.toNatClampNeg 0) (gI w 30 9)) 30 10)) 30 11)) 64 (Int32.toNatClampNeg 3) (gI (sI (sI (sI w 64 (Int32.toNatClampNeg 0) (gI w 30 9)) 64 (Int32.toNatClampNeg 1) (gI (sI w 64 (Int32.toNatClampNeg 0) (gI w 30 9)) 30 10)) 64 (Int32.toNatClampNeg 2) (gI (sI (sI w 64 (Int32.toNatClampNeg 0) (gI w 30 9)) 64 (Int32.toNatClampNeg 1) (gI (sI w 64 (Int32.toNatClampNeg 0) (gI w 30 9)) 30 10)) 30 11)) 30 12)) 30 13)) 64 (Int32.toNatClampNeg 5) (gI (sI (sI (sI (sI (sI w 64 (Int32.toNatClampNeg 0) (gI w 30 9)) 64 (Int32.toNatClampNeg 1) (gI (sI w 64 (Int32.toNatClampNeg 0) (gI w 30 9)) 30 10)) 64 (Int32.toNatClampNeg 2) (gI (sI (sI w 64 (Int32.toNatClampNeg 0) (gI w 30 9)) 64 (Int32.toNatClampNeg 1) (gI (sI w 64 (Int32.toNatClampNeg 0) (gI w 30 9)) 30 10)) 30 11)) 64 (Int32.toNatClampNeg 3) (gI (sI (sI (sI w 64 (Int32.toNatClampNeg 0) (gI w 30 9)) 64 (Int32.toNatClampNeg 1) (gI (sI w 64 (Int32.toNatClampNeg 0) (gI w 30 9)) 30 10)) 64 (Int32.toNatClampNeg 2) (gI (sI (sI w 64 (Int32.toNatClampNeg 0) (gI w 30 9)) 64 (Int32.toNatClampNeg 1) (gI (sI w 64 (Int32.toNatClampNeg 0) (gI w 30 9)) 30 10)) 30 11)) 30 12)) 64 (Int32.toNatClampNeg 4) (gI (sI (sI (sI (sI w 64 (Int32.toNatClampNeg 0) (gI w 30 9)) 64 (Int32.toNatClampNeg 1) (gI (sI w 64 (Int32.toNatClampNeg 0) (gI w 30 9)) 30 10)) 64 (Int32.toNatClampNeg 2) (gI (sI (sI w 64 (Int32.toNatClampNeg 0) (gI w 30 9)) 64 (Int32.toNatClampNeg 1) (gI (sI w 64 (Int32.toNatClampNeg 0) (gI w 30 9)) 30 10)) 30 11)) 64 (Int32.toNatClampNeg 3) (gI (sI (sI (sI w 64 (Int32.toNatClampNeg 0) (gI w 30 9)) 64 (Int32.toNatClampNeg 1) (gI (sI w 64 (Int32.toNatClampNeg 0) (gI w 30 9)) 30 10)) 64 (Int32.toNatClampNeg 2) (gI (sI (sI w 64 (Int32.toNatClampNeg 0) (gI w 30 9)) 64 (Int32.toNatClampNeg 1) (gI (sI w 64 (Int32.toNatClampNeg 0) (gI w 30 9)) 30 10)) 30 11)) 30 12)) 30 13)) 30 14)) 30 15))) dX3_save_188 rfl rfl q1472 q1474 qs63 q95 q1475 pm_X3_live rfl rfl rfl rfl rfl (fun r8 _ => ?_)
      exact j_iret K hr dX3_save_191
    · refine j_aload_n K dX3_save_14 rfl ?_
      refine j_getA (k := 43) 41 K dX3_save_15 rfl rfl rfl q1299 rfl rfl (by decide) rfl rfl rfl ?_
      refine j_iload_n K dX3_save_18 rfl ?_
      refine j_aload_n K dX3_save_19 rfl ?_
      refine j_getA (k := 1) 15 K dX3_save_20 rfl rfl rfl q1257 rfl rfl (by decide) rfl rfl rfl ?_
      refine j_iload_n K dX3_save_23 rfl ?_
      refine j_ib (fun hi9 => ?_)
      refine j_ial K dX3_save_24 rfl (fxLen 15 rfl rfl) hi9 ?_
      refine j_ias K dX3_save_25 rfl (fxLen2 41 rfl rfl) hi9 ?_
      refine j_aload_n K dX3_save_26 rfl ?_
      refine j_getA (k := 44) 42 K dX3_save_27 rfl rfl rfl q1300 rfl rfl (by decide) rfl rfl rfl ?_
      refine j_iload_n K dX3_save_30 rfl ?_
      refine j_aload_n K dX3_save_31 rfl ?_
      refine j_getA (k := 2) 16 K dX3_save_32 rfl rfl rfl q1258 rfl rfl (by decide) rfl rfl rfl ?_
      refine j_iload_n K dX3_save_35 rfl ?_
      refine j_ial K dX3_save_36 rfl (fxLen 16 rfl rfl) hi9 ?_
      refine j_ias K dX3_save_37 rfl (fxLen2 42 rfl rfl) hi9 ?_
      refine j_aload_n K dX3_save_38 rfl ?_
      refine j_getA (k := 45) 43 K dX3_save_39 rfl rfl rfl q1301 rfl rfl (by decide) rfl rfl rfl ?_
      refine j_iload_n K dX3_save_42 rfl ?_
      refine j_aload_n K dX3_save_43 rfl ?_
      refine j_getA (k := 3) 17 K dX3_save_44 rfl rfl rfl q1259 rfl rfl (by decide) rfl rfl rfl ?_
      refine j_iload_n K dX3_save_47 rfl ?_
      refine j_ial K dX3_save_48 rfl (fxLen 17 rfl rfl) hi9 ?_
      refine j_ias K dX3_save_49 rfl (fxLen2 43 rfl rfl) hi9 ?_
      refine j_aload_n K dX3_save_50 rfl ?_
      refine j_getA (k := 46) 44 K dX3_save_51 rfl rfl rfl q1302 rfl rfl (by decide) rfl rfl rfl ?_
      refine j_iload_n K dX3_save_54 rfl ?_
      refine j_aload_n K dX3_save_55 rfl ?_
      refine j_getA (k := 4) 18 K dX3_save_56 rfl rfl rfl q1260 rfl rfl (by decide) rfl rfl rfl ?_
      refine j_iload_n K dX3_save_59 rfl ?_
      refine j_ial K dX3_save_60 rfl (fxLen 18 rfl rfl) hi9 ?_
      refine j_ias K dX3_save_61 rfl (fxLen2 44 rfl rfl) hi9 ?_
      refine j_aload_n K dX3_save_62 rfl ?_
      refine j_getA (k := 47) 45 K dX3_save_63 rfl rfl rfl q1303 rfl rfl (by decide) rfl rfl rfl ?_
      refine j_iload_n K dX3_save_66 rfl ?_
      refine j_aload_n K dX3_save_67 rfl ?_
      refine j_getA (k := 5) 19 K dX3_save_68 rfl rfl rfl q1261 rfl rfl (by decide) rfl rfl rfl ?_
      refine j_iload_n K dX3_save_71 rfl ?_
      refine j_ial K dX3_save_72 rfl (fxLen 19 rfl rfl) hi9 ?_
      refine j_ias K dX3_save_73 rfl (fxLen2 45 rfl rfl) hi9 ?_
      refine j_aload_n K dX3_save_74 rfl ?_
      refine j_getA (k := 48) 46 K dX3_save_75 rfl rfl rfl q1304 rfl rfl (by decide) rfl rfl rfl ?_
      refine j_iload_n K dX3_save_78 rfl ?_
      refine j_aload_n K dX3_save_79 rfl ?_
      refine j_getA (k := 6) 20 K dX3_save_80 rfl rfl rfl q1262 rfl rfl (by decide) rfl rfl rfl ?_
      refine j_iload_n K dX3_save_83 rfl ?_
      refine j_ial K dX3_save_84 rfl (fxLen 20 rfl rfl) hi9 ?_
      refine j_ias K dX3_save_85 rfl (fxLen2 46 rfl rfl) hi9 ?_
      refine j_aload_n K dX3_save_86 rfl ?_
      refine j_getA (k := 49) 47 K dX3_save_87 rfl rfl rfl q1305 rfl rfl (by decide) rfl rfl rfl ?_
      refine j_iload_n K dX3_save_90 rfl ?_
      refine j_aload_n K dX3_save_91 rfl ?_
      refine j_getA (k := 7) 21 K dX3_save_92 rfl rfl rfl q1263 rfl rfl (by decide) rfl rfl rfl ?_
      refine j_iload_n K dX3_save_95 rfl ?_
      refine j_ial K dX3_save_96 rfl (fxLen 21 rfl rfl) hi9 ?_
      refine j_ias K dX3_save_97 rfl (fxLen2 47 rfl rfl) hi9 ?_
      refine j_aload_n K dX3_save_98 rfl ?_
      refine j_getA (k := 51) 49 K dX3_save_99 rfl rfl rfl q1307 rfl rfl (by decide) rfl rfl rfl ?_
      refine j_iload_n K dX3_save_102 rfl ?_
      refine j_aload_n K dX3_save_103 rfl ?_
      refine j_getA (k := 8) 22 K dX3_save_104 rfl rfl rfl q1264 rfl rfl (by decide) rfl rfl rfl ?_
      refine j_iload_n K dX3_save_107 rfl ?_
      refine j_zal K dX3_save_108 rfl (fxLen 22 rfl rfl) hi9 ?_
      refine j_zas K dX3_save_109 rfl (fxLen2 49 rfl rfl) hi9 ?_
      refine j_iinc (y := 1) K dX3_save_110 rfl rfl rfl rfl ?_
      refine j_goto 7 K dX3_save_113 (by decide) ?_
      exact ih _ _ _
theorem sim_X3_save {G : Gx} (hG : GW G) {l : Launch} (hl : l.stackTraces = false) (d : Nat) (w : Wd) : Mt G true l yX3_save (ws_ yX3_save cX3_save 2 (some .int)) d (rrV G pI) [aR 3 (some 30)] w (f_X3_save d w) := by
  refine Mt.of (own := "IntervalTreeModel") hG hl (by decide +kernel) rfl rfl ?_
  intro M hM hr hnm hxt hnd K
  subst hM
  cases d with
  | zero => exact j_none
  | succ d =>
    refine j_aload_n K dX3_save_0 rfl ?_
    refine j_iconstZ K dX3_save_1 rfl (Or.inr rfl) ?_
    refine j_putZ (k := 42) K dX3_save_2 rfl rfl q1298 rfl (Or.inl rfl) rfl rfl rfl ?_
    refine j_iconstZ K dX3_save_5 rfl (Or.inl rfl) ?_
    refine j_istore_n K dX3_save_6 rfl rfl ?_
    exact sb_X3_save_7 hG hl K hr hnm hxt hnd FU _ _ _

theorem pm_X3_load : yX3_load.cls = RX3 ∧ yX3_load.cls ≠ "java/lang/invoke/MethodHandle" ∧ yX3_load.cls ≠ "java/lang/invoke/VarHandle" ∧ (parseMethodDescriptor yX3_load.desc).map (fun d => d.parameters.length) = some 0 := by decide +kernel
def b_X3_load_202 (d : Nat) : Nat → Int32 → Wd → Option (Wd × Int32)
  | 0, _, _ => none
  | n + 1, x1, w =>
    if 4 ≤ x1 then
      (f_X3_live d w).bind fun r8 =>
      some (r8.1, r8.2)
    else
      if ib x1 4 = true then
        b_X3_load_202 d n (x1 + 1) (sI w 54 x1.toNatClampNeg (vp_nar .boolean 0))
      else none
def b_X3_load_20 (d : Nat) : Nat → Int32 → Wd → Option (Wd × Int32)
  | 0, _, _ => none
  | n + 1, x1, w =>
    if 500 ≤ x1 then
      if ib 0 7 = true then
        if ib 1 7 = true then
          if ib 2 7 = true then
            if ib 3 7 = true then
              if ib 4 7 = true then
                if ib 5 7 = true then
                  if ib 6 7 = true then
                    b_X3_load_202 d FU 0 (sI (sI (sI (sI (sI (sI (sI w 30 9 (gI w 64 (Int32.toNatClampNeg 0))) 30 10 (gI (sI w 30 9 (gI w 64 (Int32.toNatClampNeg 0))) 64 (Int32.toNatClampNeg 1))) 30 11 (gI (sI (sI w 30 9 (gI w 64 (Int32.toNatClampNeg 0))) 30 10 (gI (sI w 30 9 (gI w 64 (Int32.toNatClampNeg 0))) 64 (Int32.toNatClampNeg 1))) 64 (Int32.toNatClampNeg 2))) 30 12 (gI (sI (sI (sI w 30 9 (gI w 64 (Int32.toNatClampNeg 0))) 30 10 (gI (sI w 30 9 (gI w 64 (Int32.toNatClampNeg 0))) 64 (Int32.toNatClampNeg 1))) 30 11 (gI (sI (sI w 30 9 (gI w 64 (Int32.toNatClampNeg 0))) 30 10 (gI (sI w 30 9 (gI w 64 (Int32.toNatClampNeg 0))) 64 (Int32.toNatClampNeg 1))) 64 (Int32.toNatClampNeg 2))) 64 (Int32.toNatClampNeg 3))) 30 13 (gI (sI (sI (sI (sI w 30 9 (gI w 64 (Int32.toNatClampNeg 0))) 30 10 (gI (sI w 30 9 (gI w 64 (Int32.toNatClampNeg 0))) 64 (Int32.toNatClampNeg 1))) 30 11 (gI (sI (sI w 30 9 (gI w 64 (Int32.toNatClampNeg 0))) 30 10 (gI (sI w 30 9 (gI w 64 (Int32.toNatClampNeg 0))) 64 (Int32.toNatClampNeg 1))) 64 (Int32.toNatClampNeg 2))) 30 12 (gI (sI (sI (sI w 30 9 (gI w 64 (Int32.toNatClampNeg 0))) 30 10 (gI (sI w 30 9 (gI w 64 (Int32.toNatClampNeg 0))) 64 (Int32.toNatClampNeg 1))) 30 11 (gI (sI (sI w 30 9 (gI w 64 (Int32.toNatClampNeg 0))) 30 10 (gI (sI w 30 9 (gI w 64 (Int32.toNatClampNeg 0))) 64 (Int32.toNatClampNeg 1))) 64 (Int32.toNatClampNeg 2))) 64 (Int32.toNatClampNeg 3))) 64 (Int32.toNatClampNeg 4))) 30 14 (gI (sI (sI (sI (sI (sI w 30 9 (gI w 64 (Int32.toNatClampNeg 0))) 30 10 (gI (sI w 30 9 (gI w 64 (Int32.toNatClampNeg 0))) 64 (Int32.toNatClampNeg 1))) 30 11 (gI (sI (sI w 30 9 (gI w 64 (Int32.toNatClampNeg 0))) 30 10 (gI (sI w 30 9 (gI w 64 (Int32.toNatClampNeg 0))) 64 (Int32.toNatClampNeg 1))) 64 (Int32.toNatClampNeg 2))) 30 12 (gI (sI (sI (sI w 30 9 (gI w 64 (Int32.toNatClampNeg 0))) 30 10 (gI (sI w 30 9 (gI w 64 (Int32.toNatClampNeg 0))) 64 (Int32.toNatClampNeg 1))) 30 11 (gI (sI (sI w 30 9 (gI w 64 (Int32.toNatClampNeg 0))) 30 10 (gI (sI w 30 9 (gI w 64 (Int32.toNatClampNeg 0))) 64 (Int32.toNatClampNeg 1))) 64 (Int32.toNatClampNeg 2))) 64 (Int32.toNatClampNeg 3))) 30 13 (gI (sI (sI (sI (sI w 30 9 (gI w 64 (Int32.toNatClampNeg 0))) 30 10 (gI (sI w 30 9 (gI w 64 (Int32.toNatClampNeg 0))) 64 (Int32.toNatClampNeg 1))) 30 11 (gI (sI (sI w 30 9 (gI w 64 (Int32.toNatClampNeg 0))) 30 10 (gI (sI w 30 9 (gI w 64 (Int32.toNatClampNeg 0))) 64 (Int32.toNatClampNeg 1))) 64 (Int32.toNatClampNeg 2))) 30 12 (gI (sI (sI (sI w 30 9 (gI w 64 (Int32.toNatClampNeg 0))) 30 10 (gI (sI w 30 9 (gI w 64 (Int32.toNatClampNeg 0))) 64 (Int32.toNatClampNeg 1))) 30 11 (gI (sI (sI w 30 9 (gI w 64 (Int32.toNatClampNeg 0))) 30 10 (gI (sI w 30 9 (gI w 64 (Int32.toNatClampNeg 0))) 64 (Int32.toNatClampNeg 1))) 64 (Int32.toNatClampNeg 2))) 64 (Int32.toNatClampNeg 3))) 64 (Int32.toNatClampNeg 4))) 64 (Int32.toNatClampNeg 5))) 30 15 (gI (sI (sI (sI (sI (sI (sI w 30 9 (gI w 64 (Int32.toNatClampNeg 0))) 30 10 (gI (sI w 30 9 (gI w 64 (Int32.toNatClampNeg 0))) 64 (Int32.toNatClampNeg 1))) 30 11 (gI (sI (sI w 30 9 (gI w 64 (Int32.toNatClampNeg 0))) 30 10 (gI (sI w 30 9 (gI w 64 (Int32.toNatClampNeg 0))) 64 (Int32.toNatClampNeg 1))) 64 (Int32.toNatClampNeg 2))) 30 12 (gI (sI (sI (sI w 30 9 (gI w 64 (Int32.toNatClampNeg 0))) 30 10 (gI (sI w 30 9 (gI w 64 (Int32.toNatClampNeg 0))) 64 (Int32.toNatClampNeg 1))) 30 11 (gI (sI (sI w 30 9 (gI w 64 (Int32.toNatClampNeg 0))) 30 10 (gI (sI w 30 9 (gI w 64 (Int32.toNatClampNeg 0))) 64 (Int32.toNatClampNeg 1))) 64 (Int32.toNatClampNeg 2))) 64 (Int32.toNatClampNeg 3))) 30 13 (gI (sI (sI (sI (sI w 30 9 (gI w 64 (Int32.toNatClampNeg 0))) 30 10 (gI (sI w 30 9 (gI w 64 (Int32.toNatClampNeg 0))) 64 (Int32.toNatClampNeg 1))) 30 11 (gI (sI (sI w 30 9 (gI w 64 (Int32.toNatClampNeg 0))) 30 10 (gI (sI w 30 9 (gI w 64 (Int32.toNatClampNeg 0))) 64 (Int32.toNatClampNeg 1))) 64 (Int32.toNatClampNeg 2))) 30 12 (gI (sI (sI (sI w 30 9 (gI w 64 (Int32.toNatClampNeg 0))) 30 10 (gI (sI w 30 9 (gI w 64 (Int32.toNatClampNeg 0))) 64 (Int32.toNatClampNeg 1))) 30 11 (gI (sI (sI w 30 9 (gI w 64 (Int32.toNatClampNeg 0))) 30 10 (gI (sI w 30 9 (gI w 64 (Int32.toNatClampNeg 0))) 64 (Int32.toNatClampNeg 1))) 64 (Int32.toNatClampNeg 2))) 64 (Int32.toNatClampNeg 3))) 64 (Int32.toNatClampNeg 4))) 30 14 (gI (sI (sI (sI (sI (sI w 30 9 (gI w 64 (Int32.toNatClampNeg 0))) 30 10 (gI (sI w 30 9 (gI w 64 (Int32.toNatClampNeg 0))) 64 (Int32.toNatClampNeg 1))) 30 11 (gI (sI (sI w 30 9 (gI w 64 (Int32.toNatClampNeg 0))) 30 10 (gI (sI w 30 9 (gI w 64 (Int32.toNatClampNeg 0))) 64 (Int32.toNatClampNeg 1))) 64 (Int32.toNatClampNeg 2))) 30 12 (gI (sI (sI (sI w 30 9 (gI w 64 (Int32.toNatClampNeg 0))) 30 10 (gI (sI w 30 9 (gI w 64 (Int32.toNatClampNeg 0))) 64 (Int32.toNatClampNeg 1))) 30 11 (gI (sI (sI w 30 9 (gI w 64 (Int32.toNatClampNeg 0))) 30 10 (gI (sI w 30 9 (gI w 64 (Int32.toNatClampNeg 0))) 64 (Int32.toNatClampNeg 1))) 64 (Int32.toNatClampNeg 2))) 64 (Int32.toNatClampNeg 3))) 30 13 (gI (sI (sI (sI (sI w 30 9 (gI w 64 (Int32.toNatClampNeg 0))) 30 10 (gI (sI w 30 9 (gI w 64 (Int32.toNatClampNeg 0))) 64 (Int32.toNatClampNeg 1))) 30 11 (gI (sI (sI w 30 9 (gI w 64 (Int32.toNatClampNeg 0))) 30 10 (gI (sI w 30 9 (gI w 64 (Int32.toNatClampNeg 0))) 64 (Int32.toNatClampNeg 1))) 64 (Int32.toNatClampNeg 2))) 30 12 (gI (sI (sI (sI w 30 9 (gI w 64 (Int32.toNatClampNeg 0))) 30 10 (gI (sI w 30 9 (gI w 64 (Int32.toNatClampNeg 0))) 64 (Int32.toNatClampNeg 1))) 30 11 (gI (sI (sI w 30 9 (gI w 64 (Int32.toNatClampNeg 0))) 30 10 (gI (sI w 30 9 (gI w 64 (Int32.toNatClampNeg 0))) 64 (Int32.toNatClampNeg 1))) 64 (Int32.toNatClampNeg 2))) 64 (Int32.toNatClampNeg 3))) 64 (Int32.toNatClampNeg 4))) 64 (Int32.toNatClampNeg 5))) 64 (Int32.toNatClampNeg 6)))
                  else none
                else none
              else none
            else none
          else none
        else none
      else none
    else
      if ib x1 500 = true then
        b_X3_load_20 d n (x1 + 1) (sI (sI (sI (sI (sI (sI (sI (sI w 31 x1.toNatClampNeg (gI w 57 x1.toNatClampNeg)) 32 x1.toNatClampNeg (gI (sI w 31 x1.toNatClampNeg (gI w 57 x1.toNatClampNeg)) 58 x1.toNatClampNeg)) 33 x1.toNatClampNeg (gI (sI (sI w 31 x1.toNatClampNeg (gI w 57 x1.toNatClampNeg)) 32 x1.toNatClampNeg (gI (sI w 31 x1.toNatClampNeg (gI w 57 x1.toNatClampNeg)) 58 x1.toNatClampNeg)) 59 x1.toNatClampNeg)) 34 x1.toNatClampNeg (gI (sI (sI (sI w 31 x1.toNatClampNeg (gI w 57 x1.toNatClampNeg)) 32 x1.toNatClampNeg (gI (sI w 31 x1.toNatClampNeg (gI w 57 x1.toNatClampNeg)) 58 x1.toNatClampNeg)) 33 x1.toNatClampNeg (gI (sI (sI w 31 x1.toNatClampNeg (gI w 57 x1.toNatClampNeg)) 32 x1.toNatClampNeg (gI (sI w 31 x1.toNatClampNeg (gI w 57 x1.toNatClampNeg)) 58 x1.toNatClampNeg)) 59 x1.toNatClampNeg)) 60 x1.toNatClampNeg)) 35 x1.toNatClampNeg (gI (sI (sI (sI (sI w 31 x1.toNatClampNeg (gI w 57 x1.toNatClampNeg)) 32 x1.toNatClampNeg (gI (sI w 31 x1.toNatClampNeg (gI w 57 x1.toNatClampNeg)) 58 x1.toNatClampNeg)) 33 x1.toNatClampNeg (gI (sI (sI w 31 x1.toNatClampNeg (gI w 57 x1.toNatClampNeg)) 32 x1.toNatClampNeg (gI (sI w 31 x1.toNatClampNeg (gI w 57 x1.toNatClampNeg)) 58 x1.toNatClampNeg)) 59 x1.toNatClampNeg)) 34 x1.toNatClampNeg (gI (sI (sI (sI w 31 x1.toNatClampNeg (gI w 57 x1.toNatClampNeg)) 32 x1.toNatClampNeg (gI (sI w 31 x1.toNatClampNeg (gI w 57 x1.toNatClampNeg)) 58 x1.toNatClampNeg)) 33 x1.toNatClampNeg (gI (sI (sI w 31 x1.toNatClampNeg (gI w 57 x1.toNatClampNeg)) 32 x1.toNatClampNeg (gI (sI w 31 x1.toNatClampNeg (gI w 57 x1.toNatClampNeg)) 58 x1.toNatClampNeg)) 59 x1.toNatClampNeg)) 60 x1.toNatClampNeg)) 61 x1.toNatClampNeg)) 36 x1.toNatClampNeg (gI (sI (sI (sI (sI (sI w 31 x1.toNatClampNeg (gI w 57 x1.toNatClampNeg)) 32 x1.toNatClampNeg (gI (sI w 31 x1.toNatClampNeg (gI w 57 x1.toNatClampNeg)) 58 x1.toNatClampNeg)) 33 x1.toNatClampNeg (gI (sI (sI w 31 x1.toNatClampNeg (gI w 57 x1.toNatClampNeg)) 32 x1.toNatClampNeg (gI (sI w 31 x1.toNatClampNeg (gI w 57 x1.toNatClampNeg)) 58 x1.toNatClampNeg)) 59 x1.toNatClampNeg)) 34 x1.toNatClampNeg (gI (sI (sI (sI w 31 x1.toNatClampNeg (gI w 57 x1.toNatClampNeg)) 32 x1.toNatClampNeg (gI (sI w 31 x1.toNatClampNeg (gI w 57 x1.toNatClampNeg)) 58 x1.toNatClampNeg)) 33 x1.toNatClampNeg (gI (sI (sI w 31 x1.toNatClampNeg (gI w 57 x1.toNatClampNeg)) 32 x1.toNatClampNeg (gI (sI w 31 x1.toNatClampNeg (gI w 57 x1.toNatClampNeg)) 58 x1.toNatClampNeg)) 59 x1.toNatClampNeg)) 60 x1.toNatClampNeg)) 35 x1.toNatClampNeg (gI (sI (sI (sI (sI w 31 x1.toNatClampNeg (gI w 57 x1.toNatClampNeg)) 32 x1.toNatClampNeg (gI (sI w 31 x1.toNatClampNeg (gI w 57 x1.toNatClampNeg)) 58 x1.toNatClampNeg)) 33 x1.toNatClampNeg (gI (sI (sI w 31 x1.toNatClampNeg (gI w 57 x1.toNatClampNeg)) 32 x1.toNatClampNeg (gI (sI w 31 x1.toNatClampNeg (gI w 57 x1.toNatClampNeg)) 58 x1.toNatClampNeg)) 59 x1.toNatClampNeg)) 34 x1.toNatClampNeg (gI (sI (sI (sI w 31 x1.toNatClampNeg (gI w 57 x1.toNatClampNeg)) 32 x1.toNatClampNeg (gI (sI w 31 x1.toNatClampNeg (gI w 57 x1.toNatClampNeg)) 58 x1.toNatClampNeg)) 33 x1.toNatClampNeg (gI (sI (sI w 31 x1.toNatClampNeg (gI w 57 x1.toNatClampNeg)) 32 x1.toNatClampNeg (gI (sI w 31 x1.toNatClampNeg (gI w 57 x1.toNatClampNeg)) 58 x1.toNatClampNeg)) 59 x1.toNatClampNeg)) 60 x1.toNatClampNeg)) 61 x1.toNatClampNeg)) 62 x1.toNatClampNeg)) 37 x1.toNatClampNeg (gI (sI (sI (sI (sI (sI (sI w 31 x1.toNatClampNeg (gI w 57 x1.toNatClampNeg)) 32 x1.toNatClampNeg (gI (sI w 31 x1.toNatClampNeg (gI w 57 x1.toNatClampNeg)) 58 x1.toNatClampNeg)) 33 x1.toNatClampNeg (gI (sI (sI w 31 x1.toNatClampNeg (gI w 57 x1.toNatClampNeg)) 32 x1.toNatClampNeg (gI (sI w 31 x1.toNatClampNeg (gI w 57 x1.toNatClampNeg)) 58 x1.toNatClampNeg)) 59 x1.toNatClampNeg)) 34 x1.toNatClampNeg (gI (sI (sI (sI w 31 x1.toNatClampNeg (gI w 57 x1.toNatClampNeg)) 32 x1.toNatClampNeg (gI (sI w 31 x1.toNatClampNeg (gI w 57 x1.toNatClampNeg)) 58 x1.toNatClampNeg)) 33 x1.toNatClampNeg (gI (sI (sI w 31 x1.toNatClampNeg (gI w 57 x1.toNatClampNeg)) 32 x1.toNatClampNeg (gI (sI w 31 x1.toNatClampNeg (gI w 57 x1.toNatClampNeg)) 58 x1.toNatClampNeg)) 59 x1.toNatClampNeg)) 60 x1.toNatClampNeg)) 35 x1.toNatClampNeg (gI (sI (sI (sI (sI w 31 x1.toNatClampNeg (gI w 57 x1.toNatClampNeg)) 32 x1.toNatClampNeg (gI (sI w 31 x1.toNatClampNeg (gI w 57 x1.toNatClampNeg)) 58 x1.toNatClampNeg)) 33 x1.toNatClampNeg (gI (sI (sI w 31 x1.toNatClampNeg (gI w 57 x1.toNatClampNeg)) 32 x1.toNatClampNeg (gI (sI w 31 x1.toNatClampNeg (gI w 57 x1.toNatClampNeg)) 58 x1.toNatClampNeg)) 59 x1.toNatClampNeg)) 34 x1.toNatClampNeg (gI (sI (sI (sI w 31 x1.toNatClampNeg (gI w 57 x1.toNatClampNeg)) 32 x1.toNatClampNeg (gI (sI w 31 x1.toNatClampNeg (gI w 57 x1.toNatClampNeg)) 58 x1.toNatClampNeg)) 33 x1.toNatClampNeg (gI (sI (sI w 31 x1.toNatClampNeg (gI w 57 x1.toNatClampNeg)) 32 x1.toNatClampNeg (gI (sI w 31 x1.toNatClampNeg (gI w 57 x1.toNatClampNeg)) 58 x1.toNatClampNeg)) 59 x1.toNatClampNeg)) 60 x1.toNatClampNeg)) 61 x1.toNatClampNeg)) 36 x1.toNatClampNeg (gI (sI (sI (sI (sI (sI w 31 x1.toNatClampNeg (gI w 57 x1.toNatClampNeg)) 32 x1.toNatClampNeg (gI (sI w 31 x1.toNatClampNeg (gI w 57 x1.toNatClampNeg)) 58 x1.toNatClampNeg)) 33 x1.toNatClampNeg (gI (sI (sI w 31 x1.toNatClampNeg (gI w 57 x1.toNatClampNeg)) 32 x1.toNatClampNeg (gI (sI w 31 x1.toNatClampNeg (gI w 57 x1.toNatClampNeg)) 58 x1.toNatClampNeg)) 59 x1.toNatClampNeg)) 34 x1.toNatClampNeg (gI (sI (sI (sI w 31 x1.toNatClampNeg (gI w 57 x1.toNatClampNeg)) 32 x1.toNatClampNeg (gI (sI w 31 x1.toNatClampNeg (gI w 57 x1.toNatClampNeg)) 58 x1.toNatClampNeg)) 33 x1.toNatClampNeg (gI (sI (sI w 31 x1.toNatClampNeg (gI w 57 x1.toNatClampNeg)) 32 x1.toNatClampNeg (gI (sI w 31 x1.toNatClampNeg (gI w 57 x1.toNatClampNeg)) 58 x1.toNatClampNeg)) 59 x1.toNatClampNeg)) 60 x1.toNatClampNeg)) 35 x1.toNatClampNeg (gI (sI (sI (sI (sI w 31 x1.toNatClampNeg (gI w 57 x1.toNatClampNeg)) 32 x1.toNatClampNeg (gI (sI w 31 x1.toNatClampNeg (gI w 57 x1.toNatClampNeg)) 58 x1.toNatClampNeg)) 33 x1.toNatClampNeg (gI (sI (sI w 31 x1.toNatClampNeg (gI w 57 x1.toNatClampNeg)) 32 x1.toNatClampNeg (gI (sI w 31 x1.toNatClampNeg (gI w 57 x1.toNatClampNeg)) 58 x1.toNatClampNeg)) 59 x1.toNatClampNeg)) 34 x1.toNatClampNeg (gI (sI (sI (sI w 31 x1.toNatClampNeg (gI w 57 x1.toNatClampNeg)) 32 x1.toNatClampNeg (gI (sI w 31 x1.toNatClampNeg (gI w 57 x1.toNatClampNeg)) 58 x1.toNatClampNeg)) 33 x1.toNatClampNeg (gI (sI (sI w 31 x1.toNatClampNeg (gI w 57 x1.toNatClampNeg)) 32 x1.toNatClampNeg (gI (sI w 31 x1.toNatClampNeg (gI w 57 x1.toNatClampNeg)) 58 x1.toNatClampNeg)) 59 x1.toNatClampNeg)) 60 x1.toNatClampNeg)) 61 x1.toNatClampNeg)) 62 x1.toNatClampNeg)) 63 x1.toNatClampNeg)) 38 x1.toNatClampNeg (vp_nar .boolean (gI (sI (sI (sI (sI (sI (sI (sI w 31 x1.toNatClampNeg (gI w 57 x1.toNatClampNeg)) 32 x1.toNatClampNeg (gI (sI w 31 x1.toNatClampNeg (gI w 57 x1.toNatClampNeg)) 58 x1.toNatClampNeg)) 33 x1.toNatClampNeg (gI (sI (sI w 31 x1.toNatClampNeg (gI w 57 x1.toNatClampNeg)) 32 x1.toNatClampNeg (gI (sI w 31 x1.toNatClampNeg (gI w 57 x1.toNatClampNeg)) 58 x1.toNatClampNeg)) 59 x1.toNatClampNeg)) 34 x1.toNatClampNeg (gI (sI (sI (sI w 31 x1.toNatClampNeg (gI w 57 x1.toNatClampNeg)) 32 x1.toNatClampNeg (gI (sI w 31 x1.toNatClampNeg (gI w 57 x1.toNatClampNeg)) 58 x1.toNatClampNeg)) 33 x1.toNatClampNeg (gI (sI (sI w 31 x1.toNatClampNeg (gI w 57 x1.toNatClampNeg)) 32 x1.toNatClampNeg (gI (sI w 31 x1.toNatClampNeg (gI w 57 x1.toNatClampNeg)) 58 x1.toNatClampNeg)) 59 x1.toNatClampNeg)) 60 x1.toNatClampNeg)) 35 x1.toNatClampNeg (gI (sI (sI (sI (sI w 31 x1.toNatClampNeg (gI w 57 x1.toNatClampNeg)) 32 x1.toNatClampNeg (gI (sI w 31 x1.toNatClampNeg (gI w 57 x1.toNatClampNeg)) 58 x1.toNatClampNeg)) 33 x1.toNatClampNeg (gI (sI (sI w 31 x1.toNatClampNeg (gI w 57 x1.toNatClampNeg)) 32 x1.toNatClampNeg (gI (sI w 31 x1.toNatClampNeg (gI w 57 x1.toNatClampNeg)) 58 x1.toNatClampNeg)) 59 x1.toNatClampNeg)) 34 x1.toNatClampNeg (gI (sI (sI (sI w 31 x1.toNatClampNeg (gI w 57 x1.toNatClampNeg)) 32 x1.toNatClampNeg (gI (sI w 31 x1.toNatClampNeg (gI w 57 x1.toNatClampNeg)) 58 x1.toNatClampNeg)) 33 x1.toNatClampNeg (gI (sI (sI w 31 x1.toNatClampNeg (gI w 57 x1.toNatClampNeg)) 32 x1.toNatClampNeg (gI (sI w 31 x1.toNatClampNeg (gI w 57 x1.toNatClampNeg)) 58 x1.toNatClampNeg)) 59 x1.toNatClampNeg)) 60 x1.toNatClampNeg)) 61 x1.toNatClampNeg)) 36 x1.toNatClampNeg (gI (sI (sI (sI (sI (sI w 31 x1.toNatClampNeg (gI w 57 x1.toNatClampNeg)) 32 x1.toNatClampNeg (gI (sI w 31 x1.toNatClampNeg (gI w 57 x1.toNatClampNeg)) 58 x1.toNatClampNeg)) 33 x1.toNatClampNeg (gI (sI (sI w 31 x1.toNatClampNeg (gI w 57 x1.toNatClampNeg)) 32 x1.toNatClampNeg (gI (sI w 31 x1.toNatClampNeg (gI w 57 x1.toNatClampNeg)) 58 x1.toNatClampNeg)) 59 x1.toNatClampNeg)) 34 x1.toNatClampNeg (gI (sI (sI (sI w 31 x1.toNatClampNeg (gI w 57 x1.toNatClampNeg)) 32 x1.toNatClampNeg (gI (sI w 31 x1.toNatClampNeg (gI w 57 x1.toNatClampNeg)) 58 x1.toNatClampNeg)) 33 x1.toNatClampNeg (gI (sI (sI w 31 x1.toNatClampNeg (gI w 57 x1.toNatClampNeg)) 32 x1.toNatClampNeg (gI (sI w 31 x1.toNatClampNeg (gI w 57 x1.toNatClampNeg)) 58 x1.toNatClampNeg)) 59 x1.toNatClampNeg)) 60 x1.toNatClampNeg)) 35 x1.toNatClampNeg (gI (sI (sI (sI (sI w 31 x1.toNatClampNeg (gI w 57 x1.toNatClampNeg)) 32 x1.toNatClampNeg (gI (sI w 31 x1.toNatClampNeg (gI w 57 x1.toNatClampNeg)) 58 x1.toNatClampNeg)) 33 x1.toNatClampNeg (gI (sI (sI w 31 x1.toNatClampNeg (gI w 57 x1.toNatClampNeg)) 32 x1.toNatClampNeg (gI (sI w 31 x1.toNatClampNeg (gI w 57 x1.toNatClampNeg)) 58 x1.toNatClampNeg)) 59 x1.toNatClampNeg)) 34 x1.toNatClampNeg (gI (sI (sI (sI w 31 x1.toNatClampNeg (gI w 57 x1.toNatClampNeg)) 32 x1.toNatClampNeg (gI (sI w 31 x1.toNatClampNeg (gI w 57 x1.toNatClampNeg)) 58 x1.toNatClampNeg)) 33 x1.toNatClampNeg (gI (sI (sI w 31 x1.toNatClampNeg (gI w 57 x1.toNatClampNeg)) 32 x1.toNatClampNeg (gI (sI w 31 x1.toNatClampNeg (gI w 57 x1.toNatClampNeg)) 58 x1.toNatClampNeg)) 59 x1.toNatClampNeg)) 60 x1.toNatClampNeg)) 61 x1.toNatClampNeg)) 62 x1.toNatClampNeg)) 37 x1.toNatClampNeg (gI (sI (sI (sI (sI (sI (sI w 31 x1.toNatClampNeg (gI w 57 x1.toNatClampNeg)) 32 x1.toNatClampNeg (gI (sI w 31 x1.toNatClampNeg (gI w 57 x1.toNatClampNeg)) 58 x1.toNatClampNeg)) 33 x1.toNatClampNeg (gI (sI (sI w 31 x1.toNatClampNeg (gI w 57 x1.toNatClampNeg)) 32 x1.toNatClampNeg (gI (sI w 31 x1.toNatClampNeg (gI w 57 x1.toNatClampNeg)) 58 x1.toNatClampNeg)) 59 x1.toNatClampNeg)) 34 x1.toNatClampNeg (gI (sI (sI (sI w 31 x1.toNatClampNeg (gI w 57 x1.toNatClampNeg)) 32 x1.toNatClampNeg (gI (sI w 31 x1.toNatClampNeg (gI w 57 x1.toNatClampNeg)) 58 x1.toNatClampNeg)) 33 x1.toNatClampNeg (gI (sI (sI w 31 x1.toNatClampNeg (gI w 57 x1.toNatClampNeg)) 32 x1.toNatClampNeg (gI (sI w 31 x1.toNatClampNeg (gI w 57 x1.toNatClampNeg)) 58 x1.toNatClampNeg)) 59 x1.toNatClampNeg)) 60 x1.toNatClampNeg)) 35 x1.toNatClampNeg (gI (sI (sI (sI (sI w 31 x1.toNatClampNeg (gI w 57 x1.toNatClampNeg)) 32 x1.toNatClampNeg (gI (sI w 31 x1.toNatClampNeg (gI w 57 x1.toNatClampNeg)) 58 x1.toNatClampNeg)) 33 x1.toNatClampNeg (gI (sI (sI w 31 x1.toNatClampNeg (gI w 57 x1.toNatClampNeg)) 32 x1.toNatClampNeg (gI (sI w 31 x1.toNatClampNeg (gI w 57 x1.toNatClampNeg)) 58 x1.toNatClampNeg)) 59 x1.toNatClampNeg)) 34 x1.toNatClampNeg (gI (sI (sI (sI w 31 x1.toNatClampNeg (gI w 57 x1.toNatClampNeg)) 32 x1.toNatClampNeg (gI (sI w 31 x1.toNatClampNeg (gI w 57 x1.toNatClampNeg)) 58 x1.toNatClampNeg)) 33 x1.toNatClampNeg (gI (sI (sI w 31 x1.toNatClampNeg (gI w 57 x1.toNatClampNeg)) 32 x1.toNatClampNeg (gI (sI w 31 x1.toNatClampNeg (gI w 57 x1.toNatClampNeg)) 58 x1.toNatClampNeg)) 59 x1.toNatClampNeg)) 60 x1.toNatClampNeg)) 61 x1.toNatClampNeg)) 36 x1.toNatClampNeg (gI (sI (sI (sI (sI (sI w 31 x1.toNatClampNeg (gI w 57 x1.toNatClampNeg)) 32 x1.toNatClampNeg (gI (sI w 31 x1.toNatClampNeg (gI w 57 x1.toNatClampNeg)) 58 x1.toNatClampNeg)) 33 x1.toNatClampNeg (gI (sI (sI w 31 x1.toNatClampNeg (gI w 57 x1.toNatClampNeg)) 32 x1.toNatClampNeg (gI (sI w 31 x1.toNatClampNeg (gI w 57 x1.toNatClampNeg)) 58 x1.toNatClampNeg)) 59 x1.toNatClampNeg)) 34 x1.toNatClampNeg (gI (sI (sI (sI w 31 x1.toNatClampNeg (gI w 57 x1.toNatClampNeg)) 32 x1.toNatClampNeg (gI (sI w 31 x1.toNatClampNeg (gI w 57 x1.toNatClampNeg)) 58 x1.toNatClampNeg)) 33 x1.toNatClampNeg (gI (sI (sI w 31 x1.toNatClampNeg (gI w 57 x1.toNatClampNeg)) 32 x1.toNatClampNeg (gI (sI w 31 x1.toNatClampNeg (gI w 57 x1.toNatClampNeg)) 58 x1.toNatClampNeg)) 59 x1.toNatClampNeg)) 60 x1.toNatClampNeg)) 35 x1.toNatClampNeg (gI (sI (sI (sI (sI w 31 x1.toNatClampNeg (gI w 57 x1.toNatClampNeg)) 32 x1.toNatClampNeg (gI (sI w 31 x1.toNatClampNeg (gI w 57 x1.toNatClampNeg)) 58 x1.toNatClampNeg)) 33 x1.toNatClampNeg (gI (sI (sI w 31 x1.toNatClampNeg (gI w 57 x1.toNatClampNeg)) 32 x1.toNatClampNeg (gI (sI w 31 x1.toNatClampNeg (gI w 57 x1.toNatClampNeg)) 58 x1.toNatClampNeg)) 59 x1.toNatClampNeg)) 34 x1.toNatClampNeg (gI (sI (sI (sI w 31 x1.toNatClampNeg (gI w 57 x1.toNatClampNeg)) 32 x1.toNatClampNeg (gI (sI w 31 x1.toNatClampNeg (gI w 57 x1.toNatClampNeg)) 58 x1.toNatClampNeg)) 33 x1.toNatClampNeg (gI (sI (sI w 31 x1.toNatClampNeg (gI w 57 x1.toNatClampNeg)) 32 x1.toNatClampNeg (gI (sI w 31 x1.toNatClampNeg (gI w 57 x1.toNatClampNeg)) 58 x1.toNatClampNeg)) 59 x1.toNatClampNeg)) 60 x1.toNatClampNeg)) 61 x1.toNatClampNeg)) 62 x1.toNatClampNeg)) 63 x1.toNatClampNeg)) 65 x1.toNatClampNeg)))
      else none
def f_X3_load (d : Nat) (w : Wd) : Option (Wd × Int32) :=
  match d with
  | 0 => none
  | d + 1 =>
    if (gI (sI w 30 0 0) 30 42) = 0 then
      (f_X3_fails d 1 (sI w 30 0 0)).bind fun r9 =>
      some (r9.1, r9.2)
    else
      b_X3_load_20 d FU 0 (sI w 30 0 0)
theorem sb_X3_load_202 {G : Gx} (hG : GW G) {M : Mx} (hl : (mL M).stackTraces = false) {w0 : Wd} {d : Nat} (K : Cx (G, true, M, 2, w0) cX3_load "IntervalTreeModel" (d + 1)) (hr : (mH M).sig.returnType = some .int) (hnm : (mH M).name = yX3_load.name) (hxt : ∀ x ∈ (mC M).exceptionTable.toList, False) (hnd : (mS M).methodNamed? yX3_load = some (mM M)) : ∀ (n : Nat), ∀ (x1 : Int32) (w : Wd) (fx1 : Bool), Jf (G, true, M, 2, w0) (rrV G pI) (b_X3_load_202 d n x1 w) w 202 [some (aR 3 (some 30)), some (aB fx1 x1)] [] := by
  intro n
  induction n with
  | zero => intros; exact j_none
  | succ n ih =>
    intro x1 w fx1
    refine j_iload_n K dX3_load_202 rfl ?_
    refine j_iconst (x := 4) K dX3_load_203 rfl ?_
    refine j_icmp_ge 220 K dX3_load_204 (by decide) ?_ ?_
    · refine j_aload_n K dX3_load_220 rfl ?_
      refine j_callV _ K (sim_X3_live hG hl d w) dX3_load_221 rfl rfl q1472 q1474 qs63 q95 q1475 pm_X3_live rfl rfl rfl rfl rfl (fun r8 _ => ?_)
      exact j_iret K hr dX3_load_224
    · refine j_aload_n K dX3_load_207 rfl ?_
      refine j_getA (k := 39) 38 K dX3_load_208 rfl rfl rfl q1295 rfl rfl (by decide) rfl rfl rfl ?_
      refine j_iload_n K dX3_load_211 rfl ?_
      refine j_iconstZ K dX3_load_212 rfl (Or.inl rfl) ?_
      refine j_ib (fun hi9 => ?_)
      refine j_zas K dX3_load_213 rfl (fxLen2 38 rfl rfl) hi9 ?_
      refine j_iinc (y := 1) K dX3_load_214 rfl rfl rfl rfl ?_
      refine j_goto 202 K dX3_load_217 (by decide) ?_
      exact ih _ _ _
theorem sb_X3_load_20 {G : Gx} (hG : GW G) {M : Mx} (hl : (mL M).stackTraces = false) {w0 : Wd} {d : Nat} (K : Cx (G, true, M, 2, w0) cX3_load "IntervalTreeModel" (d + 1)) (hr : (mH M).sig.returnType = some .int) (hnm : (mH M).name = yX3_load.name) (hxt : ∀ x ∈ (mC M).exceptionTable.toList, False) (hnd : (mS M).methodNamed? yX3_load = some (mM M)) : ∀ (n : Nat), ∀ (x1 : Int32) (w : Wd) (fx1 : Bool), Jf (G, true, M, 2, w0) (rrV G pI) (b_X3_load_20 d n x1 w) w 20 [some (aR 3 (some 30)), some (aB fx1 x1)] [] := by
  intro n
  induction n with
  | zero => intros; exact j_none
  | succ n ih =>
    intro x1 w fx1
    refine j_iload_n K dX3_load_20 rfl ?_
    refine j_sipush (x := 500) K dX3_load_21 (by decide +kernel) ?_
    refine j_icmp_ge 129 K dX3_load_24 (by decide) ?_ ?_
    · refine j_aload_n K dX3_load_129 rfl ?_
      refine j_aload_n K dX3_load_130 rfl ?_
      refine j_getA (k := 50) 48 K dX3_load_131 rfl rfl rfl q1306 rfl rfl (by decide) rfl rfl rfl ?_
      refine j_iconstZ K dX3_load_134 rfl (Or.inl rfl) ?_
      refine j_ib (fun hi1 => ?_)
      refine j_ial K dX3_load_135 rfl (fxLen 48 rfl rfl) hi1 ?_
      refine j_putI (k := 9) K dX3_load_136 rfl rfl q1265 rfl (Or.inl rfl) rfl rfl rfl rfl ?_
      refine j_aload_n K dX3_load_139 rfl ?_
      refine j_aload_n K dX3_load_140 rfl ?_
      refine j_getA (k := 50) 48 K dX3_load_141 rfl rfl rfl q1306 rfl rfl (by decide) rfl rfl rfl ?_
      refine j_iconstZ K dX3_load_144 rfl (Or.inr rfl) ?_
      refine j_ib (fun hi2 => ?_)
      refine j_ial K dX3_load_145 rfl (fxLen 48 rfl rfl) hi2 ?_
      refine j_putI (k := 10) K dX3_load_146 rfl rfl q1266 rfl (Or.inl rfl) rfl rfl rfl rfl ?_
      refine j_aload_n K dX3_load_149 rfl ?_
      refine j_aload_n K dX3_load_150 rfl ?_
      refine j_getA (k := 50) 48 K dX3_load_151 rfl rfl rfl q1306 rfl rfl (by decide) rfl rfl rfl ?_
      refine j_iconst (x := 2) K dX3_load_154 rfl ?_
      refine j_ib (fun hi3 => ?_)
      refine j_ial K dX3_load_155 rfl (fxLen 48 rfl rfl) hi3 ?_
      refine j_putI (k := 11) K dX3_load_156 rfl rfl q1267 rfl (Or.inl rfl) rfl rfl rfl rfl ?_
      refine j_aload_n K dX3_load_159 rfl ?_
      refine j_aload_n K dX3_load_160 rfl ?_
      refine j_getA (k := 50) 48 K dX3_load_161 rfl rfl rfl q1306 rfl rfl (by decide) rfl rfl rfl ?_
      refine j_iconst (x := 3) K dX3_load_164 rfl ?_
      refine j_ib (fun hi4 => ?_)
      refine j_ial K dX3_load_165 rfl (fxLen 48 rfl rfl) hi4 ?_
      refine j_putI (k := 12) K dX3_load_166 rfl rfl q1268 rfl (Or.inl rfl) rfl rfl rfl rfl ?_
      refine j_aload_n K dX3_load_169 rfl ?_
      refine j_aload_n K dX3_load_170 rfl ?_
      refine j_getA (k := 50) 48 K dX3_load_171 rfl rfl rfl q1306 rfl rfl (by decide) rfl rfl rfl ?_
      refine j_iconst (x := 4) K dX3_load_174 rfl ?_
      refine j_ib (fun hi5 => ?_)
      refine j_ial K dX3_load_175 rfl (fxLen 48 rfl rfl) hi5 ?_
      refine j_putI (k := 13) K dX3_load_176 rfl rfl q1269 rfl (Or.inl rfl) rfl rfl rfl rfl ?_
      refine j_aload_n K dX3_load_179 rfl ?_
      refine j_aload_n K dX3_load_180 rfl ?_
      refine j_getA (k := 50) 48 K dX3_load_181 rfl rfl rfl q1306 rfl rfl (by decide) rfl rfl rfl ?_
      refine j_iconst (x := 5) K dX3_load_184 rfl ?_
      refine j_ib (fun hi6 => ?_)
      refine j_ial K dX3_load_185 rfl (fxLen 48 rfl rfl) hi6 ?_
      refine j_putI (k := 14) K dX3_load_186 rfl rfl q1270 rfl (Or.inl rfl) rfl rfl rfl rfl ?_
      refine j_aload_n K dX3_load_189 rfl ?_
      refine j_aload_n K dX3_load_190 rfl ?_
      refine j_getA (k := 50) 48 K dX3_load_191 rfl rfl rfl q1306 rfl rfl (by decide) rfl rfl rfl ?_
      refine j_bipush (x := 6) K dX3_load_194 (by decide +kernel) ?_
      refine j_ib (fun hi7 => ?_)
      refine j_ial K dX3_load_196 rfl (fxLen 48 rfl rfl) hi7 ?_
      refine j_putI (k := 15) K dX3_load_197 rfl rfl q1271 rfl (Or.inl rfl) rfl rfl rfl rfl ?_
      refine j_iconstZ K dX3_load_200 rfl (Or.inl rfl) ?_
      refine j_istore_n K dX3_load_201 rfl rfl ?_
      exact sb_X3_load_202 hG hl K hr hnm hxt hnd FU _ _ _
    · refine j_aload_n K dX3_load_27 rfl ?_
      refine j_getA (k := 1) 15 K dX3_load_28 rfl rfl rfl q1257 rfl rfl (by decide) rfl rfl rfl ?_
      refine j_iload_n K dX3_load_31 rfl ?_
      refine j_aload_n K dX3_load_32 rfl ?_
      refine j_getA (k := 43) 41 K dX3_load_33 rfl rfl rfl q1299 rfl rfl (by decide) rfl rfl rfl ?_
      refine j_iload_n K dX3_load_36 rfl ?_
      refine j_ib (fun hi8 => ?_)
      refine j_ial K dX3_load_37 rfl (fxLen 41 rfl rfl) hi8 ?_
      refine j_ias K dX3_load_38 rfl (fxLen2 15 rfl rfl) hi8 ?_
      refine j_aload_n K dX3_load_39 rfl ?_
      refine j_getA (k := 2) 16 K dX3_load_40 rfl rfl rfl q1258 rfl rfl (by decide) rfl rfl rfl ?_
      refine j_iload_n K dX3_load_43 rfl ?_
      refine j_aload_n K dX3_load_44 rfl ?_
      refine j_getA (k := 44) 42 K dX3_load_45 rfl rfl rfl q1300 rfl rfl (by decide) rfl rfl rfl ?_
      refine j_iload_n K dX3_load_48 rfl ?_
      refine j_ial K dX3_load_49 rfl (fxLen 42 rfl rfl) hi8 ?_
      refine j_ias K dX3_load_50 rfl (fxLen2 16 rfl rfl) hi8 ?_
      refine j_aload_n K dX3_load_51 rfl ?_
      refine j_getA (k := 3) 17 K dX3_load_52 rfl rfl rfl q1259 rfl rfl (by decide) rfl rfl rfl ?_
      refine j_iload_n K dX3_load_55 rfl ?_
      refine j_aload_n K dX3_load_56 rfl ?_
      refine j_getA (k := 45) 43 K dX3_load_57 rfl rfl rfl q1301 rfl rfl (by decide) rfl rfl rfl ?_
      refine j_iload_n K dX3_load_60 rfl ?_
      refine j_ial K dX3_load_61 rfl (fxLen 43 rfl rfl) hi8 ?_
      refine j_ias K dX3_load_62 rfl (fxLen2 17 rfl rfl) hi8 ?_
      refine j_aload_n K dX3_load_63 rfl ?_
      refine j_getA (k := 4) 18 K dX3_load_64 rfl rfl rfl q1260 rfl rfl (by decide) rfl rfl rfl ?_
      refine j_iload_n K dX3_load_67 rfl ?_
      refine j_aload_n K dX3_load_68 rfl ?_
      refine j_getA (k := 46) 44 K dX3_load_69 rfl rfl rfl q1302 rfl rfl (by decide) rfl rfl rfl ?_
      refine j_iload_n K dX3_load_72 rfl ?_
      refine j_ial K dX3_load_73 rfl (fxLen 44 rfl rfl) hi8 ?_
      refine j_ias K dX3_load_74 rfl (fxLen2 18 rfl rfl) hi8 ?_
      refine j_aload_n K dX3_load_75 rfl ?_
      refine j_getA (k := 5) 19 K dX3_load_76 rfl rfl rfl q1261 rfl rfl (by decide) rfl rfl rfl ?_
      refine j_iload_n K dX3_load_79 rfl ?_
      refine j_aload_n K dX3_load_80 rfl ?_
      refine j_getA (k := 47) 45 K dX3_load_81 rfl rfl rfl q1303 rfl rfl (by decide) rfl rfl rfl ?_
      refine j_iload_n K dX3_load_84 rfl ?_
      refine j_ial K dX3_load_85 rfl (fxLen 45 rfl rfl) hi8 ?_
      refine j_ias K dX3_load_86 rfl (fxLen2 19 rfl rfl) hi8 ?_
      refine j_aload_n K dX3_load_87 rfl ?_
      refine j_getA (k := 6) 20 K dX3_load_88 rfl rfl rfl q1262 rfl rfl (by decide) rfl rfl rfl ?_
      refine j_iload_n K dX3_load_91 rfl ?_
      refine j_aload_n K dX3_load_92 rfl ?_
      refine j_getA (k := 48) 46 K dX3_load_93 rfl rfl rfl q1304 rfl rfl (by decide) rfl rfl rfl ?_
      refine j_iload_n K dX3_load_96 rfl ?_
      refine j_ial K dX3_load_97 rfl (fxLen 46 rfl rfl) hi8 ?_
      refine j_ias K dX3_load_98 rfl (fxLen2 20 rfl rfl) hi8 ?_
      refine j_aload_n K dX3_load_99 rfl ?_
      refine j_getA (k := 7) 21 K dX3_load_100 rfl rfl rfl q1263 rfl rfl (by decide) rfl rfl rfl ?_
      refine j_iload_n K dX3_load_103 rfl ?_
      refine j_aload_n K dX3_load_104 rfl ?_
      refine j_getA (k := 49) 47 K dX3_load_105 rfl rfl rfl q1305 rfl rfl (by decide) rfl rfl rfl ?_
      refine j_iload_n K dX3_load_108 rfl ?_
      refine j_ial K dX3_load_109 rfl (fxLen 47 rfl rfl) hi8 ?_
      refine j_ias K dX3_load_110 rfl (fxLen2 21 rfl rfl) hi8 ?_
      refine j_aload_n K dX3_load_111 rfl ?_
      refine j_getA (k := 8) 22 K dX3_load_112 rfl rfl rfl q1264 rfl rfl (by decide) rfl rfl rfl ?_
      refine j_iload_n K dX3_load_115 rfl ?_
      refine j_aload_n K dX3_load_116 rfl ?_
      refine j_getA (k := 51) 49 K dX3_load_117 rfl rfl rfl q1307 rfl rfl (by decide) rfl rfl rfl ?_
      refine j_iload_n K dX3_load_120 rfl ?_
      refine j_zal K dX3_load_121 rfl (fxLen 49 rfl rfl) hi8 ?_
      refine j_zas K dX3_load_122 rfl (fxLen2 22 rfl rfl) hi8 ?_
      refine j_iinc (y := 1) K dX3_load_123 rfl rfl rfl rfl ?_
      refine j_goto 20 K dX3_load_126 (by decide) ?_
      exact ih _ _ _
theorem sim_X3_load {G : Gx} (hG : GW G) {l : Launch} (hl : l.stackTraces = false) (d : Nat) (w : Wd) : Mt G true l yX3_load (ws_ yX3_load cX3_load 2 (some .int)) d (rrV G pI) [aR 3 (some 30)] w (f_X3_load d w) := by
  refine Mt.of (own := "IntervalTreeModel") hG hl (by decide +kernel) rfl rfl ?_
  intro M hM hr hnm hxt hnd K
  subst hM
  cases d with
  | zero => exact j_none
  | succ d =>
    refine j_aload_n K dX3_load_0 rfl ?_
    refine j_iconstZ K dX3_load_1 rfl (Or.inl rfl) ?_
    refine j_putI (k := 0) K dX3_load_2 rfl rfl q1256 rfl (Or.inl rfl) rfl rfl rfl rfl ?_
    refine j_aload_n K dX3_load_5 rfl ?_
    refine j_getZ (k := 42) K dX3_load_6 rfl rfl rfl q1298 rfl rfl rfl rfl ?_
    refine j_if_ne 18 K dX3_load_9 (by decide) ?_ ?_
    · refine j_iconstZ K dX3_load_18 rfl (Or.inl rfl) ?_
      refine j_istore_n K dX3_load_19 rfl rfl ?_
      exact sb_X3_load_20 hG hl K hr hnm hxt hnd FU _ _ _
    · refine j_aload_n K dX3_load_12 rfl ?_
      refine j_iconstZ K dX3_load_13 rfl (Or.inr rfl) ?_
      refine j_callV _ K (sim_X3_fails hG hl d 1 (sI w 30 0 0) true) dX3_load_14 rfl rfl q1420 q1422 qs51 q95 q1423 pm_X3_fails rfl rfl rfl rfl rfl (fun r9 _ => ?_)
      exact j_iret K hr dX3_load_17
