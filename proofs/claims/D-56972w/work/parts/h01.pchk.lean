/-! THE ROOM: the tables of searches: checks, first part (tools/room/t4/mkck.py) -/
set_option maxRecDepth 100000
/-- entry (l, k) of a table -/
def tp (T l k : Nat) : Nat := tat T (Nat.add (Nat.mul 64 l) k)
/-- nodes of a lot that is taken e times, of a part with table T -/
def nzT (T e k : Nat) : Nat := Nat.div (Nat.add e (tat T (Nat.add (Nat.mul 64 (Nat.sub e 1)) k))) e
noncomputable def ckDg (T : Nat) : Bool := allN 62 (fun k => allN (Nat.sub 84 k) (fun l => Nat.ble (tp T (Nat.succ l) k) (tp T l (Nat.succ k))))
noncomputable def ckMk (T : Nat) : Bool := allN 62 (fun k => allN (Nat.sub 84 k) (fun l => Nat.ble (tp T l k) (tp T l (Nat.succ k))))
noncomputable def ckLe (T T' : Nat) : Bool := allN 63 (fun k => allN (Nat.sub 85 k) (fun l => Nat.ble (tp T l k) (tp T' l k)))
noncomputable def ckZ (q e T0 T : Nat) : Bool := allN 63 (fun k => allN (Nat.sub 85 k) (fun l => Nat.ble (Nat.mul (Nat.mul q l) (Nat.min (nzT T0 1 k) (Nat.min (nzT T0 2 k) (nzT T0 e k)))) (tp T l k)))
noncomputable def ckC0 (TC : Nat) : Bool := allN 63 (fun k => Nat.beq (tp TC 0 k) 0)
noncomputable def ckC (TF TC : Nat) : Bool := allN 63 (fun k => allN (Nat.sub 84 k) (fun l => Nat.ble (Nat.add (tp TC l k) (Nat.add (Nat.add l k) (tp TF l k))) (tp TC (Nat.succ l) k)))
/-- c1 components on a made part with b lots and d components -/
noncomputable def ckSt (d c1 TC TX TXm TX2 TFr TFc : Nat) : Bool := allN 63 (fun K => allN (Nat.div (Nat.sub K (Nat.add 1 d)) 2) (fun b => allN (Nat.sub 85 K) (fun l => Nat.ble (Nat.add (Nat.add (Nat.sub (tp TC (Nat.add l (Nat.succ b)) (Nat.sub K (Nat.add (Nat.add 3 d) (Nat.mul 2 b)))) (tp TC l (Nat.sub K (Nat.add (Nat.add 3 d) (Nat.mul 2 b))))) (Nat.rec (tp TX l (Nat.sub K (Nat.add (Nat.add 3 d) (Nat.mul 2 b)))) (fun m _ => Nat.rec (Nat.max (tp TX (Nat.succ l) (Nat.sub K (Nat.add (Nat.add 3 d) (Nat.mul 2 b)))) (Nat.add (tp TXm (Nat.succ l) (Nat.sub K (Nat.add (Nat.add 3 d) (Nat.mul 2 b)))) (tp TX2 (Nat.succ l) (Nat.sub K (Nat.add (Nat.add 3 d) (Nat.mul 2 b)))))) (fun _ _ => Nat.mul (Nat.sub c1 1) (tp TX2 (Nat.add l b) (Nat.sub K (Nat.add (Nat.add 3 d) (Nat.mul 2 b))))) m) b)) (tp TFr (Nat.add l (Nat.succ b)) (Nat.sub K (Nat.add (Nat.add 3 d) (Nat.mul 2 b))))) (tp TFc l K))))
/-- c1 components on a part without components, b lots, one call each -/
noncomputable def ckBt (c1 TFr TFc : Nat) : Bool := allN 63 (fun K => allN (Nat.sub K 1) (fun b => allN (Nat.sub 85 K) (fun l => Nat.ble (Nat.add (Nat.add (Nat.add (Nat.mul (Nat.succ b) (Nat.add l (Nat.sub K (Nat.add 2 b)))) (Nat.div (Nat.mul (Nat.succ b) b) 2)) (Nat.mul (Nat.sub c1 1) (Nat.add (Nat.add l b) (Nat.sub K (Nat.add 2 b))))) (tp TFr (Nat.add l (Nat.succ b)) (Nat.sub K (Nat.add 2 b)))) (tp TFc l K))))
theorem ckDgF1 : ckDg tPF1 = true := by decide +kernel
theorem ckMkF1 : ckMk tPF1 = true := by decide +kernel
theorem ckC0_1 : ckC0 tPC1 = true := by decide +kernel
theorem ckC_1 : ckC tPF1 tPC1 = true := by decide +kernel
theorem ckDgF2 : ckDg tPF2 = true := by decide +kernel
theorem ckMkF2 : ckMk tPF2 = true := by decide +kernel
theorem ckC0_2 : ckC0 tPC2 = true := by decide +kernel
theorem ckC_2 : ckC tPF2 tPC2 = true := by decide +kernel
theorem ckDgF3 : ckDg tPF3 = true := by decide +kernel
theorem ckMkF3 : ckMk tPF3 = true := by decide +kernel
theorem ckC0_3 : ckC0 tPC3 = true := by decide +kernel
theorem ckC_3 : ckC tPF3 tPC3 = true := by decide +kernel
theorem ckDgF4 : ckDg tPF4 = true := by decide +kernel
theorem ckMkF4 : ckMk tPF4 = true := by decide +kernel
theorem ckC0_4 : ckC0 tPC4 = true := by decide +kernel
theorem ckC_4 : ckC tPF4 tPC4 = true := by decide +kernel
theorem ckDgX21 : ckDg tPX21 = true := by decide +kernel
theorem ckZ21 : ckZ 1 2 tJ01 tPX21 = true := by decide +kernel
theorem ckDgX31 : ckDg tPX31 = true := by decide +kernel
theorem ckZ31 : ckZ 2 3 tJ01 tPX31 = true := by decide +kernel
theorem ckDgX41 : ckDg tPX41 = true := by decide +kernel
theorem ckZ41 : ckZ 3 4 tJ01 tPX41 = true := by decide +kernel
theorem ckLe23_1 : ckLe tPX21 tPX31 = true := by decide +kernel
theorem ckLe34_1 : ckLe tPX31 tPX41 = true := by decide +kernel
theorem ckDgX22 : ckDg tPX22 = true := by decide +kernel
theorem ckZ22 : ckZ 1 2 tJ02 tPX22 = true := by decide +kernel
theorem ckDgX32 : ckDg tPX32 = true := by decide +kernel
theorem ckZ32 : ckZ 2 3 tJ02 tPX32 = true := by decide +kernel
theorem ckDgX42 : ckDg tPX42 = true := by decide +kernel
theorem ckZ42 : ckZ 3 4 tJ02 tPX42 = true := by decide +kernel
theorem ckLe23_2 : ckLe tPX22 tPX32 = true := by decide +kernel
theorem ckLe34_2 : ckLe tPX32 tPX42 = true := by decide +kernel
theorem ckDgX23 : ckDg tPX23 = true := by decide +kernel
theorem ckZ23 : ckZ 1 2 tJ03 tPX23 = true := by decide +kernel
theorem ckDgX33 : ckDg tPX33 = true := by decide +kernel
theorem ckZ33 : ckZ 2 3 tJ03 tPX33 = true := by decide +kernel
theorem ckDgX43 : ckDg tPX43 = true := by decide +kernel
theorem ckZ43 : ckZ 3 4 tJ03 tPX43 = true := by decide +kernel
theorem ckLe23_3 : ckLe tPX23 tPX33 = true := by decide +kernel
theorem ckLe34_3 : ckLe tPX33 tPX43 = true := by decide +kernel
theorem ckDgX24 : ckDg tPX24 = true := by decide +kernel
theorem ckZ24 : ckZ 1 2 tJ04 tPX24 = true := by decide +kernel
theorem ckDgX34 : ckDg tPX34 = true := by decide +kernel
theorem ckZ34 : ckZ 2 3 tJ04 tPX34 = true := by decide +kernel
theorem ckDgX44 : ckDg tPX44 = true := by decide +kernel
theorem ckZ44 : ckZ 3 4 tJ04 tPX44 = true := by decide +kernel
theorem ckLe23_4 : ckLe tPX24 tPX34 = true := by decide +kernel
theorem ckLe34_4 : ckLe tPX34 tPX44 = true := by decide +kernel
