theorem gFlok (o : Nat) (h : o < 21) : (gFl o).all (gFlchk o) = true := by
  match o, h with
  | 0, _ => exact gFlok_0
  | 1, _ => exact gFlok_1
  | 2, _ => exact gFlok_2
  | 3, _ => exact gFlok_3
  | 4, _ => exact gFlok_4
  | 5, _ => exact gFlok_5
  | 6, _ => exact gFlok_6
  | 7, _ => exact gFlok_7
  | 8, _ => exact gFlok_8
  | 9, _ => exact gFlok_9
  | 10, _ => exact gFlok_10
  | 11, _ => exact gFlok_11
  | 12, _ => exact gFlok_12
  | 13, _ => exact gFlok_13
  | 14, _ => exact gFlok_14
  | 15, _ => exact gFlok_15
  | 16, _ => exact gFlok_16
  | 17, _ => exact gFlok_17
  | 18, _ => exact gFlok_18
  | 19, _ => exact gFlok_19
  | 20, _ => exact gFlok_20
  | n + 21, h => exact absurd h (by omega)
theorem gKlok (o : Nat) (h : o < 21) : ∀ e ∈ gKl o, Cond.classLink (gOwn o) e.1 (gcn e.2) ∈ lw_all := by
  match o, h with
  | 0, _ => exact gKlok_0
  | 1, _ => exact gKlok_1
  | 2, _ => exact gKlok_2
  | 3, _ => exact gKlok_3
  | 4, _ => exact gKlok_4
  | 5, _ => exact gKlok_5
  | 6, _ => exact gKlok_6
  | 7, _ => exact gKlok_7
  | 8, _ => exact gKlok_8
  | 9, _ => exact gKlok_9
  | 10, _ => exact gKlok_10
  | 11, _ => exact gKlok_11
  | 12, _ => exact gKlok_12
  | 13, _ => exact gKlok_13
  | 14, _ => exact gKlok_14
  | 15, _ => exact gKlok_15
  | 16, _ => exact gKlok_16
  | 17, _ => exact gKlok_17
  | 18, _ => exact gKlok_18
  | 19, _ => exact gKlok_19
  | 20, _ => exact gKlok_20
  | n + 21, h => exact absurd h (by omega)
theorem gMlok (o : Nat) (h : o < 21) : ∀ e ∈ gMl o, gMlP o e := by
  match o, h with
  | 0, _ => exact gMlok_0
  | 1, _ => exact gMlok_1
  | 2, _ => exact gMlok_2
  | 3, _ => exact gMlok_3
  | 4, _ => exact gMlok_4
  | 5, _ => exact gMlok_5
  | 6, _ => exact gMlok_6
  | 7, _ => exact gMlok_7
  | 8, _ => exact gMlok_8
  | 9, _ => exact gMlok_9
  | 10, _ => exact gMlok_10
  | 11, _ => exact gMlok_11
  | 12, _ => exact gMlok_12
  | 13, _ => exact gMlok_13
  | 14, _ => exact gMlok_14
  | 15, _ => exact gMlok_15
  | 16, _ => exact gMlok_16
  | 17, _ => exact gMlok_17
  | 18, _ => exact gMlok_18
  | 19, _ => exact gMlok_19
  | 20, _ => exact gMlok_20
  | n + 21, h => exact absurd h (by omega)
/-! pairs of classes that aren't assignable; what an array of references takes -/
def gnc (a b : Nat) : Bool := (Nat.beq a 1 && (Nat.beq b 6 || Nat.beq b 7)) || (Nat.beq a 6 && (Nat.beq b 1 || Nat.beq b 7)) || (Nat.beq a 7 && (Nat.beq b 1 || Nat.beq b 6)) || (Nat.ble 13 a && Nat.ble a 17 && Nat.ble 13 b && Nat.ble b 17 && !(Nat.beq a b))
set_option maxHeartbeats 4000000 in
theorem gnc_ok : ∀ a : Fin 18, ∀ b : Fin 18, gnc a.val b.val = true → Cond.not (.castable (gcn a.val) (gcn b.val)) ∈ flatC (Jvm.Cond.and given_1 narrow_1) := by decide +kernel
def gcst (t ci : Nat) : Bool := (Nat.beq t 3 && (Nat.beq ci 4 || Nat.beq ci 8 || Nat.beq ci 9 || Nat.beq ci 12)) || (Nat.beq t 4 && (Nat.beq ci 1 || Nat.beq ci 6 || Nat.beq ci 7)) || (Nat.beq t 5 && Nat.beq ci 2) || (Nat.beq t 6 && Nat.beq ci 5)
def gel (t : Nat) : String := bif Nat.beq t 3 then "java/lang/Object" else bif Nat.beq t 4 then "XactKernel$Item" else bif Nat.beq t 5 then "XactKernel$Process" else "XactKernel$Descriptor"
set_option maxHeartbeats 4000000 in
theorem gcst_ok : ∀ t : Fin 7, ∀ ci : Fin 18, gcst t.val ci.val = true → gcn ci.val = gel t.val ∨ Cond.castable (gcn ci.val) (gel t.val) ∈ lw_tbl := by decide +kernel
