/-! the kernel's public members (34): unlink (3) -/
section KG
variable {G : gG} {n m n' m' fr rc rs : Nat} {A A' A0 : kA} {X X' : kX} {σ σ' σ0 σ1 σ2 : gS} {μ μ' ν : mS} {Q Q' Q0 : gO → gS → Prop}
theorem unl_23 (hG : gGood G) {p a3 : Nat} {pz z fl c : Int} {dr : Bool} {R : mS} (hp : p < 6) (hz : inR z) (hln : 0 < mplen z 0 4) (hS : kSt G n (m + 300) A X σ R) (hH : bx 0 (kH p c R)) (h28 : R 28 0 = dig z (mplen z 0 4 - 1)) (h29 : 0 ≤ R 29 0) (hfl : bx 0 ((fl = 1 ∧ dr = true ∧ mkd R p (R 29 0).toNat = 2 ∧ R 1 (mof R p (R 29 0).toNat) ≤ 0 ∧ R 6 (15 * p + (R 29 0).toNat) = 1) ∨ (fl = 0 ∧ dr = false ∧ mkd R p (R 29 0).toNat = 1))) (hc : 1 ≤ c ∧ c ≤ 600000) (hN : n + 200 ≤ 1000000) (hA : A 0 0 = A0 0 0)
    (hQ : bx 0 (kOut G (n + 100) m A0 X (c + 60) (munl3 p dr (R 29 0) (mwrites p (R 27 0).toNat R)) [(13, 1), (14, 2), (17, 3), (15, 4), (16, 5)] Q)) : lx 0 (gW G mX1_unlink (fr + 20) rc rs Q 97 [(0, vr (A 0 0)), (1, vi pz), (2, vi z), (3, vr a3), (4, vr (A 2 p)), (5, vi (R 27 0)), (6, vi (R 29 0)), (7, vi fl)] [] σ) := by
  refine unl_2 hG hp hz hln hS hH h28 h29 hfl hc hN hA hQ (bx_in fun V b A2 σ2 y1 y2 y3 y4 y5 y6 y7 y8 y9 z1 z2 z3 z4 z5 z6 z7 z8 => ?_)
  have := unl_3 (fr := fr) (rc := rc) (rs := rs) (Q := Q) (pz := pz) (a3 := a3) (A0 := A0) hG hp hz hln hH h28 h29 hfl hc hN (A := A2) (by rw [y3]; exact hA) y1 y2 y5 y6 y7 y8 y9 z1 z2 z3 z4 z5 z6 z7 z8
  rw [y3, y4] at this
  exact this
end KG
