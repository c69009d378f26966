/-! the tape: four, feed, end, taken; come -/
/-- the byte of v at k, as the component holds it -/
def byS (v : Int32) (k : Nat) : Int32 := vp_nar .byte ((v >>> (nI k &&& 31)).toInt8.toInt32)
theorem c24 : nI 24 + -8 = nI 16 := by decide
theorem c16 : nI 16 + -8 = nI 8 := by decide
theorem c8 : nI 8 + -8 = nI 0 := by decide
theorem c0 : nI 0 + -8 < nI 0 := by decide
theorem n24 : ¬ nI 24 < nI 0 := by decide
theorem n16 : ¬ nI 16 < nI 0 := by decide
theorem n8 : ¬ nI 8 < nI 0 := by decide
theorem n0 : ¬ nI 0 < nI 0 := by decide
theorem f_5 {d a t n : Nat} {v : Int32} {σ : HS} {Q : Res → HS → Prop} (ha : tof σ a = 1) (h0 : rof σ a 0 = some t) (ht : tof σ t = 101) (hn : nof σ t = 940) (hl : iof σ a 1 = nI n) (hb : n + 4 ≤ 940) (hat : ¬ a = t) :
    GG0 d 5 0 [rv (some a), .int v, UU] [] σ Q = Q (.inl none) (iput (iput (iput (iput (iput (iput (iput (iput σ t n (byS v 24)) a 1 (nI (n + 1))) t (n + 1) (byS v 16)) a 1 (nI (n + 1 + 1))) t (n + 1 + 1) (byS v 8)) a 1 (nI (n + 1 + 1 + 1))) t (n + 1 + 1 + 1) (byS v 0)) a 1 (nI (n + 1 + 1 + 1 + 1))) := by
  have i0 : vp_in (nI n) 940 := vp_in_nI (by omega) (by omega)
  have i1 : vp_in (nI (n + 1)) 940 := vp_in_nI (by omega) (by omega)
  have i2 : vp_in (nI (n + 1 + 1)) 940 := vp_in_nI (by omega) (by omega)
  have i3 : vp_in (nI (n + 1 + 1 + 1)) 940 := vp_in_nI (by omega) (by omega)
  have k0 : (nI n).toNatClampNeg = n := nI_clamp (by omega)
  have k1 : (nI (n + 1)).toNatClampNeg = n + 1 := nI_clamp (by omega)
  have k2 : (nI (n + 1 + 1)).toNatClampNeg = n + 1 + 1 := nI_clamp (by omega)
  have k3 : (nI (n + 1 + 1 + 1)).toNatClampNeg = n + 1 + 1 + 1 := nI_clamp (by omega)
  simp only [E_5, E_5_1, e_5_3, kll_int, kll_rv, ha, h0, ht, hn, hl, hat, i0, i1, i2, i3, k0, k1, k2, k3, c24, c16, c8, c0, n24, n16, n8, n0, nI_add, if_true, if_false, if_pos, if_neg, not_false_eq_true, and_true, and_false, false_and, true_and, byS, iof_iput, lof_iput, rof_iput, tof_iput, nof_iput, nxt_iput, slt_iput, iof_lput, lof_lput, rof_lput, tof_lput, nof_lput, nxt_lput, slt_lput, iof_rput, lof_rput, rof_rput, tof_rput, nof_rput, nxt_rput, slt_rput, iof_iall, lof_iall, rof_iall, tof_iall, nof_iall, nxt_iall, slt_iall, iof_lall, lof_lall, rof_lall, tof_lall, nof_lall, nxt_lall, slt_lall, iof_rall, lof_rall, rof_rall, tof_rall, nof_rall, nxt_rall, slt_rall, iof_hnew, lof_hnew, rof_hnew, tof_hnew, nof_hnew, nxt_hnew, slt_hnew]
