/-! SOUNDNESS of the actions that change no cell (printed by tools/gen_sn.py) -/
section SN
variable {cc : ByteArray} {own : String} {nL : Nat} {rt : Option FieldType} {ini : Bool} {pc : Nat}
theorem sn_iconst {n : Int} {v : Int32} (hd : decode cc pc = .ok (.iconst n, 1)) (hv : Int32.ofInt n = v) : Sn cc own nL rt ini pc (a_ic v 1) := by
  refine Sn.pure fun ls st σ pc' ls' st' σ' hA => ?_
  unfold a_ic at hA
  obtain ⟨rfl, rfl, rfl, rfl⟩ := onx_inj hA
  refine ⟨rfl, fun D dA sp B xs L us p l e R s m args below meth c hC lv H locs cells slots Q hl hP hS kk => ?_⟩
  exact lv_iconst hC.1 hC.2.1 hd hv (kk lv hl)
theorem sn_bipush {n : Int} {v : Int32} (hd : decode cc pc = .ok (.bipush n, 2)) (hv : (Int8.ofInt n).toInt32 = v) : Sn cc own nL rt ini pc (a_ic v 2) := by
  refine Sn.pure fun ls st σ pc' ls' st' σ' hA => ?_
  unfold a_ic at hA
  obtain ⟨rfl, rfl, rfl, rfl⟩ := onx_inj hA
  refine ⟨rfl, fun D dA sp B xs L us p l e R s m args below meth c hC lv H locs cells slots Q hl hP hS kk => ?_⟩
  exact lv_bipush hC.1 hC.2.1 hd hv (kk lv hl)
theorem sn_sipush {n : Int} {v : Int32} (hd : decode cc pc = .ok (.sipush n, 3)) (hv : (Int16.ofInt n).toInt32 = v) : Sn cc own nL rt ini pc (a_ic v 3) := by
  refine Sn.pure fun ls st σ pc' ls' st' σ' hA => ?_
  unfold a_ic at hA
  obtain ⟨rfl, rfl, rfl, rfl⟩ := onx_inj hA
  refine ⟨rfl, fun D dA sp B xs L us p l e R s m args below meth c hC lv H locs cells slots Q hl hP hS kk => ?_⟩
  exact lv_sipush hC.1 hC.2.1 hd hv (kk lv hl)
theorem sn_lconst {n : Fin 2} {v : Int64} (hd : decode cc pc = .ok (.lconst n, 1)) (hv : Int64.ofNat (n : Nat) = v) : Sn cc own nL rt ini pc (a_lc v 1) := by
  refine Sn.pure fun ls st σ pc' ls' st' σ' hA => ?_
  unfold a_lc at hA
  obtain ⟨rfl, rfl, rfl, rfl⟩ := onx_inj hA
  refine ⟨rfl, fun D dA sp B xs L us p l e R s m args below meth c hC lv H locs cells slots Q hl hP hS kk => ?_⟩
  exact lv_lconst hC.1 hC.2.1 hd hv (kk lv hl)
theorem sn_ldc {i : Nat} {v : Int32} (hd : decode cc pc = .ok (.ldc i, 2)) (hv : Cond.constant own i v ∈ lw_all) : Sn cc own nL rt ini pc (a_ic v 2) := by
  refine Sn.pure fun ls st σ pc' ls' st' σ' hA => ?_
  unfold a_ic at hA
  obtain ⟨rfl, rfl, rfl, rfl⟩ := onx_inj hA
  refine ⟨rfl, fun D dA sp B xs L us p l e R s m args below meth c hC lv H locs cells slots Q hl hP hS kk => ?_⟩
  exact lv_ldc hC.1 hC.2.1 hC.2.2.2.2.2.1 (hC.2.2.2.2.2.2.1 _ hv) hd (kk lv hl)
theorem sn_ldcw {i : Nat} {v : Int32} (hd : decode cc pc = .ok (.ldc_w i, 3)) (hv : Cond.constant own i v ∈ lw_all) : Sn cc own nL rt ini pc (a_ic v 3) := by
  refine Sn.pure fun ls st σ pc' ls' st' σ' hA => ?_
  unfold a_ic at hA
  obtain ⟨rfl, rfl, rfl, rfl⟩ := onx_inj hA
  refine ⟨rfl, fun D dA sp B xs L us p l e R s m args below meth c hC lv H locs cells slots Q hl hP hS kk => ?_⟩
  exact lv_ldcw hC.1 hC.2.1 hC.2.2.2.2.2.1 (hC.2.2.2.2.2.2.1 _ hv) hd (kk lv hl)
theorem sn_ldc2 {i : Nat} {v : Int64} (hd : decode cc pc = .ok (.ldc2_w i, 3)) (hv : Cond.constantLong own i v ∈ lw_all) : Sn cc own nL rt ini pc (a_lc v 3) := by
  refine Sn.pure fun ls st σ pc' ls' st' σ' hA => ?_
  unfold a_lc at hA
  obtain ⟨rfl, rfl, rfl, rfl⟩ := onx_inj hA
  refine ⟨rfl, fun D dA sp B xs L us p l e R s m args below meth c hC lv H locs cells slots Q hl hP hS kk => ?_⟩
  exact lv_ldc2 hC.1 hC.2.1 hC.2.2.2.2.2.1 (hC.2.2.2.2.2.2.1 _ hv) hd (kk lv hl)
theorem sn_null (hd : decode cc pc = .ok (.aconst_null, 1))  : Sn cc own nL rt ini pc (a_nul) := by
  refine Sn.pure fun ls st σ pc' ls' st' σ' hA => ?_
  unfold a_nul at hA
  obtain ⟨rfl, rfl, rfl, rfl⟩ := onx_inj hA
  refine ⟨rfl, fun D dA sp B xs L us p l e R s m args below meth c hC lv H locs cells slots Q hl hP hS kk => ?_⟩
  exact lv_null hC.1 hC.2.1 hd (kk lv hl)
theorem sn_str {i j : Nat} {tx : String} (hd : decode cc pc = .ok (.ldc j, 2)) (hi : stL_[i]? = some (own, j, tx)) (hj : 2 + i < 100) : Sn cc own nL rt ini pc (a_str i 2) := by
  refine Sn.pure fun ls st σ pc' ls' st' σ' hA => ?_
  unfold a_str at hA
  obtain ⟨rfl, rfl, rfl, rfl⟩ := onx_inj hA
  refine ⟨rfl, fun D dA sp B xs L us p l e R s m args below meth c hC lv H locs cells slots Q hl hP hS kk => ?_⟩
  exact va_ldcS hC.1 hC.2.1 hC.2.2.2.2.2.1 (by have h := (hC.2.2.2.2.2.2.2.1.2.2.1 i _ hi).1; rw [show rho sp B (2 + i) = sp (2 + i) from if_pos hj]; exact h) hd (kk lv hl)
theorem sn_iload {i : Nat} (hd : decode cc pc = .ok (.iload i, 2))  : Sn cc own nL rt ini pc (a_il i 2) := by
  refine Sn.pure fun ls st σ pc' ls' st' σ' hA => ?_
  unfold a_il at hA
  split at hA
  · obtain ⟨rfl, rfl, rfl, rfl⟩ := onx_inj hA
    refine ⟨rfl, fun D dA sp B xs L us p l e R s m args below meth c hC lv H locs cells slots Q hl hP hS kk => ?_⟩
    exact lv_iload hC.1 hC.2.1 hd (LV_get hl (by assumption) rfl) (kk lv hl)
  · exact (osk_nx hA).elim
theorem sn_iload_n {i : Nat} {k : Fin 4} (hd : decode cc pc = .ok (.iload_n k, 1)) (hi : (k : Nat) = i) : Sn cc own nL rt ini pc (a_il i 1) := by
  refine Sn.pure fun ls st σ pc' ls' st' σ' hA => ?_
  unfold a_il at hA
  split at hA
  · obtain ⟨rfl, rfl, rfl, rfl⟩ := onx_inj hA
    refine ⟨rfl, fun D dA sp B xs L us p l e R s m args below meth c hC lv H locs cells slots Q hl hP hS kk => ?_⟩
    exact lv_iload_n hC.1 hC.2.1 hd hi (LV_get hl (by assumption) rfl) (kk lv hl)
  · exact (osk_nx hA).elim
theorem sn_lload {i : Nat} (hd : decode cc pc = .ok (.lload i, 2))  : Sn cc own nL rt ini pc (a_ll i 2) := by
  refine Sn.pure fun ls st σ pc' ls' st' σ' hA => ?_
  unfold a_ll at hA
  split at hA
  · obtain ⟨rfl, rfl, rfl, rfl⟩ := onx_inj hA
    refine ⟨rfl, fun D dA sp B xs L us p l e R s m args below meth c hC lv H locs cells slots Q hl hP hS kk => ?_⟩
    exact lv_lload hC.1 hC.2.1 hd (LV_get hl (by assumption) rfl) (kk lv hl)
  · exact (osk_nx hA).elim
theorem sn_lload_n {i : Nat} {k : Fin 4} (hd : decode cc pc = .ok (.lload_n k, 1)) (hi : (k : Nat) = i) : Sn cc own nL rt ini pc (a_ll i 1) := by
  refine Sn.pure fun ls st σ pc' ls' st' σ' hA => ?_
  unfold a_ll at hA
  split at hA
  · obtain ⟨rfl, rfl, rfl, rfl⟩ := onx_inj hA
    refine ⟨rfl, fun D dA sp B xs L us p l e R s m args below meth c hC lv H locs cells slots Q hl hP hS kk => ?_⟩
    exact lv_lload_n hC.1 hC.2.1 hd hi (LV_get hl (by assumption) rfl) (kk lv hl)
  · exact (osk_nx hA).elim
theorem sn_aload {i : Nat} (hd : decode cc pc = .ok (.aload i, 2))  : Sn cc own nL rt ini pc (a_al i 2) := by
  refine Sn.pure fun ls st σ pc' ls' st' σ' hA => ?_
  unfold a_al at hA
  split at hA
  · obtain ⟨rfl, rfl, rfl, rfl⟩ := onx_inj hA
    refine ⟨rfl, fun D dA sp B xs L us p l e R s m args below meth c hC lv H locs cells slots Q hl hP hS kk => ?_⟩
    exact lv_aload hC.1 hC.2.1 hd (LV_get hl (by assumption) rfl) (kk lv hl)
  · obtain ⟨rfl, rfl, rfl, rfl⟩ := onx_inj hA
    refine ⟨rfl, fun D dA sp B xs L us p l e R s m args below meth c hC lv H locs cells slots Q hl hP hS kk => ?_⟩
    exact lv_aloadN hC.1 hC.2.1 hd (LV_get hl (by assumption) rfl) (kk lv hl)
  · exact (osk_nx hA).elim
theorem sn_aload_n {i : Nat} {k : Fin 4} (hd : decode cc pc = .ok (.aload_n k, 1)) (hi : (k : Nat) = i) : Sn cc own nL rt ini pc (a_al i 1) := by
  refine Sn.pure fun ls st σ pc' ls' st' σ' hA => ?_
  unfold a_al at hA
  split at hA
  · obtain ⟨rfl, rfl, rfl, rfl⟩ := onx_inj hA
    refine ⟨rfl, fun D dA sp B xs L us p l e R s m args below meth c hC lv H locs cells slots Q hl hP hS kk => ?_⟩
    exact lv_aload_n hC.1 hC.2.1 hd hi (LV_get hl (by assumption) rfl) (kk lv hl)
  · obtain ⟨rfl, rfl, rfl, rfl⟩ := onx_inj hA
    refine ⟨rfl, fun D dA sp B xs L us p l e R s m args below meth c hC lv H locs cells slots Q hl hP hS kk => ?_⟩
    exact lv_aload_nN hC.1 hC.2.1 hd hi (LV_get hl (by assumption) rfl) (kk lv hl)
  · exact (osk_nx hA).elim
theorem sn_istore {i : Nat} (hd : decode cc pc = .ok (.istore i, 2))  : Sn cc own nL rt ini pc (a_is i 2) := by
  refine Sn.pure fun ls st σ pc' ls' st' σ' hA => ?_
  unfold a_is at hA
  split at hA
  · split at hA
    · rename_i hlt
      obtain ⟨rfl, rfl, rfl, rfl⟩ := onx_inj hA
      refine ⟨rfl, fun D dA sp B xs L us p l e R s m args below meth c hC lv H locs cells slots Q hl hP hS kk => ?_⟩
      exact lv_istore hC.1 hC.2.1 hd hl.2 (by rw [← hl.1]; exact hlt) rfl (fun lv' h' => kk lv' (LV_st hl hlt rfl lv' h'))
    · exact (osk_nx hA).elim
  · exact (osk_nx hA).elim
theorem sn_istore_n {i : Nat} {k : Fin 4} (hd : decode cc pc = .ok (.istore_n k, 1)) (hi : (k : Nat) = i) : Sn cc own nL rt ini pc (a_is i 1) := by
  refine Sn.pure fun ls st σ pc' ls' st' σ' hA => ?_
  unfold a_is at hA
  split at hA
  · split at hA
    · rename_i hlt
      obtain ⟨rfl, rfl, rfl, rfl⟩ := onx_inj hA
      refine ⟨rfl, fun D dA sp B xs L us p l e R s m args below meth c hC lv H locs cells slots Q hl hP hS kk => ?_⟩
      exact lv_istore_n hC.1 hC.2.1 hd hi hl.2 (by rw [← hl.1]; exact hlt) rfl (fun lv' h' => kk lv' (LV_st hl hlt rfl lv' h'))
    · exact (osk_nx hA).elim
  · exact (osk_nx hA).elim
theorem sn_astore {i : Nat} (hd : decode cc pc = .ok (.astore i, 2))  : Sn cc own nL rt ini pc (a_as i 2) := by
  refine Sn.pure fun ls st σ pc' ls' st' σ' hA => ?_
  unfold a_as at hA
  split at hA
  · split at hA
    · rename_i hlt
      obtain ⟨rfl, rfl, rfl, rfl⟩ := onx_inj hA
      refine ⟨rfl, fun D dA sp B xs L us p l e R s m args below meth c hC lv H locs cells slots Q hl hP hS kk => ?_⟩
      exact lv_astore hC.1 hC.2.1 hd hl.2 (by rw [← hl.1]; exact hlt) rfl (fun lv' h' => kk lv' (LV_st hl hlt rfl lv' h'))
    · exact (osk_nx hA).elim
  · split at hA
    · rename_i hlt
      obtain ⟨rfl, rfl, rfl, rfl⟩ := onx_inj hA
      refine ⟨rfl, fun D dA sp B xs L us p l e R s m args below meth c hC lv H locs cells slots Q hl hP hS kk => ?_⟩
      exact lv_astoreN hC.1 hC.2.1 hd hl.2 (by rw [← hl.1]; exact hlt) rfl (fun lv' h' => kk lv' (LV_st hl hlt rfl lv' h'))
    · exact (osk_nx hA).elim
  · exact (osk_nx hA).elim
theorem sn_astore_n {i : Nat} {k : Fin 4} (hd : decode cc pc = .ok (.astore_n k, 1)) (hi : (k : Nat) = i) : Sn cc own nL rt ini pc (a_as i 1) := by
  refine Sn.pure fun ls st σ pc' ls' st' σ' hA => ?_
  unfold a_as at hA
  split at hA
  · split at hA
    · rename_i hlt
      obtain ⟨rfl, rfl, rfl, rfl⟩ := onx_inj hA
      refine ⟨rfl, fun D dA sp B xs L us p l e R s m args below meth c hC lv H locs cells slots Q hl hP hS kk => ?_⟩
      exact lv_astore_n hC.1 hC.2.1 hd hi hl.2 (by rw [← hl.1]; exact hlt) rfl (fun lv' h' => kk lv' (LV_st hl hlt rfl lv' h'))
    · exact (osk_nx hA).elim
  · split at hA
    · rename_i hlt
      obtain ⟨rfl, rfl, rfl, rfl⟩ := onx_inj hA
      refine ⟨rfl, fun D dA sp B xs L us p l e R s m args below meth c hC lv H locs cells slots Q hl hP hS kk => ?_⟩
      exact lv_astore_nN hC.1 hC.2.1 hd hi hl.2 (by rw [← hl.1]; exact hlt) rfl (fun lv' h' => kk lv' (LV_st hl hlt rfl lv' h'))
    · exact (osk_nx hA).elim
  · exact (osk_nx hA).elim
theorem sn_lstore {i : Nat} (hd : decode cc pc = .ok (.lstore i, 2))  : Sn cc own nL rt ini pc (a_ls i 2) := by
  refine Sn.pure fun ls st σ pc' ls' st' σ' hA => ?_
  unfold a_ls at hA
  split at hA
  · split at hA
    · rename_i hlt
      obtain ⟨rfl, rfl, rfl, rfl⟩ := onx_inj hA
      refine ⟨rfl, fun D dA sp B xs L us p l e R s m args below meth c hC lv H locs cells slots Q hl hP hS kk => ?_⟩
      exact lv_lstore hC.1 hC.2.1 hd hl.2 (by rw [← hl.1]; exact hlt) rfl (fun lv' h' => kk lv' (LV_sw hl hlt lv' h'))
    · exact (osk_nx hA).elim
  · exact (osk_nx hA).elim
theorem sn_lstore_n {i : Nat} {k : Fin 4} (hd : decode cc pc = .ok (.lstore_n k, 1)) (hi : (k : Nat) = i) : Sn cc own nL rt ini pc (a_ls i 1) := by
  refine Sn.pure fun ls st σ pc' ls' st' σ' hA => ?_
  unfold a_ls at hA
  split at hA
  · split at hA
    · rename_i hlt
      obtain ⟨rfl, rfl, rfl, rfl⟩ := onx_inj hA
      refine ⟨rfl, fun D dA sp B xs L us p l e R s m args below meth c hC lv H locs cells slots Q hl hP hS kk => ?_⟩
      exact lv_lstore_n hC.1 hC.2.1 hd hi hl.2 (by rw [← hl.1]; exact hlt) rfl (fun lv' h' => kk lv' (LV_sw hl hlt lv' h'))
    · exact (osk_nx hA).elim
  · exact (osk_nx hA).elim
theorem sn_iinc {i : Nat} {n : Int} {k : Int32} (hd : decode cc pc = .ok (.iinc i n, 3)) (hk : Int32.ofInt n = k) : Sn cc own nL rt ini pc (a_inc i k) := by
  refine Sn.pure fun ls st σ pc' ls' st' σ' hA => ?_
  unfold a_inc at hA
  split at hA
  · rename_i x hx
    obtain ⟨rfl, rfl, rfl, rfl⟩ := onx_inj hA
    refine ⟨rfl, fun D dA sp B xs L us p l e R s m args below meth c hC lv H locs cells slots Q hl hP hS kk => ?_⟩
    have hlt : i < ls.length := (List.getElem?_eq_some_iff.mp hx).1
    have hm : (i, Value.int x) ∈ lvl sp B ls := lvl_mem.mpr ⟨_, hx, rfl, rfl⟩
    obtain ⟨j, hj⟩ := List.getElem?_of_mem hm
    exact lv_iinc hC.1 hC.2.1 hd hl.2 hj (by rw [hk]) (by rw [← hl.1]; exact hlt) rfl (fun lv' h' => kk lv' (LV_st hl hlt rfl lv' h'))
  · exact (osk_nx hA).elim
theorem sn_dup (hd : decode cc pc = .ok (.dup, 1))  : Sn cc own nL rt ini pc (a_dup) := by
  refine Sn.pure fun ls st σ pc' ls' st' σ' hA => ?_
  unfold a_dup at hA
  split at hA
  · split at hA
    · rename_i hg
      obtain ⟨rfl, rfl, rfl, rfl⟩ := onx_inj hA
      refine ⟨rfl, fun D dA sp B xs L us p l e R s m args below meth c hC lv H locs cells slots Q hl hP hS kk => ?_⟩
      exact lv_dup hC.1 hC.2.1 hd (by rw [rr_cat]; exact hg) (kk lv hl)
    · exact (osk_nx hA).elim
  · exact (osk_nx hA).elim
theorem sn_dup2 (hd : decode cc pc = .ok (.dup2, 1))  : Sn cc own nL rt ini pc (a_dup2) := by
  refine Sn.pure fun ls st σ pc' ls' st' σ' hA => ?_
  unfold a_dup2 at hA
  split at hA
  · split at hA
    · rename_i hg
      obtain ⟨rfl, rfl, rfl, rfl⟩ := onx_inj hA
      refine ⟨rfl, fun D dA sp B xs L us p l e R s m args below meth c hC lv H locs cells slots Q hl hP hS kk => ?_⟩
      exact lv_dup2_11 hC.1 hC.2.1 hd (by rw [rr_cat]; exact hg.1) (by rw [rr_cat]; exact hg.2) (kk lv hl)
    · exact (osk_nx hA).elim
  · exact (osk_nx hA).elim
theorem sn_pop (hd : decode cc pc = .ok (.pop, 1))  : Sn cc own nL rt ini pc (a_pop) := by
  refine Sn.pure fun ls st σ pc' ls' st' σ' hA => ?_
  unfold a_pop at hA
  split at hA
  · split at hA
    · rename_i hg
      obtain ⟨rfl, rfl, rfl, rfl⟩ := onx_inj hA
      refine ⟨rfl, fun D dA sp B xs L us p l e R s m args below meth c hC lv H locs cells slots Q hl hP hS kk => ?_⟩
      exact lv_pop hC.1 hC.2.1 hd (by rw [rr_cat]; exact hg) (kk lv hl)
    · exact (osk_nx hA).elim
  · exact (osk_nx hA).elim
theorem sn_iadd (hd : decode cc pc = .ok (.iadd, 1))  : Sn cc own nL rt ini pc (a_bin (fun a b => a + b)) := by
  refine Sn.pure fun ls st σ pc' ls' st' σ' hA => ?_
  unfold a_bin at hA
  split at hA
  · obtain ⟨rfl, rfl, rfl, rfl⟩ := onx_inj hA
    refine ⟨rfl, fun D dA sp B xs L us p l e R s m args below meth c hC lv H locs cells slots Q hl hP hS kk => ?_⟩
    exact lv_iadd hC.1 hC.2.1 hd (kk lv hl)
  · exact (osk_nx hA).elim
theorem sn_isub (hd : decode cc pc = .ok (.isub, 1))  : Sn cc own nL rt ini pc (a_bin (fun a b => a - b)) := by
  refine Sn.pure fun ls st σ pc' ls' st' σ' hA => ?_
  unfold a_bin at hA
  split at hA
  · obtain ⟨rfl, rfl, rfl, rfl⟩ := onx_inj hA
    refine ⟨rfl, fun D dA sp B xs L us p l e R s m args below meth c hC lv H locs cells slots Q hl hP hS kk => ?_⟩
    exact lv_isub hC.1 hC.2.1 hd (kk lv hl)
  · exact (osk_nx hA).elim
theorem sn_imul (hd : decode cc pc = .ok (.imul, 1))  : Sn cc own nL rt ini pc (a_bin (fun a b => a * b)) := by
  refine Sn.pure fun ls st σ pc' ls' st' σ' hA => ?_
  unfold a_bin at hA
  split at hA
  · obtain ⟨rfl, rfl, rfl, rfl⟩ := onx_inj hA
    refine ⟨rfl, fun D dA sp B xs L us p l e R s m args below meth c hC lv H locs cells slots Q hl hP hS kk => ?_⟩
    exact lv_imul hC.1 hC.2.1 hd (kk lv hl)
  · exact (osk_nx hA).elim
theorem sn_iand (hd : decode cc pc = .ok (.iand, 1))  : Sn cc own nL rt ini pc (a_bin (fun a b => a &&& b)) := by
  refine Sn.pure fun ls st σ pc' ls' st' σ' hA => ?_
  unfold a_bin at hA
  split at hA
  · obtain ⟨rfl, rfl, rfl, rfl⟩ := onx_inj hA
    refine ⟨rfl, fun D dA sp B xs L us p l e R s m args below meth c hC lv H locs cells slots Q hl hP hS kk => ?_⟩
    exact lv_iand hC.1 hC.2.1 hd (kk lv hl)
  · exact (osk_nx hA).elim
theorem sn_ior (hd : decode cc pc = .ok (.ior, 1))  : Sn cc own nL rt ini pc (a_bin (fun a b => a ||| b)) := by
  refine Sn.pure fun ls st σ pc' ls' st' σ' hA => ?_
  unfold a_bin at hA
  split at hA
  · obtain ⟨rfl, rfl, rfl, rfl⟩ := onx_inj hA
    refine ⟨rfl, fun D dA sp B xs L us p l e R s m args below meth c hC lv H locs cells slots Q hl hP hS kk => ?_⟩
    exact lv_ior hC.1 hC.2.1 hd (kk lv hl)
  · exact (osk_nx hA).elim
theorem sn_ixor (hd : decode cc pc = .ok (.ixor, 1))  : Sn cc own nL rt ini pc (a_bin (fun a b => a ^^^ b)) := by
  refine Sn.pure fun ls st σ pc' ls' st' σ' hA => ?_
  unfold a_bin at hA
  split at hA
  · obtain ⟨rfl, rfl, rfl, rfl⟩ := onx_inj hA
    refine ⟨rfl, fun D dA sp B xs L us p l e R s m args below meth c hC lv H locs cells slots Q hl hP hS kk => ?_⟩
    exact lv_ixor hC.1 hC.2.1 hd (kk lv hl)
  · exact (osk_nx hA).elim
theorem sn_ishl (hd : decode cc pc = .ok (.ishl, 1))  : Sn cc own nL rt ini pc (a_bin (fun a b => a <<< (b &&& 31))) := by
  refine Sn.pure fun ls st σ pc' ls' st' σ' hA => ?_
  unfold a_bin at hA
  split at hA
  · obtain ⟨rfl, rfl, rfl, rfl⟩ := onx_inj hA
    refine ⟨rfl, fun D dA sp B xs L us p l e R s m args below meth c hC lv H locs cells slots Q hl hP hS kk => ?_⟩
    exact lv_ishl hC.1 hC.2.1 hd (kk lv hl)
  · exact (osk_nx hA).elim
theorem sn_ishr (hd : decode cc pc = .ok (.ishr, 1))  : Sn cc own nL rt ini pc (a_bin (fun a b => a >>> (b &&& 31))) := by
  refine Sn.pure fun ls st σ pc' ls' st' σ' hA => ?_
  unfold a_bin at hA
  split at hA
  · obtain ⟨rfl, rfl, rfl, rfl⟩ := onx_inj hA
    refine ⟨rfl, fun D dA sp B xs L us p l e R s m args below meth c hC lv H locs cells slots Q hl hP hS kk => ?_⟩
    exact lv_ishr hC.1 hC.2.1 hd (kk lv hl)
  · exact (osk_nx hA).elim
theorem sn_iushr (hd : decode cc pc = .ok (.iushr, 1))  : Sn cc own nL rt ini pc (a_bin (fun a b => (a.toUInt32 >>> (b.toUInt32 &&& Int32.toUInt32 31)).toInt32)) := by
  refine Sn.pure fun ls st σ pc' ls' st' σ' hA => ?_
  unfold a_bin at hA
  split at hA
  · obtain ⟨rfl, rfl, rfl, rfl⟩ := onx_inj hA
    refine ⟨rfl, fun D dA sp B xs L us p l e R s m args below meth c hC lv H locs cells slots Q hl hP hS kk => ?_⟩
    exact lv_iushr hC.1 hC.2.1 hd rfl (kk lv hl)
  · exact (osk_nx hA).elim
theorem sn_idiv (hd : decode cc pc = .ok (.idiv, 1))  : Sn cc own nL rt ini pc (a_div) := by
  refine Sn.pure fun ls st σ pc' ls' st' σ' hA => ?_
  unfold a_div at hA
  split at hA
  · split at hA
    · exact (osk_nx hA).elim
    · rename_i hg
      obtain ⟨rfl, rfl, rfl, rfl⟩ := onx_inj hA
      refine ⟨rfl, fun D dA sp B xs L us p l e R s m args below meth c hC lv H locs cells slots Q hl hP hS kk => ?_⟩
      exact lv_idiv hC.1 hC.2.1 hd hg (kk lv hl)
  · exact (osk_nx hA).elim
theorem sn_irem (hd : decode cc pc = .ok (.irem, 1))  : Sn cc own nL rt ini pc (a_rem) := by
  refine Sn.pure fun ls st σ pc' ls' st' σ' hA => ?_
  unfold a_rem at hA
  split at hA
  · split at hA
    · exact (osk_nx hA).elim
    · rename_i hg
      obtain ⟨rfl, rfl, rfl, rfl⟩ := onx_inj hA
      refine ⟨rfl, fun D dA sp B xs L us p l e R s m args below meth c hC lv H locs cells slots Q hl hP hS kk => ?_⟩
      exact lv_irem hC.1 hC.2.1 hd hg (kk lv hl)
  · exact (osk_nx hA).elim
theorem sn_i2b (hd : decode cc pc = .ok (.i2b, 1))  : Sn cc own nL rt ini pc (a_un (fun a => a.toInt8.toInt32)) := by
  refine Sn.pure fun ls st σ pc' ls' st' σ' hA => ?_
  unfold a_un at hA
  split at hA
  · obtain ⟨rfl, rfl, rfl, rfl⟩ := onx_inj hA
    refine ⟨rfl, fun D dA sp B xs L us p l e R s m args below meth c hC lv H locs cells slots Q hl hP hS kk => ?_⟩
    exact lv_i2b hC.1 hC.2.1 hd rfl (kk lv hl)
  · exact (osk_nx hA).elim
theorem sn_i2c (hd : decode cc pc = .ok (.i2c, 1))  : Sn cc own nL rt ini pc (a_un (fun a => (a.toUInt32 % 65536).toInt32)) := by
  refine Sn.pure fun ls st σ pc' ls' st' σ' hA => ?_
  unfold a_un at hA
  split at hA
  · obtain ⟨rfl, rfl, rfl, rfl⟩ := onx_inj hA
    refine ⟨rfl, fun D dA sp B xs L us p l e R s m args below meth c hC lv H locs cells slots Q hl hP hS kk => ?_⟩
    exact lv_i2c hC.1 hC.2.1 hd rfl (kk lv hl)
  · exact (osk_nx hA).elim
theorem sn_i2l (hd : decode cc pc = .ok (.i2l, 1))  : Sn cc own nL rt ini pc (a_i2l) := by
  refine Sn.pure fun ls st σ pc' ls' st' σ' hA => ?_
  unfold a_i2l at hA
  split at hA
  · obtain ⟨rfl, rfl, rfl, rfl⟩ := onx_inj hA
    refine ⟨rfl, fun D dA sp B xs L us p l e R s m args below meth c hC lv H locs cells slots Q hl hP hS kk => ?_⟩
    exact lv_i2l hC.1 hC.2.1 hd rfl (kk lv hl)
  · exact (osk_nx hA).elim
theorem sn_ladd (hd : decode cc pc = .ok (.ladd, 1))  : Sn cc own nL rt ini pc (a_lbin (fun a b => a + b)) := by
  refine Sn.pure fun ls st σ pc' ls' st' σ' hA => ?_
  unfold a_lbin at hA
  split at hA
  · obtain ⟨rfl, rfl, rfl, rfl⟩ := onx_inj hA
    refine ⟨rfl, fun D dA sp B xs L us p l e R s m args below meth c hC lv H locs cells slots Q hl hP hS kk => ?_⟩
    exact lv_ladd hC.1 hC.2.1 hd (kk lv hl)
  · exact (osk_nx hA).elim
theorem sn_lsub (hd : decode cc pc = .ok (.lsub, 1))  : Sn cc own nL rt ini pc (a_lbin (fun a b => a - b)) := by
  refine Sn.pure fun ls st σ pc' ls' st' σ' hA => ?_
  unfold a_lbin at hA
  split at hA
  · obtain ⟨rfl, rfl, rfl, rfl⟩ := onx_inj hA
    refine ⟨rfl, fun D dA sp B xs L us p l e R s m args below meth c hC lv H locs cells slots Q hl hP hS kk => ?_⟩
    exact lv_lsub hC.1 hC.2.1 hd (kk lv hl)
  · exact (osk_nx hA).elim
theorem sn_lmul (hd : decode cc pc = .ok (.lmul, 1))  : Sn cc own nL rt ini pc (a_lbin (fun a b => a * b)) := by
  refine Sn.pure fun ls st σ pc' ls' st' σ' hA => ?_
  unfold a_lbin at hA
  split at hA
  · obtain ⟨rfl, rfl, rfl, rfl⟩ := onx_inj hA
    refine ⟨rfl, fun D dA sp B xs L us p l e R s m args below meth c hC lv H locs cells slots Q hl hP hS kk => ?_⟩
    exact lv_lmul hC.1 hC.2.1 hd (kk lv hl)
  · exact (osk_nx hA).elim
theorem sn_lor (hd : decode cc pc = .ok (.lor, 1))  : Sn cc own nL rt ini pc (a_lbin (fun a b => a ||| b)) := by
  refine Sn.pure fun ls st σ pc' ls' st' σ' hA => ?_
  unfold a_lbin at hA
  split at hA
  · obtain ⟨rfl, rfl, rfl, rfl⟩ := onx_inj hA
    refine ⟨rfl, fun D dA sp B xs L us p l e R s m args below meth c hC lv H locs cells slots Q hl hP hS kk => ?_⟩
    exact lv_lor hC.1 hC.2.1 hd (kk lv hl)
  · exact (osk_nx hA).elim
theorem sn_lshl (hd : decode cc pc = .ok (.lshl, 1))  : Sn cc own nL rt ini pc (a_lshl) := by
  refine Sn.pure fun ls st σ pc' ls' st' σ' hA => ?_
  unfold a_lshl at hA
  split at hA
  · obtain ⟨rfl, rfl, rfl, rfl⟩ := onx_inj hA
    refine ⟨rfl, fun D dA sp B xs L us p l e R s m args below meth c hC lv H locs cells slots Q hl hP hS kk => ?_⟩
    exact lv_lshl hC.1 hC.2.1 hd rfl (kk lv hl)
  · exact (osk_nx hA).elim
theorem sn_lcmp (hd : decode cc pc = .ok (.lcmp, 1))  : Sn cc own nL rt ini pc (a_lcmp) := by
  refine Sn.pure fun ls st σ pc' ls' st' σ' hA => ?_
  unfold a_lcmp at hA
  split at hA
  · obtain ⟨rfl, rfl, rfl, rfl⟩ := onx_inj hA
    refine ⟨rfl, fun D dA sp B xs L us p l e R s m args below meth c hC lv H locs cells slots Q hl hP hS kk => ?_⟩
    exact W.lcmp hC.1 hC.2.1 hd (kk lv hl)
  · exact (osk_nx hA).elim
theorem sn_ceq {t : Nat} {off : Int} (hd : decode cc pc = .ok (.if_icmp .eq off, 3)) (ht : (pc : Int) + off = (t : Int)) : Sn cc own nL rt ini pc (a_ceq t) := by
  refine Sn.pure fun ls st σ pc' ls' st' σ' hA => ?_
  unfold a_ceq at hA
  split at hA
  · split at hA
    · rename_i hg
      obtain ⟨rfl, rfl, rfl, rfl⟩ := onx_inj hA
      refine ⟨rfl, fun D dA sp B xs L us p l e R s m args below meth c hC lv H locs cells slots Q hl hP hS kk => ?_⟩
      exact lv_icmp_eq hC.1 hC.2.1 hd ht (fun _ => kk lv hl) (fun z => absurd hg z)
    · rename_i hg
      obtain ⟨rfl, rfl, rfl, rfl⟩ := onx_inj hA
      refine ⟨rfl, fun D dA sp B xs L us p l e R s m args below meth c hC lv H locs cells slots Q hl hP hS kk => ?_⟩
      exact lv_icmp_eq hC.1 hC.2.1 hd ht (fun z => absurd z hg) (fun _ => kk lv hl)
  · exact (osk_nx hA).elim
theorem sn_zeq {t : Nat} {off : Int} (hd : decode cc pc = .ok (.ifCond .eq off, 3)) (ht : (pc : Int) + off = (t : Int)) : Sn cc own nL rt ini pc (a_zeq t) := by
  refine Sn.pure fun ls st σ pc' ls' st' σ' hA => ?_
  unfold a_zeq at hA
  split at hA
  · split at hA
    · rename_i hg
      obtain ⟨rfl, rfl, rfl, rfl⟩ := onx_inj hA
      refine ⟨rfl, fun D dA sp B xs L us p l e R s m args below meth c hC lv H locs cells slots Q hl hP hS kk => ?_⟩
      exact lv_if_eq hC.1 hC.2.1 hd ht (fun _ => kk lv hl) (fun z => absurd hg z)
    · rename_i hg
      obtain ⟨rfl, rfl, rfl, rfl⟩ := onx_inj hA
      refine ⟨rfl, fun D dA sp B xs L us p l e R s m args below meth c hC lv H locs cells slots Q hl hP hS kk => ?_⟩
      exact lv_if_eq hC.1 hC.2.1 hd ht (fun z => absurd z hg) (fun _ => kk lv hl)
  · exact (osk_nx hA).elim
theorem sn_cne {t : Nat} {off : Int} (hd : decode cc pc = .ok (.if_icmp .ne off, 3)) (ht : (pc : Int) + off = (t : Int)) : Sn cc own nL rt ini pc (a_cne t) := by
  refine Sn.pure fun ls st σ pc' ls' st' σ' hA => ?_
  unfold a_cne at hA
  split at hA
  · split at hA
    · rename_i hg
      obtain ⟨rfl, rfl, rfl, rfl⟩ := onx_inj hA
      refine ⟨rfl, fun D dA sp B xs L us p l e R s m args below meth c hC lv H locs cells slots Q hl hP hS kk => ?_⟩
      exact lv_icmp_ne hC.1 hC.2.1 hd ht (fun z => absurd hg z) (fun _ => kk lv hl)
    · rename_i hg
      obtain ⟨rfl, rfl, rfl, rfl⟩ := onx_inj hA
      refine ⟨rfl, fun D dA sp B xs L us p l e R s m args below meth c hC lv H locs cells slots Q hl hP hS kk => ?_⟩
      exact lv_icmp_ne hC.1 hC.2.1 hd ht (fun _ => kk lv hl) (fun z => absurd z hg)
  · exact (osk_nx hA).elim
theorem sn_zne {t : Nat} {off : Int} (hd : decode cc pc = .ok (.ifCond .ne off, 3)) (ht : (pc : Int) + off = (t : Int)) : Sn cc own nL rt ini pc (a_zne t) := by
  refine Sn.pure fun ls st σ pc' ls' st' σ' hA => ?_
  unfold a_zne at hA
  split at hA
  · split at hA
    · rename_i hg
      obtain ⟨rfl, rfl, rfl, rfl⟩ := onx_inj hA
      refine ⟨rfl, fun D dA sp B xs L us p l e R s m args below meth c hC lv H locs cells slots Q hl hP hS kk => ?_⟩
      exact lv_if_ne hC.1 hC.2.1 hd ht (fun z => absurd hg z) (fun _ => kk lv hl)
    · rename_i hg
      obtain ⟨rfl, rfl, rfl, rfl⟩ := onx_inj hA
      refine ⟨rfl, fun D dA sp B xs L us p l e R s m args below meth c hC lv H locs cells slots Q hl hP hS kk => ?_⟩
      exact lv_if_ne hC.1 hC.2.1 hd ht (fun _ => kk lv hl) (fun z => absurd z hg)
  · exact (osk_nx hA).elim
theorem sn_clt {t : Nat} {off : Int} (hd : decode cc pc = .ok (.if_icmp .lt off, 3)) (ht : (pc : Int) + off = (t : Int)) : Sn cc own nL rt ini pc (a_clt t) := by
  refine Sn.pure fun ls st σ pc' ls' st' σ' hA => ?_
  unfold a_clt at hA
  split at hA
  · split at hA
    · rename_i hg
      obtain ⟨rfl, rfl, rfl, rfl⟩ := onx_inj hA
      refine ⟨rfl, fun D dA sp B xs L us p l e R s m args below meth c hC lv H locs cells slots Q hl hP hS kk => ?_⟩
      exact lv_icmp_lt hC.1 hC.2.1 hd ht (fun _ => kk lv hl) (fun z => absurd hg z)
    · rename_i hg
      obtain ⟨rfl, rfl, rfl, rfl⟩ := onx_inj hA
      refine ⟨rfl, fun D dA sp B xs L us p l e R s m args below meth c hC lv H locs cells slots Q hl hP hS kk => ?_⟩
      exact lv_icmp_lt hC.1 hC.2.1 hd ht (fun z => absurd z hg) (fun _ => kk lv hl)
  · exact (osk_nx hA).elim
theorem sn_zlt {t : Nat} {off : Int} (hd : decode cc pc = .ok (.ifCond .lt off, 3)) (ht : (pc : Int) + off = (t : Int)) : Sn cc own nL rt ini pc (a_zlt t) := by
  refine Sn.pure fun ls st σ pc' ls' st' σ' hA => ?_
  unfold a_zlt at hA
  split at hA
  · split at hA
    · rename_i hg
      obtain ⟨rfl, rfl, rfl, rfl⟩ := onx_inj hA
      refine ⟨rfl, fun D dA sp B xs L us p l e R s m args below meth c hC lv H locs cells slots Q hl hP hS kk => ?_⟩
      exact lv_if_lt hC.1 hC.2.1 hd ht (fun _ => kk lv hl) (fun z => absurd hg z)
    · rename_i hg
      obtain ⟨rfl, rfl, rfl, rfl⟩ := onx_inj hA
      refine ⟨rfl, fun D dA sp B xs L us p l e R s m args below meth c hC lv H locs cells slots Q hl hP hS kk => ?_⟩
      exact lv_if_lt hC.1 hC.2.1 hd ht (fun z => absurd z hg) (fun _ => kk lv hl)
  · exact (osk_nx hA).elim
theorem sn_cge {t : Nat} {off : Int} (hd : decode cc pc = .ok (.if_icmp .ge off, 3)) (ht : (pc : Int) + off = (t : Int)) : Sn cc own nL rt ini pc (a_cge t) := by
  refine Sn.pure fun ls st σ pc' ls' st' σ' hA => ?_
  unfold a_cge at hA
  split at hA
  · split at hA
    · rename_i hg
      obtain ⟨rfl, rfl, rfl, rfl⟩ := onx_inj hA
      refine ⟨rfl, fun D dA sp B xs L us p l e R s m args below meth c hC lv H locs cells slots Q hl hP hS kk => ?_⟩
      exact lv_icmp_ge hC.1 hC.2.1 hd ht (fun _ => kk lv hl) (fun z => absurd hg z)
    · rename_i hg
      obtain ⟨rfl, rfl, rfl, rfl⟩ := onx_inj hA
      refine ⟨rfl, fun D dA sp B xs L us p l e R s m args below meth c hC lv H locs cells slots Q hl hP hS kk => ?_⟩
      exact lv_icmp_ge hC.1 hC.2.1 hd ht (fun z => absurd z hg) (fun _ => kk lv hl)
  · exact (osk_nx hA).elim
theorem sn_zge {t : Nat} {off : Int} (hd : decode cc pc = .ok (.ifCond .ge off, 3)) (ht : (pc : Int) + off = (t : Int)) : Sn cc own nL rt ini pc (a_zge t) := by
  refine Sn.pure fun ls st σ pc' ls' st' σ' hA => ?_
  unfold a_zge at hA
  split at hA
  · split at hA
    · rename_i hg
      obtain ⟨rfl, rfl, rfl, rfl⟩ := onx_inj hA
      refine ⟨rfl, fun D dA sp B xs L us p l e R s m args below meth c hC lv H locs cells slots Q hl hP hS kk => ?_⟩
      exact lv_if_ge hC.1 hC.2.1 hd ht (fun _ => kk lv hl) (fun z => absurd hg z)
    · rename_i hg
      obtain ⟨rfl, rfl, rfl, rfl⟩ := onx_inj hA
      refine ⟨rfl, fun D dA sp B xs L us p l e R s m args below meth c hC lv H locs cells slots Q hl hP hS kk => ?_⟩
      exact lv_if_ge hC.1 hC.2.1 hd ht (fun z => absurd z hg) (fun _ => kk lv hl)
  · exact (osk_nx hA).elim
theorem sn_cgt {t : Nat} {off : Int} (hd : decode cc pc = .ok (.if_icmp .gt off, 3)) (ht : (pc : Int) + off = (t : Int)) : Sn cc own nL rt ini pc (a_cgt t) := by
  refine Sn.pure fun ls st σ pc' ls' st' σ' hA => ?_
  unfold a_cgt at hA
  split at hA
  · split at hA
    · rename_i hg
      obtain ⟨rfl, rfl, rfl, rfl⟩ := onx_inj hA
      refine ⟨rfl, fun D dA sp B xs L us p l e R s m args below meth c hC lv H locs cells slots Q hl hP hS kk => ?_⟩
      exact lv_icmp_gt hC.1 hC.2.1 hd ht (fun _ => kk lv hl) (fun z => absurd hg z)
    · rename_i hg
      obtain ⟨rfl, rfl, rfl, rfl⟩ := onx_inj hA
      refine ⟨rfl, fun D dA sp B xs L us p l e R s m args below meth c hC lv H locs cells slots Q hl hP hS kk => ?_⟩
      exact lv_icmp_gt hC.1 hC.2.1 hd ht (fun z => absurd z hg) (fun _ => kk lv hl)
  · exact (osk_nx hA).elim
theorem sn_zgt {t : Nat} {off : Int} (hd : decode cc pc = .ok (.ifCond .gt off, 3)) (ht : (pc : Int) + off = (t : Int)) : Sn cc own nL rt ini pc (a_zgt t) := by
  refine Sn.pure fun ls st σ pc' ls' st' σ' hA => ?_
  unfold a_zgt at hA
  split at hA
  · split at hA
    · rename_i hg
      obtain ⟨rfl, rfl, rfl, rfl⟩ := onx_inj hA
      refine ⟨rfl, fun D dA sp B xs L us p l e R s m args below meth c hC lv H locs cells slots Q hl hP hS kk => ?_⟩
      exact lv_if_gt hC.1 hC.2.1 hd ht (fun _ => kk lv hl) (fun z => absurd hg z)
    · rename_i hg
      obtain ⟨rfl, rfl, rfl, rfl⟩ := onx_inj hA
      refine ⟨rfl, fun D dA sp B xs L us p l e R s m args below meth c hC lv H locs cells slots Q hl hP hS kk => ?_⟩
      exact lv_if_gt hC.1 hC.2.1 hd ht (fun z => absurd z hg) (fun _ => kk lv hl)
  · exact (osk_nx hA).elim
theorem sn_cle {t : Nat} {off : Int} (hd : decode cc pc = .ok (.if_icmp .le off, 3)) (ht : (pc : Int) + off = (t : Int)) : Sn cc own nL rt ini pc (a_cle t) := by
  refine Sn.pure fun ls st σ pc' ls' st' σ' hA => ?_
  unfold a_cle at hA
  split at hA
  · split at hA
    · rename_i hg
      obtain ⟨rfl, rfl, rfl, rfl⟩ := onx_inj hA
      refine ⟨rfl, fun D dA sp B xs L us p l e R s m args below meth c hC lv H locs cells slots Q hl hP hS kk => ?_⟩
      exact lv_icmp_le hC.1 hC.2.1 hd ht (fun _ => kk lv hl) (fun z => absurd hg z)
    · rename_i hg
      obtain ⟨rfl, rfl, rfl, rfl⟩ := onx_inj hA
      refine ⟨rfl, fun D dA sp B xs L us p l e R s m args below meth c hC lv H locs cells slots Q hl hP hS kk => ?_⟩
      exact lv_icmp_le hC.1 hC.2.1 hd ht (fun z => absurd z hg) (fun _ => kk lv hl)
  · exact (osk_nx hA).elim
theorem sn_zle {t : Nat} {off : Int} (hd : decode cc pc = .ok (.ifCond .le off, 3)) (ht : (pc : Int) + off = (t : Int)) : Sn cc own nL rt ini pc (a_zle t) := by
  refine Sn.pure fun ls st σ pc' ls' st' σ' hA => ?_
  unfold a_zle at hA
  split at hA
  · split at hA
    · rename_i hg
      obtain ⟨rfl, rfl, rfl, rfl⟩ := onx_inj hA
      refine ⟨rfl, fun D dA sp B xs L us p l e R s m args below meth c hC lv H locs cells slots Q hl hP hS kk => ?_⟩
      exact lv_if_le hC.1 hC.2.1 hd ht (fun _ => kk lv hl) (fun z => absurd hg z)
    · rename_i hg
      obtain ⟨rfl, rfl, rfl, rfl⟩ := onx_inj hA
      refine ⟨rfl, fun D dA sp B xs L us p l e R s m args below meth c hC lv H locs cells slots Q hl hP hS kk => ?_⟩
      exact lv_if_le hC.1 hC.2.1 hd ht (fun z => absurd z hg) (fun _ => kk lv hl)
  · exact (osk_nx hA).elim
theorem sn_goto {t : Nat} {off : Int} (hd : decode cc pc = .ok (.goto off, 3)) (ht : (pc : Int) + off = (t : Int)) : Sn cc own nL rt ini pc (a_go t) := by
  refine Sn.pure fun ls st σ pc' ls' st' σ' hA => ?_
  unfold a_go at hA
  obtain ⟨rfl, rfl, rfl, rfl⟩ := onx_inj hA
  refine ⟨rfl, fun D dA sp B xs L us p l e R s m args below meth c hC lv H locs cells slots Q hl hP hS kk => ?_⟩
  exact lv_goto hC.1 hC.2.1 hd ht (kk lv hl)
theorem sn_ifnull {t : Nat} {off : Int} (hd : decode cc pc = .ok (.ifnull off, 3)) (ht : (pc : Int) + off = (t : Int)) : Sn cc own nL rt ini pc (a_ifnull t) := by
  refine Sn.pure fun ls st σ pc' ls' st' σ' hA => ?_
  unfold a_ifnull at hA
  split at hA
  · obtain ⟨rfl, rfl, rfl, rfl⟩ := onx_inj hA
    refine ⟨rfl, fun D dA sp B xs L us p l e R s m args below meth c hC lv H locs cells slots Q hl hP hS kk => ?_⟩
    exact lv_ifnull hC.1 hC.2.1 hd (kk lv hl)
  · obtain ⟨rfl, rfl, rfl, rfl⟩ := onx_inj hA
    refine ⟨rfl, fun D dA sp B xs L us p l e R s m args below meth c hC lv H locs cells slots Q hl hP hS kk => ?_⟩
    exact lv_ifnullN hC.1 hC.2.1 hd ht (kk lv hl)
  · exact (osk_nx hA).elim
theorem sn_ifnonnull {t : Nat} {off : Int} (hd : decode cc pc = .ok (.ifnonnull off, 3)) (ht : (pc : Int) + off = (t : Int)) : Sn cc own nL rt ini pc (a_ifnn t) := by
  refine Sn.pure fun ls st σ pc' ls' st' σ' hA => ?_
  unfold a_ifnn at hA
  split at hA
  · obtain ⟨rfl, rfl, rfl, rfl⟩ := onx_inj hA
    refine ⟨rfl, fun D dA sp B xs L us p l e R s m args below meth c hC lv H locs cells slots Q hl hP hS kk => ?_⟩
    exact lv_ifnonnull hC.1 hC.2.1 hd ht (kk lv hl)
  · obtain ⟨rfl, rfl, rfl, rfl⟩ := onx_inj hA
    refine ⟨rfl, fun D dA sp B xs L us p l e R s m args below meth c hC lv H locs cells slots Q hl hP hS kk => ?_⟩
    exact lv_ifnonnullN hC.1 hC.2.1 hd (kk lv hl)
  · exact (osk_nx hA).elim
theorem sn_tab {lo hi dflt : Int} {offs : Array Int} {len dd : Nat} {ts : List Nat} (hd : decode cc pc = .ok (.tableswitch dflt lo hi offs, len)) (hdd : (pc : Int) + dflt = (dd : Int)) (hts : offs.toList.map (fun o => (pc : Int) + o) = ts.map (fun (t : Nat) => (t : Int))) (hhi : hi = lo + (ts.length : Int) - 1) : Sn cc own nL rt ini pc (a_tab lo ts dd) := by
  refine Sn.pure fun ls st σ pc' ls' st' σ' hA => ?_
  unfold a_tab at hA
  split at hA
  · rename_i x st2
    obtain ⟨rfl, rfl, rfl, rfl⟩ := onx_inj hA
    refine ⟨rfl, fun D dA sp B xs L us p l e R s m args below meth c hC lv H locs cells slots Q hl hP hS kk => ?_⟩
    by_cases hx : x.toInt < lo ∨ lo + (ts.length : Int) ≤ x.toInt
    · rw [show tabT lo ts dd x = dd from if_pos hx] at kk
      exact lv_tableOut hC.1 hC.2.1 hd (by omega) hdd (kk lv hl)
    · have hn : (x.toInt - lo).toNat < ts.length := by omega
      have e1 : tabT lo ts dd x = ts[(x.toInt - lo).toNat] := by
        rw [tabT, if_neg hx, List.getD_eq_getElem?_getD, List.getElem?_eq_getElem hn, Option.getD_some]
      rw [e1] at kk
      have hlen : offs.toList.length = ts.length := by
        have := congrArg List.length hts
        simpa using this
      have h2 : (offs.toList.map (fun o => (pc : Int) + o))[(x.toInt - lo).toNat]? = (ts.map (fun (t : Nat) => (t : Int)))[(x.toInt - lo).toNat]? := by rw [hts]
      rw [List.getElem?_map, List.getElem?_map, List.getElem?_eq_getElem hn, List.getElem?_eq_getElem (by rw [hlen]; exact hn)] at h2
      simp only [Option.map_some, Option.some.injEq] at h2
      exact lv_tableIn hC.1 hC.2.1 hd (by omega) (by omega) (off := offs.toList[(x.toInt - lo).toNat]'(by rw [hlen]; exact hn)) (by rw [← Array.getElem?_toList]; exact List.getElem?_eq_getElem _) h2 (kk lv hl)
  · exact (osk_nx hA).elim
end SN
