/-! SOUNDNESS of the actions on arrays, new cells, Strings, statics (printed by tools/gen_sna.py) -/
section SNA1
variable {D : va_G} {dA : Nat → ClassId} {sp : Nat → Nat} {B : Nat} {xs : Nat → Int32} {L : Nat} {us : Nat → Option Nat}
theorem rr_sp {a : Nat} (h : a < 100) : rr sp B (.ref a) = .ref (sp a) := by
  show Value.ref (rho sp B a) = _
  rw [rho, if_pos h]
theorem PH_arr {σ : HS} {H : Heap} {a t q : Nat} {ty : FieldType} (h : PH D dA sp B xs L us σ H) (ha : tof σ a = 100 + t) (ht : atL[t]? = some (ty, q)) : (wld dA sp B σ)[a - 100]? = some (rho sp B a, .inl (dA t, nof σ a, contA sp B q σ a)) := by
  have hat := PH_at h (show tof σ a ≠ 0 by omega)
  rwa [cel_arr ha ht] at hat
theorem iput_up (σ : HS) (a i : Nat) (v : Int32) : iof (iput σ a i v) a = upd (iof σ a) i v := by
  funext j
  rw [iof_iput]
  by_cases h : j = i <;> simp [upd, h]
theorem lput_up (σ : HS) (a i : Nat) (v : Int64) : lof (lput σ a i v) a = vp_updL (lof σ a) i v := by
  funext j
  rw [lof_lput]
  by_cases h : j = i <;> simp [vp_updL, h]
theorem rput_up (σ : HS) (a i : Nat) (v : Option Nat) : (fun j => (rof (rput σ a i v) a j).map (rho sp B)) = va_up (fun j => (rof σ a j).map (rho sp B)) i (v.map (rho sp B)) := by
  funext j
  rw [rof_rput]
  by_cases h : j = i <;> simp [va_up, h]
/-- a reference field's world, what a cell of a class is -/
theorem PH_obj {σ : HS} {H : Heap} {a ci : Nat} (h : PH D dA sp B xs L us σ H) (ha : tof σ a = ci + 1) (hc : ci < 99) : (wld dA sp B σ)[a - 100]? = some (rho sp B a, .inr (ci, flds sp B ci σ a)) := by
  have hat := PH_at h (show tof σ a ≠ 0 by omega)
  rwa [cel_obj ha (by omega), Nat.add_sub_cancel] at hat
/-- a cell is new -/
theorem PH_new {σ σ' : HS} {H H1 : Heap} {s : State} {cells t n w : Nat} (h : PH D dA sp B xs L us σ H) (hσ : σ' = hnew σ t n w) (ht : t ≠ 0) (hz : H.size = s.heap.size + cells)
    (hP : va_P D vwCl (wld dA sp B σ ++ [(B + (nxt σ - 100), cel dA sp B σ' (nxt σ))]) H1) (hz1 : H1.size ≤ s.heap.size + (cells + 1)) : PH D dA sp B xs L us σ' H1 := by
  subst hσ
  obtain ⟨h1, h2, h3, h4, h5, h6⟩ := h
  have h0 := h3.1
  rw [wld_push h0 rfl hnew_cel] at hP
  have hn : nxt (hnew σ t n w) = nxt σ + 1 := rfl
  have hlo := wld_size hP (by rw [hn]; omega)
  refine ⟨hP, by rw [hn] at hlo ⊢; omega, ⟨by rw [hn]; omega, fun b hb => ?_⟩, ?_, fun j hj => ?_, ?_⟩
  · rw [hn]
    rw [tof_hnew] at hb
    by_cases e : b = nxt σ
    · omega
    · rw [if_neg e] at hb
      have := h3.2 b hb
      omega
  · rw [nof_hnew, if_neg (by omega)]; exact h4
  · rw [iof_hnew, if_neg (by omega)]; exact h5 j hj
  · funext j
    rw [rof_hnew, if_neg (by omega)]; exact congrFun h6 j
theorem rho_nxt {σ : HS} {H : Heap} (h : PH D dA sp B xs L us σ H) : rho sp B (nxt σ) = H.size := by
  rw [h.2.1]
  have := h.2.2.1.1
  exact if_neg (by omega)
end SNA1
section SNA
variable {cc : ByteArray} {own : String} {nL : Nat} {rt : Option FieldType} {ini : Bool} {pc : Nat}
theorem sn_iald (hd : decode cc pc = .ok (.iaload, 1)) : Sn cc own nL rt ini pc (a_iald 100) := by
  refine Sn.pure fun ls st σ pc' ls' st' σ' hA => ?_
  unfold a_iald at hA
  split at hA
  · split at hA
    · rename_i hg
      obtain ⟨rfl, rfl, rfl, rfl⟩ := onx_inj hA
      refine ⟨rfl, fun D dA sp B xs L us p l e R s m args below meth c hC lv H locs cells slots Q hl hP hS kk => ?_⟩
      exact va_iald hC.1 hC.2.1 hC.2.2.2.2.2.2.2.1.1 hP.1 _ 0 (PH_arr hP (t := 0) hg.1 rfl) (tyL_at (t := 0) rfl) hg.2 hd (kk lv hl)
    · exact (osk_nx hA).elim
  · exact (osk_nx hA).elim
theorem sn_bald (hd : decode cc pc = .ok (.baload, 1)) : Sn cc own nL rt ini pc (a_iald 101) := by
  refine Sn.pure fun ls st σ pc' ls' st' σ' hA => ?_
  unfold a_iald at hA
  split at hA
  · split at hA
    · rename_i hg
      obtain ⟨rfl, rfl, rfl, rfl⟩ := onx_inj hA
      refine ⟨rfl, fun D dA sp B xs L us p l e R s m args below meth c hC lv H locs cells slots Q hl hP hS kk => ?_⟩
      exact va_bald hC.1 hC.2.1 hC.2.2.2.2.2.2.2.1.1 hP.1 _ 1 (PH_arr hP (t := 1) hg.1 rfl) (tyL_at (t := 1) rfl) hg.2 hd (kk lv hl)
    · exact (osk_nx hA).elim
  · exact (osk_nx hA).elim
theorem sn_zald (hd : decode cc pc = .ok (.baload, 1)) : Sn cc own nL rt ini pc (a_iald 102) := by
  refine Sn.pure fun ls st σ pc' ls' st' σ' hA => ?_
  unfold a_iald at hA
  split at hA
  · split at hA
    · rename_i hg
      obtain ⟨rfl, rfl, rfl, rfl⟩ := onx_inj hA
      refine ⟨rfl, fun D dA sp B xs L us p l e R s m args below meth c hC lv H locs cells slots Q hl hP hS kk => ?_⟩
      exact va_zald hC.1 hC.2.1 hC.2.2.2.2.2.2.2.1.1 hP.1 _ 2 (PH_arr hP (t := 2) hg.1 rfl) (tyL_at (t := 2) rfl) hg.2 hd (kk lv hl)
    · exact (osk_nx hA).elim
  · exact (osk_nx hA).elim
theorem sn_lald (hd : decode cc pc = .ok (.laload, 1)) : Sn cc own nL rt ini pc (a_lald 103) := by
  refine Sn.pure fun ls st σ pc' ls' st' σ' hA => ?_
  unfold a_lald at hA
  split at hA
  · split at hA
    · rename_i hg
      obtain ⟨rfl, rfl, rfl, rfl⟩ := onx_inj hA
      refine ⟨rfl, fun D dA sp B xs L us p l e R s m args below meth c hC lv H locs cells slots Q hl hP hS kk => ?_⟩
      exact va_lald hC.1 hC.2.1 hC.2.2.2.2.2.2.2.1.1 hP.1 _ 3 (PH_arr hP (t := 3) hg.1 rfl) (tyL_at (t := 3) rfl) hg.2 hd (kk lv hl)
    · exact (osk_nx hA).elim
  · exact (osk_nx hA).elim
theorem sn_iast (hd : decode cc pc = .ok (.iastore, 1)) : Sn cc own nL rt ini pc (a_iast 100 (fun v => v)) := by
  have key : ∀ (ls st : List Value) (σ : HS) (pc' : Nat) (ls' st' : List Value) (σ' : HS), a_iast 100 (fun v => v) pc ls st σ = o_nx pc' ls' st' σ' → ∃ v i a, st = .int v :: .int i :: .ref a :: st' ∧ tof σ a = 100 ∧ vp_in i (nof σ a) ∧ pc' = pc + 1 ∧ ls' = ls ∧ σ' = iput σ a i.toNatClampNeg v := by
    intro ls st σ pc' ls' st' σ' hA
    unfold a_iast at hA
    split at hA
    · split at hA
      · rename_i hg
        obtain ⟨rfl, rfl, rfl, rfl⟩ := onx_inj hA
        exact ⟨_, _, _, rfl, hg.1, hg.2, rfl, rfl, rfl⟩
      · exact (osk_nx hA).elim
    · exact (osk_nx hA).elim
  refine ⟨fun ls st σ pc' ls' st' σ' hA => ?_, ?_⟩
  · obtain ⟨v, i, a, -, -, -, -, -, rfl⟩ := key _ _ _ _ _ _ _ hA
    exact ⟨Nat.le_refl _, Nat.le_refl _⟩
  · intro D dA sp B xs L us p l e R s m args below meth c hC ls st σ pc' ls' st' σ' hA lv H locs cells slots Q hl hP hS hz hc hs kk
    obtain ⟨v, i, a, rfl, ha, hi, rfl, rfl, rfl⟩ := key _ _ _ _ _ _ _ hA
    refine va_iast hC.1 hC.2.1 hC.2.2.2.2.2.2.2.1.1 hP.1 (wld_D dA sp B σ) hS _ 0 (PH_arr hP (t := 0) ha rfl) (tyL_at (t := 0) rfl) hi hd (fun H1 locs1 hP1 _ hS1 => W_sz fun hz1 => ?_)
    have hP2 : PH D dA sp B xs L us (iput σ a i.toNatClampNeg v) H1 := PH_iput hP (by omega) hz (by rw [cel_arr (t := 0) (show tof (iput σ a i.toNatClampNeg v) a = 100 + 0 from ha) rfl]; simp only [contA, iput_up]; exact hP1) hz1
    have := kk lv H1 locs1 hl hP2 hS1
    rwa [show nxt (iput σ a i.toNatClampNeg v) - nxt σ = 0 from Nat.sub_self _, show slt (iput σ a i.toNatClampNeg v) - slt σ = 0 from Nat.sub_self _] at this
theorem sn_bast (hd : decode cc pc = .ok (.bastore, 1)) : Sn cc own nL rt ini pc (a_iast 101 (vp_nar .byte)) := by
  have key : ∀ (ls st : List Value) (σ : HS) (pc' : Nat) (ls' st' : List Value) (σ' : HS), a_iast 101 (vp_nar .byte) pc ls st σ = o_nx pc' ls' st' σ' → ∃ v i a, st = .int v :: .int i :: .ref a :: st' ∧ tof σ a = 101 ∧ vp_in i (nof σ a) ∧ pc' = pc + 1 ∧ ls' = ls ∧ σ' = iput σ a i.toNatClampNeg (vp_nar .byte v) := by
    intro ls st σ pc' ls' st' σ' hA
    unfold a_iast at hA
    split at hA
    · split at hA
      · rename_i hg
        obtain ⟨rfl, rfl, rfl, rfl⟩ := onx_inj hA
        exact ⟨_, _, _, rfl, hg.1, hg.2, rfl, rfl, rfl⟩
      · exact (osk_nx hA).elim
    · exact (osk_nx hA).elim
  refine ⟨fun ls st σ pc' ls' st' σ' hA => ?_, ?_⟩
  · obtain ⟨v, i, a, -, -, -, -, -, rfl⟩ := key _ _ _ _ _ _ _ hA
    exact ⟨Nat.le_refl _, Nat.le_refl _⟩
  · intro D dA sp B xs L us p l e R s m args below meth c hC ls st σ pc' ls' st' σ' hA lv H locs cells slots Q hl hP hS hz hc hs kk
    obtain ⟨v, i, a, rfl, ha, hi, rfl, rfl, rfl⟩ := key _ _ _ _ _ _ _ hA
    refine va_bast hC.1 hC.2.1 hC.2.2.2.2.2.2.2.1.1 hP.1 (wld_D dA sp B σ) hS _ 1 (PH_arr hP (t := 1) ha rfl) (tyL_at (t := 1) rfl) hi hd (fun H1 locs1 hP1 _ hS1 => W_sz fun hz1 => ?_)
    have hP2 : PH D dA sp B xs L us (iput σ a i.toNatClampNeg (vp_nar .byte v)) H1 := PH_iput hP (by omega) hz (by rw [cel_arr (t := 1) (show tof (iput σ a i.toNatClampNeg (vp_nar .byte v)) a = 100 + 1 from ha) rfl]; simp only [contA, iput_up]; exact hP1) hz1
    have := kk lv H1 locs1 hl hP2 hS1
    rwa [show nxt (iput σ a i.toNatClampNeg (vp_nar .byte v)) - nxt σ = 0 from Nat.sub_self _, show slt (iput σ a i.toNatClampNeg (vp_nar .byte v)) - slt σ = 0 from Nat.sub_self _] at this
theorem sn_zast (hd : decode cc pc = .ok (.bastore, 1)) : Sn cc own nL rt ini pc (a_iast 102 (vp_nar .boolean)) := by
  have key : ∀ (ls st : List Value) (σ : HS) (pc' : Nat) (ls' st' : List Value) (σ' : HS), a_iast 102 (vp_nar .boolean) pc ls st σ = o_nx pc' ls' st' σ' → ∃ v i a, st = .int v :: .int i :: .ref a :: st' ∧ tof σ a = 102 ∧ vp_in i (nof σ a) ∧ pc' = pc + 1 ∧ ls' = ls ∧ σ' = iput σ a i.toNatClampNeg (vp_nar .boolean v) := by
    intro ls st σ pc' ls' st' σ' hA
    unfold a_iast at hA
    split at hA
    · split at hA
      · rename_i hg
        obtain ⟨rfl, rfl, rfl, rfl⟩ := onx_inj hA
        exact ⟨_, _, _, rfl, hg.1, hg.2, rfl, rfl, rfl⟩
      · exact (osk_nx hA).elim
    · exact (osk_nx hA).elim
  refine ⟨fun ls st σ pc' ls' st' σ' hA => ?_, ?_⟩
  · obtain ⟨v, i, a, -, -, -, -, -, rfl⟩ := key _ _ _ _ _ _ _ hA
    exact ⟨Nat.le_refl _, Nat.le_refl _⟩
  · intro D dA sp B xs L us p l e R s m args below meth c hC ls st σ pc' ls' st' σ' hA lv H locs cells slots Q hl hP hS hz hc hs kk
    obtain ⟨v, i, a, rfl, ha, hi, rfl, rfl, rfl⟩ := key _ _ _ _ _ _ _ hA
    refine va_zast hC.1 hC.2.1 hC.2.2.2.2.2.2.2.1.1 hP.1 (wld_D dA sp B σ) hS _ 2 (PH_arr hP (t := 2) ha rfl) (tyL_at (t := 2) rfl) hi hd (fun H1 locs1 hP1 _ hS1 => W_sz fun hz1 => ?_)
    have hP2 : PH D dA sp B xs L us (iput σ a i.toNatClampNeg (vp_nar .boolean v)) H1 := PH_iput hP (by omega) hz (by rw [cel_arr (t := 2) (show tof (iput σ a i.toNatClampNeg (vp_nar .boolean v)) a = 100 + 2 from ha) rfl]; simp only [contA, iput_up]; exact hP1) hz1
    have := kk lv H1 locs1 hl hP2 hS1
    rwa [show nxt (iput σ a i.toNatClampNeg (vp_nar .boolean v)) - nxt σ = 0 from Nat.sub_self _, show slt (iput σ a i.toNatClampNeg (vp_nar .boolean v)) - slt σ = 0 from Nat.sub_self _] at this
theorem sn_last (hd : decode cc pc = .ok (.lastore, 1)) : Sn cc own nL rt ini pc (a_last 103) := by
  have key : ∀ (ls st : List Value) (σ : HS) (pc' : Nat) (ls' st' : List Value) (σ' : HS), a_last 103 pc ls st σ = o_nx pc' ls' st' σ' → ∃ v i a, st = .long v :: .int i :: .ref a :: st' ∧ tof σ a = 103 ∧ vp_in i (nof σ a) ∧ pc' = pc + 1 ∧ ls' = ls ∧ σ' = lput σ a i.toNatClampNeg v := by
    intro ls st σ pc' ls' st' σ' hA
    unfold a_last at hA
    split at hA
    · split at hA
      · rename_i hg
        obtain ⟨rfl, rfl, rfl, rfl⟩ := onx_inj hA
        exact ⟨_, _, _, rfl, hg.1, hg.2, rfl, rfl, rfl⟩
      · exact (osk_nx hA).elim
    · exact (osk_nx hA).elim
  refine ⟨fun ls st σ pc' ls' st' σ' hA => ?_, ?_⟩
  · obtain ⟨v, i, a, -, -, -, -, -, rfl⟩ := key _ _ _ _ _ _ _ hA
    exact ⟨Nat.le_refl _, Nat.le_refl _⟩
  · intro D dA sp B xs L us p l e R s m args below meth c hC ls st σ pc' ls' st' σ' hA lv H locs cells slots Q hl hP hS hz hc hs kk
    obtain ⟨v, i, a, rfl, ha, hi, rfl, rfl, rfl⟩ := key _ _ _ _ _ _ _ hA
    refine va_last hC.1 hC.2.1 hC.2.2.2.2.2.2.2.1.1 hP.1 (wld_D dA sp B σ) hS _ 3 (PH_arr hP (t := 3) ha rfl) (tyL_at (t := 3) rfl) hi hd (fun H1 locs1 hP1 _ hS1 => W_sz fun hz1 => ?_)
    have hP2 : PH D dA sp B xs L us (lput σ a i.toNatClampNeg v) H1 := PH_lput hP (by omega) hz (by rw [cel_arr (t := 3) (show tof (lput σ a i.toNatClampNeg v) a = 100 + 3 from ha) rfl]; simp only [contA, lput_up]; exact hP1) hz1
    have := kk lv H1 locs1 hl hP2 hS1
    rwa [show nxt (lput σ a i.toNatClampNeg v) - nxt σ = 0 from Nat.sub_self _, show slt (lput σ a i.toNatClampNeg v) - slt σ = 0 from Nat.sub_self _] at this
theorem sn_aald {t t2 : Nat} {ty ty2 : FieldType} (ht : atL[t]? = some (ty, 2)) (ht2 : atL[t2]? = some (ty2, 2)) (hr : ty.isReference = true) (hr2 : ty2.isReference = true) (hd : decode cc pc = .ok (.aaload, 1)) : Sn cc own nL rt ini pc (a_aald (100 + t) (100 + t2)) := by
  refine Sn.pure fun ls st σ pc' ls' st' σ' hA => ?_
  unfold a_aald at hA
  split at hA
  · split at hA
    · rename_i i a st2 hg
      obtain ⟨rfl, rfl, rfl, rfl⟩ := onx_inj hA
      refine ⟨rfl, fun D dA sp B xs L us p l e R s m args below meth c hC lv H locs cells slots Q hl hP hS kk => ?_⟩
      have key : ∀ (u : Nat) (tz : FieldType), atL[u]? = some (tz, 2) → tz.isReference = true → tof σ a = 100 + u → W p l e R s m args below meth c H locs cells slots Q (F0 m pc lv (((.int i :: .ref a :: st2) : List Value).map (rr sp B))) := by
        intro u tz hu hz hau
        have hlt : i.toNatClampNeg < nof σ a := Nat.not_le.mp fun q => hg.2 (Or.inr q)
        have hcell := hP.1 _ _ (PH_arr hP hau hu)
        refine W.aald (v := va_rf ((rof σ a i.toNatClampNeg).map (rho sp B))) hC.1 hC.2.1 hcell ((hC.2.2.2.2.2.2.2.1.1.2 _ _ (tyL_at hu)).1 (nof σ a) (fun j => va_rf ((rof σ a j).map (rho sp B)))) hz (fun q => by cases q) (by show ¬ (i < 0 ∨ (arrV _ _ _).slots.size ≤ _); rw [arrV_size]; exact hg.2) (by show (arrV _ _ _).slots[_]? = _; rw [arrV_read _ _ hlt]) rfl rfl hd ?_
        have := kk lv hl
        rw [List.map_cons, rr_rv] at this
        exact this
      rcases hg.1 with h | h
      · exact key t ty ht hr h
      · exact key t2 ty2 ht2 hr2 h
    · exact (osk_nx hA).elim
  · exact (osk_nx hA).elim
theorem sn_alen {t q : Nat} {ty : FieldType} (ht : atL[t]? = some (ty, q)) (hd : decode cc pc = .ok (.arraylength, 1)) : Sn cc own nL rt ini pc (a_alen (100 + t)) := by
  refine Sn.pure fun ls st σ pc' ls' st' σ' hA => ?_
  unfold a_alen at hA
  split at hA
  · split at hA
    · rename_i hg
      obtain ⟨rfl, rfl, rfl, rfl⟩ := onx_inj hA
      refine ⟨rfl, fun D dA sp B xs L us p l e R s m args below meth c hC lv H locs cells slots Q hl hP hS kk => ?_⟩
      exact va_alen hC.1 hC.2.1 hC.2.2.2.2.2.2.2.1.1 hP.1 _ t (PH_arr hP hg ht) (tyL_at ht) rfl hd (kk lv hl)
    · exact (osk_nx hA).elim
  · exact (osk_nx hA).elim
theorem rput_moved {D : va_G} {dA : Nat → ClassId} {sp : Nat → Nat} {B : Nat} {xs : Nat → Int32} {L : Nat} {us : Nat → Option Nat} {σ : HS} {H H1 : Heap} {s : State} {cells a t i : Nat} {ty : FieldType} {v : Option Nat} (hP : PH D dA sp B xs L us σ H) (ha : tof σ a = 100 + t) (ht : atL[t]? = some (ty, 2)) (hz : H.size = s.heap.size + cells)
    (hP1 : va_P D vwCl ((wld dA sp B σ).set (a - 100) (rho sp B a, .inl (dA t, nof σ a, .inr (.inr (.inr (.inr (va_up (fun j => (rof σ a j).map (rho sp B)) i (v.map (rho sp B))))))))) H1) (hz1 : H1.size ≤ s.heap.size + cells) : PH D dA sp B xs L us (rput σ a i v) H1 := by
  refine PH_rput hP (by omega) hz ?_ hz1
  rw [cel_arr (show tof (rput σ a i v) a = 100 + t from ha) ht]
  simp only [contA, rput_up]
  exact hP1
/-- what may lie in a row: kinds of cells whose class is E, or castable to E -/
theorem sn_aast {t : Nat} {E : String} {ok : List Nat} (ht : atL[t]? = some (.object E, 2)) (hok : ∀ k ∈ ok, ∃ (ci : Nat) (C : String) (T : u_T) (N : Nat), k = ci + 1 ∧ ci < 99 ∧ vwCl[ci]? = some (C, T, N) ∧ (C = E ∨ (C, E) ∈ nwC)) (hd : decode cc pc = .ok (.aastore, 1)) : Sn cc own nL rt ini pc (a_aast (100 + t) ok) := by
  have key : ∀ (ls st : List Value) (σ : HS) (pc' : Nat) (ls' st' : List Value) (σ' : HS), a_aast (100 + t) ok pc ls st σ = o_nx pc' ls' st' σ' → ∃ v i a, st = rv v :: .int i :: .ref a :: st' ∧ tof σ a = 100 + t ∧ vp_in i (nof σ a) ∧ (∀ w, v = some w → tof σ w ∈ ok) ∧ pc' = pc + 1 ∧ ls' = ls ∧ σ' = rput σ a i.toNatClampNeg v := by
    intro ls st σ pc' ls' st' σ' hA
    unfold a_aast at hA
    split at hA
    · split at hA
      · rename_i v i a st2 hg
        obtain ⟨rfl, rfl, rfl, rfl⟩ := onx_inj hA
        exact ⟨some v, _, _, rfl, hg.1.1, hg.2, fun w hw => by cases hw; exact hg.1.2, rfl, rfl, rfl⟩
      · exact (osk_nx hA).elim
    · split at hA
      · rename_i hg
        obtain ⟨rfl, rfl, rfl, rfl⟩ := onx_inj hA
        exact ⟨none, _, _, rfl, hg.1, hg.2, (fun w hw => by cases hw), rfl, rfl, rfl⟩
      · exact (osk_nx hA).elim
    · exact (osk_nx hA).elim
  refine ⟨fun ls st σ pc' ls' st' σ' hA => ?_, ?_⟩
  · obtain ⟨v, i, a, -, -, -, -, -, -, rfl⟩ := key _ _ _ _ _ _ _ hA
    exact ⟨Nat.le_refl _, Nat.le_refl _⟩
  · intro D dA sp B xs L us p l e R s m args below meth c hC ls st σ pc' ls' st' σ' hA lv H locs cells slots Q hl hP hS hz hc hs kk
    obtain ⟨v, i, a, rfl, ha, hi, hv, rfl, rfl, rfl⟩ := key _ _ _ _ _ _ _ hA
    have kk' : ∀ (H1 : Heap) (locs1 : List Loc), va_P D vwCl ((wld dA sp B σ).set (a - 100) (rho sp B a, .inl (dA t, nof σ a, .inr (.inr (.inr (.inr (va_up (fun j => (rof σ a j).map (rho sp B)) i.toNatClampNeg (v.map (rho sp B))))))))) H1 → va_S (fun q => B ≤ q) s.heap H1 locs1 → W p l e R s m args below meth c H1 locs1 cells slots Q (F0 m (pc + 1) lv (st'.map (rr sp B))) := fun H1 locs1 g1 g2 => W_sz fun hz1 => by
      have := kk lv H1 locs1 hl (rput_moved hP ha ht hz g1 hz1) g2
      rwa [show nxt (rput σ a i.toNatClampNeg v) - nxt σ = 0 from Nat.sub_self _, show slt (rput σ a i.toNatClampNeg v) - slt σ = 0 from Nat.sub_self _] at this
    cases v with
    | none => exact va_astqN hC.1 hC.2.1 hC.2.2.2.2.2.2.2.1.1 hP.1 (wld_D dA sp B σ) hS _ t (PH_arr hP ha ht) (tyL_at ht) hi hd (fun H1 locs1 g1 _ g2 => kk' H1 locs1 g1 g2)
    | some w =>
      obtain ⟨ci, C, T, N, e1, e2, e3, e4⟩ := hok _ (hv w rfl)
      rcases e4 with rfl | e4
      · exact va_astq (r := (C, T, N)) hC.1 hC.2.1 hC.2.2.2.2.2.2.2.1.1 hP.1 (wld_D dA sp B σ) hS _ t _ ci (PH_arr hP ha ht) (tyL_at ht) (PH_obj hP e1 e2) e3 hi hd (fun H1 locs1 g1 _ g2 => kk' H1 locs1 g1 g2)
      · exact va_astqO (r := (C, T, N)) hC.1 hC.2.1 hC.2.2.2.2.2.2.2.1.1 hP.1 (wld_D dA sp B σ) hS _ t _ ci (PH_arr hP ha ht) (tyL_at ht) (hC.2.2.2.2.2.2.2.1.2.1.2.2.1 _ e4) (PH_obj hP e1 e2) e3 hi hd (fun H1 locs1 g1 _ g2 => kk' H1 locs1 g1 g2)
theorem stL_at {a : Nat} (h : 2 ≤ a ∧ a < 42) : ∃ q, stL_[a - 2]? = some q := ⟨_, List.getElem?_eq_getElem (show a - 2 < stL_.length by show a - 2 < 40; omega)⟩
theorem sn_sast (hd : decode cc pc = .ok (.aastore, 1)) : Sn cc own nL rt ini pc (a_sast 107) := by
  have key : ∀ (ls st : List Value) (σ : HS) (pc' : Nat) (ls' st' : List Value) (σ' : HS), a_sast 107 pc ls st σ = o_nx pc' ls' st' σ' → ∃ (v : Nat) (i : Int32) (a : Nat), st = .ref v :: .int i :: .ref a :: st' ∧ tof σ a = 107 ∧ vp_in i (nof σ a) ∧ (2 ≤ v ∧ v < 42) ∧ pc' = pc + 1 ∧ ls' = ls ∧ σ' = rput σ a i.toNatClampNeg (some v) := by
    intro ls st σ pc' ls' st' σ' hA
    unfold a_sast at hA
    split at hA
    · split at hA
      · rename_i v i a st2 hg
        obtain ⟨rfl, rfl, rfl, rfl⟩ := onx_inj hA
        exact ⟨v, _, _, rfl, hg.1.1, hg.2, hg.1.2, rfl, rfl, rfl⟩
      · exact (osk_nx hA).elim
    · exact (osk_nx hA).elim
  refine ⟨fun ls st σ pc' ls' st' σ' hA => ?_, ?_⟩
  · obtain ⟨v, i, a, -, -, -, -, -, -, rfl⟩ := key _ _ _ _ _ _ _ hA
    exact ⟨Nat.le_refl _, Nat.le_refl _⟩
  · intro D dA sp B xs L us p l e R s m args below meth c hC ls st σ pc' ls' st' σ' hA lv H locs cells slots Q hl hP hS hz hc hs kk
    obtain ⟨v, i, a, rfl, ha, hi, hv, rfl, rfl, rfl⟩ := key _ _ _ _ _ _ _ hA
    obtain ⟨q, hq⟩ := stL_at hv
    obtain ⟨-, g2, -⟩ := hC.2.2.2.2.2.2.2.1.2.2.1 _ _ hq
    rw [show 2 + (v - 2) = v by omega] at g2
    obtain ⟨cell, c1, c2, c3, -⟩ := g2.kept hS.2.1
    obtain ⟨kC, hkC, -⟩ := Vm.findClass_spec c3
    have hr : va_Any "java/lang/String" s H (rho sp B v) := by
      rw [show rho sp B v = sp v from if_pos (by omega)]
      exact ⟨cell, c1, c2, ⟨kC, hkC⟩, fun comp h => by
        cases Option.some.inj (c3.symm.trans h)
        exact va_asg _ _⟩
    refine va_astqM hC.1 hC.2.1 hC.2.2.2.2.2.2.2.1.1 hP.1 (wld_D dA sp B σ) hS _ 7 (PH_arr hP (t := 7) ha rfl) (tyL_at (t := 7) rfl) hr hi hd (fun H1 locs1 g1 _ g2 => W_sz fun hz1 => ?_)
    have := kk lv H1 locs1 hl (rput_moved (t := 7) (v := some v) hP ha rfl hz g1 hz1) g2
    rwa [show nxt (rput σ a i.toNatClampNeg (some v)) - nxt σ = 0 from Nat.sub_self _, show slt (rput σ a i.toNatClampNeg (some v)) - slt σ = 0 from Nat.sub_self _] at this
/-! the script -/
theorem sn_sld (hd : decode cc pc = .ok (.iaload, 1)) : Sn cc own nL rt ini pc a_sld := by
  refine Sn.pure fun ls st σ pc' ls' st' σ' hA => ?_
  unfold a_sld at hA
  split at hA
  · split at hA
    · rename_i i a st2 hg
      obtain ⟨rfl, rfl, rfl, rfl⟩ := onx_inj hA
      refine ⟨rfl, fun D dA sp B xs L us p l e R s m args below meth c hC lv H locs cells slots Q hl hP hS kk => ?_⟩
      obtain ⟨rfl, hg⟩ := hg
      obtain ⟨-, -, -, hL, hx, -⟩ := hP
      rw [hL] at hg
      have hlt : i.toNatClampNeg < L := Nat.not_le.mp fun q => hg (Or.inr q)
      have := kk lv hl
      rw [hx _ hlt] at this
      obtain ⟨x1, x2, x3⟩ := hC.2.2.2.2.2.2.2.1.2.2.2.2
      exact va_sld hC.1 hC.2.1 x1 x2 (show ¬ B ≤ sp 0 by omega) hS hg hd this
    · exact (osk_nx hA).elim
  · exact (osk_nx hA).elim
theorem sn_slen (hd : decode cc pc = .ok (.arraylength, 1)) : Sn cc own nL rt ini pc a_slen := by
  refine Sn.pure fun ls st σ pc' ls' st' σ' hA => ?_
  unfold a_slen at hA
  split at hA
  · split at hA
    · rename_i a st2 hg
      obtain ⟨rfl, rfl, rfl, rfl⟩ := onx_inj hA
      refine ⟨rfl, fun D dA sp B xs L us p l e R s m args below meth c hC lv H locs cells slots Q hl hP hS kk => ?_⟩
      subst hg
      obtain ⟨-, -, -, hL, -, -⟩ := hP
      have := kk lv hl
      rw [hL] at this
      obtain ⟨x1, x2, x3⟩ := hC.2.2.2.2.2.2.2.1.2.2.2.2
      exact va_slen hC.1 hC.2.1 x1 x2 (show ¬ B ≤ sp 0 by omega) hS hd this
    · exact (osk_nx hA).elim
  · exact (osk_nx hA).elim
/-! Strings -/
theorem sn_sval {idx : Nat} (hk : Cond.fieldLink own idx "java/lang/String" "value" "[B" ∈ lw_all) (hd : decode cc pc = .ok (.getfield idx, 3)) : Sn cc own nL rt ini pc a_sval := by
  refine Sn.pure fun ls st σ pc' ls' st' σ' hA => ?_
  unfold a_sval at hA
  split at hA
  · split at hA
    · rename_i a st2 hg
      obtain ⟨a, rfl⟩ : ∃ n : Nat, n = a := ⟨a, rfl⟩
      have hg0 : 2 ≤ a ∧ a < 42 := hg
      obtain ⟨rfl, rfl, rfl, rfl⟩ := onx_inj hA
      refine ⟨rfl, fun D dA sp B xs L us p l e R s m args below meth c hC lv H locs cells slots Q hl hP hS kk => ?_⟩
      obtain ⟨q, hq⟩ := stL_at hg
      obtain ⟨-, -, -, g4, -⟩ := hC.2.2.2.2.2.2.2.1.2.2.1 _ _ hq
      rw [show 2 + (a - 2) = a by omega, show 42 + (a - 2) = a + 40 by omega] at g4
      have e1 : ((.ref a :: st2) : List Value).map (rr sp B) = .ref (sp a) :: st2.map (rr sp B) := by rw [List.map_cons, rr_sp (by omega)]
      have e2 : ((.ref (a + 40) :: st2) : List Value).map (rr sp B) = .ref (sp (a + 40)) :: st2.map (rr sp B) := by rw [List.map_cons, rr_sp (by omega)]
      rw [e1]
      have := kk lv hl
      rw [e2] at this
      exact vk_getf hC.1 hC.2.1 g4 hS hC.2.2.2.2.2.1 (hC.2.2.2.2.2.2.1 _ hk) (fun _ z => z) hd this
    · exact (osk_nx hA).elim
  · exact (osk_nx hA).elim
theorem sn_scod {idx : Nat} (hk : Cond.fieldLink own idx "java/lang/String" "coder" "B" ∈ lw_all) (hd : decode cc pc = .ok (.getfield idx, 3)) : Sn cc own nL rt ini pc a_scod := by
  refine Sn.pure fun ls st σ pc' ls' st' σ' hA => ?_
  unfold a_scod at hA
  split at hA
  · split at hA
    · rename_i a st2 hg
      obtain ⟨a, rfl⟩ : ∃ n : Nat, n = a := ⟨a, rfl⟩
      have hg0 : 2 ≤ a ∧ a < 42 := hg
      obtain ⟨rfl, rfl, rfl, rfl⟩ := onx_inj hA
      refine ⟨rfl, fun D dA sp B xs L us p l e R s m args below meth c hC lv H locs cells slots Q hl hP hS kk => ?_⟩
      obtain ⟨q, hq⟩ := stL_at hg
      obtain ⟨-, -, g3, -, -⟩ := hC.2.2.2.2.2.2.2.1.2.2.1 _ _ hq
      rw [show 2 + (a - 2) = a by omega] at g3
      have e1 : ((.ref a :: st2) : List Value).map (rr sp B) = .ref (sp a) :: st2.map (rr sp B) := by rw [List.map_cons, rr_sp (by omega)]
      rw [e1]
      exact vk_getf hC.1 hC.2.1 g3 hS hC.2.2.2.2.2.1 (hC.2.2.2.2.2.2.1 _ hk) (fun _ z => z) hd (kk lv hl)
    · exact (osk_nx hA).elim
  · exact (osk_nx hA).elim
theorem stL_at2 {a : Nat} (h : 42 ≤ a ∧ a < 82) : ∃ q, stL_[a - 42]? = some q := ⟨_, List.getElem?_eq_getElem (show a - 42 < stL_.length by show a - 42 < 40; omega)⟩
theorem sn_clen (hd : decode cc pc = .ok (.arraylength, 1)) : Sn cc own nL rt ini pc (a_clen lenS) := by
  refine Sn.pure fun ls st σ pc' ls' st' σ' hA => ?_
  unfold a_clen at hA
  split at hA
  · split at hA
    · rename_i a st2 hg
      obtain ⟨a, rfl⟩ : ∃ n : Nat, n = a := ⟨a, rfl⟩
      have hg0 : 42 ≤ a ∧ a < 82 := hg
      obtain ⟨rfl, rfl, rfl, rfl⟩ := onx_inj hA
      refine ⟨rfl, fun D dA sp B xs L us p l e R s m args below meth c hC lv H locs cells slots Q hl hP hS kk => ?_⟩
      obtain ⟨q, hq⟩ := stL_at2 hg
      obtain ⟨-, -, -, -, g5⟩ := hC.2.2.2.2.2.2.2.1.2.2.1 _ _ hq
      rw [show 42 + (a - 42) = a by omega] at g5
      have e1 : ((.ref a :: st2) : List Value).map (rr sp B) = .ref (sp a) :: st2.map (rr sp B) := by rw [List.map_cons, rr_sp (by omega)]
      rw [e1]
      exact va_tlen hC.1 hC.2.1 g5 hS rfl hd (kk lv hl)
    · exact (osk_nx hA).elim
  · exact (osk_nx hA).elim
theorem sn_cald (hd : decode cc pc = .ok (.baload, 1)) : Sn cc own nL rt ini pc (a_cald lenS bytS) := by
  refine Sn.pure fun ls st σ pc' ls' st' σ' hA => ?_
  unfold a_cald at hA
  split at hA
  · split at hA
    · rename_i i a st2 hg
      obtain ⟨a, rfl⟩ : ∃ n : Nat, n = a := ⟨a, rfl⟩
      have hg0 : 42 ≤ a ∧ a < 82 := hg.1
      obtain ⟨rfl, rfl, rfl, rfl⟩ := onx_inj hA
      refine ⟨rfl, fun D dA sp B xs L us p l e R s m args below meth c hC lv H locs cells slots Q hl hP hS kk => ?_⟩
      obtain ⟨q, hq⟩ := stL_at2 hg.1
      obtain ⟨-, -, -, -, g5⟩ := hC.2.2.2.2.2.2.2.1.2.2.1 _ _ hq
      rw [show 42 + (a - 42) = a by omega] at g5
      have e1 : ((.int i :: .ref a :: st2) : List Value).map (rr sp B) = .int i :: .ref (sp a) :: st2.map (rr sp B) := by rw [List.map_cons, List.map_cons, rr_sp (by omega)]; rfl
      rw [e1]
      exact va_tb hC.1 hC.2.1 g5 hS hg.2 rfl hd (kk lv hl)
    · exact (osk_nx hA).elim
  · exact (osk_nx hA).elim
/-! statics -/
theorem sn_gst {idx k : Nat} {C n d : String} (hk : (k = 0 ∧ (C, n, d) = ("java/lang/Throwable", "UNASSIGNED_STACK", "[Ljava/lang/StackTraceElement;")) ∨ (k = 1 ∧ (C, n, d) = ("java/lang/Throwable", "SUPPRESSED_SENTINEL", "Ljava/util/List;")) ∨ (k = 2 ∧ (C, n, d) = ("jdk/internal/util/Preconditions", "SIOOBE_FORMATTER", "Ljava/util/function/BiFunction;"))) (hl0 : Cond.fieldLink own idx C n d ∈ lw_all) (hd : decode cc pc = .ok (.getstatic idx, 3)) : Sn cc own nL rt ini pc (a_gst k) := by
  refine Sn.pure fun ls st σ pc' ls' st' σ' hA => ?_
  unfold a_gst at hA
  obtain ⟨rfl, rfl, rfl, rfl⟩ := onx_inj hA
  refine ⟨rfl, fun D dA sp B xs L us p l e R s m args below meth c hC lv H locs cells slots Q hl hP hS kk => ?_⟩
  obtain ⟨-, -, -, -, -, hu⟩ := hP
  obtain ⟨-, -, z1, z2, z3, -⟩ := hC.2.2.2.2.2.2.2.1.2.2.2.1
  have := kk lv hl
  rw [hu] at this
  rcases hk with ⟨rfl, h⟩ | ⟨rfl, h⟩ | ⟨rfl, h⟩
  · cases h
    exact va_gets hC.1 hC.2.1 z1 hS hC.2.2.2.2.2.1 (hC.2.2.2.2.2.2.1 _ hl0) (fun _ z => z) hd this
  · cases h
    exact va_gets hC.1 hC.2.1 z2 hS hC.2.2.2.2.2.1 (hC.2.2.2.2.2.2.1 _ hl0) (fun _ z => z) hd this
  · cases h
    exact va_gets hC.1 hC.2.1 z3 hS hC.2.2.2.2.2.1 (hC.2.2.2.2.2.2.1 _ hl0) (fun _ z => z) hd this
theorem sn_gcs {idx : Nat} (hl0 : Cond.fieldLink own idx "java/lang/String" "COMPACT_STRINGS" "Z" ∈ lw_all) (hd : decode cc pc = .ok (.getstatic idx, 3)) : Sn cc own nL rt ini pc (a_ic 1 3) := by
  refine Sn.pure fun ls st σ pc' ls' st' σ' hA => ?_
  unfold a_ic at hA
  obtain ⟨rfl, rfl, rfl, rfl⟩ := onx_inj hA
  refine ⟨rfl, fun D dA sp B xs L us p l e R s m args below meth c hC lv H locs cells slots Q hl hP hS kk => ?_⟩
  exact va_gets hC.1 hC.2.1 hC.2.2.2.2.2.2.2.1.2.2.2.1.2.2.2.2.2 hS hC.2.2.2.2.2.1 (hC.2.2.2.2.2.2.1 _ hl0) (fun _ z => z) hd (kk lv hl)
/-- Object.<init> -/
theorem sn_oi {idx : Nat} (h1 : Cond.methodLink own idx Lib.objectInit ∈ lw_all) (h2 : Cond.instanceMethod Lib.objectInit ∈ lw_all) (h3 : Cond.code Lib.objectInit ⟨#[0xb1]⟩ 1 none ∈ lw_all) (hd : decode cc pc = .ok (.invokespecial idx, 3)) : Sn cc own nL rt ini pc a_oi := by
  refine Sn.pure fun ls st σ pc' ls' st' σ' hA => ?_
  unfold a_oi at hA
  split at hA
  · split at hA
    · rename_i a st2 hg
      obtain ⟨rfl, rfl, rfl, rfl⟩ := onx_inj hA
      refine ⟨rfl, fun D dA sp B xs L us p l e R s m args below meth c hC lv H locs cells slots Q hl hP hS kk => ?_⟩
      obtain ⟨hx, hb, hml, -, -, hown, hts, -, -, -, hR, -⟩ := hC
      exact W.objInit hx hb hown (hts _ h1) (hts _ h2) (hts _ h3) rfl (by rw [hml]; exact hl.2.1) rfl hd (by omega) (by show 2 * 0 + _ + 12 ≤ _; rw [rr_cats]; omega) (kk lv hl)
    · exact (osk_nx hA).elim
  · exact (osk_nx hA).elim
end SNA
