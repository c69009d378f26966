/-! SOUNDNESS: an exception of the JDK's that is made; two rows of ints (printed by tools/gen_nse.py) -/
abbrev nseN : List String := ["java/lang/RuntimeException", "java/lang/Exception"]
abbrev nseW : List Cond := vx_at0 "TwoHalves" 185 "java/util/NoSuchElementException" nseN
theorem nse_good : ∀ w ∈ nseW.filter goodWord, w ∈ lw_all := lw_in (nseW.filter goodWord) [110, 171, 180, 183, 186, 188, 172, 173, 149, 150, 174, 179, 184, 204, 161, 205, 163, 206, 165, 175, 177, 167, 1350, 1351, 1352, 1353, 1353, 1354, 1355, 1356, 1356, 1357, 1358, 172, 1349, 1339, 1343, 182, 1344, 1345, 1346, 1347, 202, 169, 1348] (by decide +kernel) (by decide +kernel)
theorem nse_ng : nseW.filter (fun w => !goodWord w) = [Cond.declares ⟨"java/lang/RuntimeException", "<init>", "()V"⟩, Cond.declares ⟨"java/lang/Exception", "<init>", "()V"⟩, Cond.declares ⟨"java/lang/Throwable", "<init>", "()V"⟩, Cond.castable "java/util/NoSuchElementException" "java/util/NoSuchElementException"] := by decide +kernel
theorem nse_ot : ∀ w ∈ Cond.classLink "TwoHalves" 183 "java/util/NoSuchElementException" :: Cond.initialized "java/util/NoSuchElementException" :: nseW, vx_ot w = true := by decide +kernel
theorem nse_before {args : Array Value} {s : State} (hts : ∀ w ∈ lw_all, w.before args s = true) (hR : RN s) : ∀ w ∈ nseW, w.before args s = true := by
  refine vx_hat (fun w h => hts w (nse_good w h)) (B := [Cond.declares ⟨"java/lang/RuntimeException", "<init>", "()V"⟩, Cond.declares ⟨"java/lang/Exception", "<init>", "()V"⟩, Cond.declares ⟨"java/lang/Throwable", "<init>", "()V"⟩, Cond.castable "java/util/NoSuchElementException" "java/util/NoSuchElementException"]) (by rw [nse_ng]; exact fun _ h => h) ?_
  have d1 := hR.2.2.2.2.2.2 ⟨"java/lang/RuntimeException", "<init>", "()V"⟩ (by decide)
  have d2 := hR.2.2.2.2.2.2 ⟨"java/lang/Exception", "<init>", "()V"⟩ (by decide)
  have d3 := hR.2.2.2.2.2.2 ⟨"java/lang/Throwable", "<init>", "()V"⟩ (by decide)
  have d4 := hR.2.2.1 ("java/util/NoSuchElementException", "java/util/NoSuchElementException") (by decide)
  exact vx_c (va_Nw.use rfl d1) (vx_c (va_Nw.use rfl d2) (vx_c (va_Nw.use rfl d3) (vx_c (va_Nw.use rfl d4) vx_n)))
section NSE
variable {cc : ByteArray} {nL : Nat} {rt : Option FieldType} {ini : Bool} {pc : Nat}
theorem sn_nse (d0 : decode cc pc = .ok (.new 183, 3)) (d3 : decode cc (pc + 3) = .ok (.dup, 1)) (d4 : decode cc (pc + 4) = .ok (.invokespecial 185, 3)) : Sn cc "TwoHalves" nL rt ini pc (a_nse 20 6) := by
  refine ⟨fun ls st σ pc' ls' st' σ' hA => ?_, ?_⟩
  · unfold a_nse at hA
    split at hA
    · obtain ⟨rfl, rfl, rfl, rfl⟩ := onx_inj hA
      exact ⟨Nat.le_succ _, Nat.le_add_right _ _⟩
    · exact (osk_nx hA).elim
  · intro D dA sp B xs L us p l e R s m args below meth c hC ls st σ pc' ls' st' σ' hA lv H locs cells slots Q hl hP hS hz hcc hss kk
    unfold a_nse at hA
    split at hA
    · rename_i hw
      obtain ⟨rfl, rfl, rfl, hσ⟩ := onx_inj hA
      have e1 : nxt σ' - nxt σ = 1 := by rw [← hσ]; exact Nat.add_sub_cancel_left _ _
      have e2 : slt σ' - slt σ = 6 := by rw [← hσ]; exact Nat.add_sub_cancel_left _ _
      rw [e1] at kk hcc
      rw [e2] at kk hss
      obtain ⟨hx, hb, hml, -, -, hown, hts, hR, hlt, -, hRr, hBs⟩ := hC
      refine vx_make0 (ci := 19) (T0 := TJ8) (cls := "java/util/NoSuchElementException") (names := nseN) hx hb hlt hown (by decide +kernel) (by decide +kernel) (hts _ q1338) (hts _ q133) (nse_before hts hR.2.1) nse_ot hR.2.2.2.1.1 hR.2.2.2.1.2.1 hS (hl.2.1.trans hml.symm) d0 d3 d4 hR.1 hP.1 (wld_D dA sp B σ) (fun q hq => Nat.le_trans hBs hq) rfl (by show 2 + 3 < R.frames; omega) (by rw [rr_cats]; show wsum st + (13 * (2 + 1) + 42) ≤ R.locals; omega) hcc hss (fun q H1 hP1 hD1 hS1 => W_sz fun hz1 => ?_)
      have hq := q_new hP hP1 hD1 (by omega)
      subst hq
      have ec : cel dA sp B σ' (nxt σ) = .inr (19, []) := cel_obj (c := 20) (by rw [← hσ, tof_hnew, if_pos rfl]) (by omega)
      have hP2 : PH D dA sp B xs L us σ' H1 := PH_new (s := s) (cells := cells) hP hσ.symm (by omega) hz (by rw [ec]; exact hP1) hz1
      have := kk lv H1 locs hl hP2 hS1
      rw [show ((.ref (nxt σ) :: st) : List Value).map (rr sp B) = .ref (B + (nxt σ - 100)) :: st.map (rr sp B) by rw [List.map_cons]; simp [rr, rho_nxt hP, hP.2.1]] at this
      exact this
    · exact (osk_nx hA).elim
theorem nI2 : (nI 2).toNatClampNeg = 2 := by decide
theorem nI16 : (nI 16).toNatClampNeg = 16 := by decide
theorem out2 (c : ClassId) (h0 : Nat) : Jvm.Free.Multi.outerC c 2 h0 2 = arrV c 2 (fun j => va_rf (if j < 2 then some (h0 + 1 + j) else none)) := by
  have e : (((Array.replicate 2 Value.null).setIfInBounds 0 (Value.ref (h0 + 1))).setIfInBounds 1 (Value.ref (h0 + 1 + 1))) = Array.ofFn (n := 2) fun j => va_rf (if j.val < 2 then some (h0 + 1 + j.val) else none) := by
    apply Array.ext
    · simp
    · intro i h1 h2
      simp at h1
      match i, h1 with
      | 0, _ => simp [va_rf]
      | 1, _ => simp [va_rf]
  simp only [Jvm.Free.Multi.outerC, Cell.setSlot, arrV]
  rw [← e]
theorem sn_mul {own : String} {idx : Nat} (h1 : Cond.classLink own idx "[[I" ∈ lw_all) (h2 : Cond.arrayClass .int ∈ lw_all) (hd : decode cc pc = .ok (.multianewarray idx 2, 4)) : Sn cc own nL rt ini pc (a_mul 104 100 2 16) := by
  have key : ∀ (ls st : List Value) (σ : HS) (pc' : Nat) (ls' st' : List Value) (σ' : HS), a_mul 104 100 2 16 pc ls st σ = o_nx pc' ls' st' σ' → ∃ st2, st = .int (nI 16) :: .int (nI 2) :: st2 ∧ pc' = pc + 4 ∧ ls' = ls ∧ st' = .ref (nxt σ) :: st2 ∧ σ' = rall (hnew (hnew (hnew σ 104 2 2) 100 16 16) 100 16 16) (nxt σ) (fun j => if j < 2 then some (nxt σ + 1 + j) else none) := by
    intro ls st σ pc' ls' st' σ' hA
    unfold a_mul at hA
    split at hA
    · split at hA
      · rename_i hg
        obtain ⟨rfl, rfl, rfl, rfl⟩ := onx_inj hA
        obtain ⟨rfl, rfl⟩ := hg
        exact ⟨_, rfl, rfl, rfl, rfl, rfl⟩
      · exact (osk_nx hA).elim
    · exact (osk_nx hA).elim
  refine ⟨fun ls st σ pc' ls' st' σ' hA => ?_, ?_⟩
  · obtain ⟨st2, -, -, -, -, rfl⟩ := key _ _ _ _ _ _ _ hA
    exact ⟨by show nxt σ ≤ nxt σ + 1 + 1 + 1; omega, by show slt σ ≤ slt σ + 2 + 16 + 16; omega⟩
  · intro D dA sp B xs L us p l e R s m args below meth c hC ls st σ pc' ls' st' σ' hA lv H locs cells slots Q hl hP hS hz hcc hss kk
    obtain ⟨st2, rfl, rfl, rfl, rfl, hσ⟩ := key _ _ _ _ _ _ _ hA
    have n1 : nxt σ' = nxt σ + 3 := by rw [hσ]; rfl
    have n2 : slt σ' = slt σ + 34 := by rw [hσ]; rfl
    have e1 : nxt σ' - nxt σ = 3 := by omega
    have e2 : slt σ' - slt σ = 34 := by omega
    rw [e1] at kk hcc
    rw [e2] at kk hss
    obtain ⟨hx, hb, hml, -, -, hown, hts, hR, hlt, -, hRr, hBs⟩ := hC
    intro T hT X
    have hao : (Cond.arrayOver (.array .int)).before args s = true := hR.2.1.2.2.2.2.1
    obtain ⟨vm₁, cA, comp, hW, hfA, hfC, hO, hI, X', stp⟩ := X.multianewarray2F hx (ty := .int) hown (hts _ h1) hao (hts _ h2) (g := F0 m pc lv (.int (nI 16) :: .int (nI 2) :: st2.map (rr sp B))) rfl (by rw [hb]; exact hd) rfl (by decide) (by decide) (by decide) (by decide) (by decide) rfl rfl (by rw [nI2]; omega) (by rw [nI2, nI16]; omega)
    rw [nI2, nI16] at X' stp
    have hcA : cA = dA 4 := Option.some.inj (hfA.symm.trans (hR.1.2 _ _ (tyL_at (t := 4) rfl)).2)
    have hcm : comp = dA 0 := Option.some.inj (hfC.symm.trans (hR.1.2 _ _ (tyL_at (t := 0) rfl)).2)
    subst hcA; subst hcm
    obtain ⟨f1, f2, -, -⟩ := Jvm.Free.Multi.fill_facts (T.setVm vm₁) (dA 4) (dA 0) 2 16 (defaultValue .int) 2
    have f3 := fun (a : Nat) (ha : a < H.size) => Jvm.Free.Multi.fill_old (T.setVm vm₁) (dA 4) (dA 0) 2 16 (defaultValue .int) (a := a) (by rw [← hT] at ha; exact ha) 2
    have f4 := fun (j : Nat) (hj : j < 2) => Jvm.Free.Multi.fill_inner (T.setVm vm₁) (dA 4) (dA 0) 2 16 (defaultValue .int) 2 j hj
    have hh : (T.setVm vm₁).heap = H := hT
    rw [hh] at f1 f2 f4
    generalize hF : Jvm.Free.Multi.fill (T.setVm vm₁) (dA 4) (dA 0) 2 16 (defaultValue .int) 2 = F at X' stp f1 f2 f3 f4
    obtain ⟨p1, p2, p3, p4, p5, p6⟩ := hP
    have h0 := p3.1
    have c0 : ∀ b, b < nxt σ → cel dA sp B σ' b = cel dA sp B σ b := fun b hb => by
      rw [hσ, rall_cel b (by omega)]
      rw [hnew_cel b (by show b < nxt σ + 1 + 1; omega), hnew_cel b (by show b < nxt σ + 1; omega), hnew_cel b hb]
    have hPH : PH D dA sp B xs L us σ' F.heap := by
      refine ⟨fun k q hq => ?_, by omega, ⟨by omega, fun b hb' => ?_⟩, ?_, fun j hj => ?_, ?_⟩
      · have hk : k < nxt σ' - 100 := by
          have := (List.getElem?_eq_some_iff.mp hq).1
          rwa [wld_len] at this
        simp only [wld, List.getElem?_map, List.getElem?_range hk, Option.map_some, Option.some.injEq] at hq
        subst hq
        rcases (show 100 + k < nxt σ ∨ 100 + k = nxt σ ∨ 100 + k = nxt σ + 1 ∨ 100 + k = nxt σ + 2 by omega) with g | g | g | g
        · rw [c0 _ g]
          have hold := p1 k (B + k, cel dA sp B σ (100 + k)) (by simp [wld, show k < nxt σ - 100 by omega])
          refine hold.kept ?_
          have := f3 (B + k) (by omega)
          rw [hh] at this
          exact this
        · have ec : cel dA sp B σ' (100 + k) = .inl (dA 4, 2, .inr (.inr (.inr (.inr (fun j => (if j < 2 then some (nxt σ + 1 + j) else none).map (rho sp B)))))) := by
            rw [g, cel_arr (t := 4) (q := 2) (ty := .array .int) (by rw [hσ]; show tof (hnew (hnew (hnew σ 104 2 2) 100 16 16) 100 16 16) (nxt σ) = _; rw [tof_hnew, if_neg (by show ¬ nxt σ = nxt σ + 1 + 1; omega), tof_hnew, if_neg (by show ¬ nxt σ = nxt σ + 1; omega), tof_hnew, if_pos rfl]) rfl]
            have en : nof σ' (nxt σ) = 2 := by
              rw [hσ]
              show nof (hnew (hnew (hnew σ 104 2 2) 100 16 16) 100 16 16) (nxt σ) = _
              rw [nof_hnew, if_neg (by show ¬ nxt σ = nxt σ + 1 + 1; omega), nof_hnew, if_neg (by show ¬ nxt σ = nxt σ + 1; omega), nof_hnew, if_pos rfl]
            rw [en]
            unfold contA
            have er : rof σ' (nxt σ) = fun j => if j < 2 then some (nxt σ + 1 + j) else none := by
              funext j
              rw [hσ, rof_rall, if_pos rfl]
            simp only [er]
          rw [ec]
          show F.heap[B + k]? = some _
          rw [show B + k = H.size by omega, f2, out2, vp_cell_q]
          congr 2
          funext j
          by_cases hj : j < 2
          · simp only [if_pos hj, Option.map_some]
            rw [rho, if_neg (by omega)]
            congr 2
            omega
          · simp only [if_neg hj, Option.map_none]
        · have ec : cel dA sp B σ' (100 + k) = .inl (dA 0, 16, .inl (fun _ => 0)) := by
            rw [g, hσ, rall_cel _ (by omega), hnew_cel _ (by show nxt σ + 1 < nxt σ + 1 + 1; omega)]
            rw [cel_arr (t := 0) (q := 0) (ty := .int) (by rw [show nxt σ + 1 = nxt (hnew σ 104 2 2) from rfl, tof_hnew, if_pos rfl]) rfl]
            rw [show nxt σ + 1 = nxt (hnew σ 104 2 2) from rfl, nof_hnew, if_pos rfl, contA_i]
          rw [ec]
          show F.heap[B + k]? = some _
          have := f4 0 (by omega)
          rw [show B + k = H.size + 1 + 0 by omega, this]
          exact congrArg some (by simp [Jvm.Free.Multi.innerC, vp_cell, arrV_new]; rfl)
        · have ec : cel dA sp B σ' (100 + k) = .inl (dA 0, 16, .inl (fun _ => 0)) := by
            rw [g, hσ, rall_cel _ (by omega)]
            rw [cel_arr (t := 0) (q := 0) (ty := .int) (by rw [show nxt σ + 2 = nxt (hnew (hnew σ 104 2 2) 100 16 16) from rfl, tof_hnew, if_pos rfl]) rfl]
            rw [show nxt σ + 2 = nxt (hnew (hnew σ 104 2 2) 100 16 16) from rfl, nof_hnew, if_pos rfl, contA_i]
          rw [ec]
          show F.heap[B + k]? = some _
          have := f4 1 (by omega)
          rw [show B + k = H.size + 1 + 1 by omega, this]
          exact congrArg some (by simp [Jvm.Free.Multi.innerC, vp_cell, arrV_new]; rfl)
      · by_cases hb2 : b < nxt σ
        · have e9 : tof σ' b = tof σ b := by
            rw [hσ]
            show tof (hnew (hnew (hnew σ 104 2 2) 100 16 16) 100 16 16) b = _
            rw [tof_hnew, if_neg (by show ¬ b = nxt σ + 1 + 1; omega), tof_hnew, if_neg (by show ¬ b = nxt σ + 1; omega), tof_hnew, if_neg (by omega)]
          have := p3.2 b (by rw [← e9]; exact hb')
          omega
        · by_cases hb3 : b < nxt σ + 3
          · omega
          · exfalso
            apply hb'
            rw [hσ]
            show tof (hnew (hnew (hnew σ 104 2 2) 100 16 16) 100 16 16) b = _
            rw [tof_hnew, if_neg (by show ¬ b = nxt σ + 1 + 1; omega), tof_hnew, if_neg (by show ¬ b = nxt σ + 1; omega), tof_hnew, if_neg (by omega)]
            by_cases h9 : tof σ b = 0
            · exact h9
            · have := p3.2 b h9
              omega
      · rw [hσ]
        show nof (hnew (hnew (hnew σ 104 2 2) 100 16 16) 100 16 16) 0 = _
        rw [nof_hnew, if_neg (by show ¬ 0 = nxt σ + 1 + 1; omega), nof_hnew, if_neg (by show ¬ 0 = nxt σ + 1; omega), nof_hnew, if_neg (by omega)]
        exact p4
      · rw [hσ]
        show iof (hnew (hnew (hnew σ 104 2 2) 100 16 16) 100 16 16) 0 j = _
        rw [iof_hnew, if_neg (by show ¬ 0 = nxt σ + 1 + 1; omega), iof_hnew, if_neg (by show ¬ 0 = nxt σ + 1; omega), iof_hnew, if_neg (by omega)]
        exact p5 j hj
      · funext j
        rw [hσ, rof_rall, if_neg (by omega), rof_hnew, if_neg (by show ¬ 1 = nxt σ + 1 + 1; omega), rof_hnew, if_neg (by show ¬ 1 = nxt σ + 1; omega), rof_hnew, if_neg (by omega)]
        exact congrFun p6 j
    have hS2 : va_S (fun q => B ≤ q) s.heap F.heap locs := ⟨by have := hS.1; omega, fun q g1 g2 => by
      have := f3 q (by have := hS.1; omega)
      rw [hh] at this
      rw [this]
      exact hS.2.1 q g1 g2, hS.2.2⟩
    obtain ⟨t, b1, b2⟩ := kk lv F.heap locs hl hPH hS2 F rfl X'
    refine ⟨t, stp t ?_, b2⟩
    rw [show ((.ref (nxt σ) :: st2) : List Value).map (rr sp B) = .ref T.heap.size :: st2.map (rr sp B) by rw [List.map_cons]; simp only [rr]; rw [rho, if_neg (by omega), hT, p2]] at b1
    exact b1
end NSE
