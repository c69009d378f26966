section FR2
variable {P : Nat → Nat → SI} {ML : Nat → Nat} {HT : Nat → List (Nat × Nat × Nat × Nat)} {MI : Nat → MIt}
variable {D : va_G} {dA : Nat → ClassId} {sp : Nat → Nat} {B : Nat} {xs : Nat → Int32} {L : Nat} {us : Nat → Option Nat}
theorem obj_cell {σ : HS} {H : Heap} {s : State} {a ci N : Nat} {C : String} {T : u_T} (hR : RK D dA sp B xs L us s) (hP : PH D dA sp B xs L us σ H) (ha : tof σ a = ci + 1) (h9 : ci < 99) (hc : vwCl[ci]? = some (C, T, N)) : ∃ ce : Cell, H[rho sp B a]? = some ce ∧ ce.vm = .none ∧ s.vm.findClass C = some ce.cls := by
  obtain ⟨r, h1, cell, q1, q2, q3, -⟩ := hP.1 _ _ (PH_obj hP ha h9)
  have hr : r = (C, T, N) := Option.some.inj (h1.symm.trans hc)
  subst hr
  exact ⟨cell, q1, q3, by rw [(hR.1.1 ci _ hc).2.1, q2]⟩
/-- an exception: caught by the method's handler, or it goes on -/
theorem disp {cc : ByteArray} {own : String} {nL : Nat} {rt : Option FieldType} {ini : Bool} {hs raw : List (Nat × Nat × Nat × Nat)} {p : Program} {l : Launch} {e : Env} {R : Room} {s : State} {m : MethodId} {args : Array Value} {below : List Frame} {meth : Method} {c : Code} {H : Heap} {locs : List Loc} {cells slots : Nat} {Q : State → Prop} {σ : HS} {pc a : Nat} {lv : Array Slot} {rest : List Value}
    (hC : CX D dA sp B xs L us cc own nL rt ini p l R s m args meth c) (hx : XTok own hs raw) (ht : c.exceptionTable.toList = tableOf raw) (hP : PH D dA sp B xs L us σ H) (ha : isC (tof σ a))
    (h1 : ∀ h, hfind hs pc (tof σ a) = some (some h) → W p l e R s m args below meth c H locs cells slots Q (F0 m h lv [.ref (rho sp B a)]))
    (h2 : hfind hs pc (tof σ a) = some none → vx_W p l e R s m args below meth c H locs cells slots Q (F0 m pc lv rest) (rho sp B a)) (hne : hfind hs pc (tof σ a) ≠ none) : vx_W p l e R s m args below meth c H locs cells slots Q (F0 m pc lv rest) (rho sp B a) := by
  obtain ⟨hX, hb, hml, hr, hlk, hown, hts, hR, -⟩ := hC
  rcases hx with ⟨rfl, rfl⟩ | ⟨sp', ep, h, ct, ci, C, T, N, rfl, rfl, hct, h9, hci, hcl, hcc⟩
  · exact h2 rfl
  · by_cases hcov : sp' ≤ pc ∧ pc < ep
    · by_cases hk : ci + 1 = tof σ a
      · have hf : hfind [(sp', ep, h, ci + 1)] pc (tof σ a) = some (some h) := by simp [hfind, hcov, hk]
        obtain ⟨ce, c1, c2, c3⟩ := obj_cell hR hP hk.symm h9 hci
        exact vx_catch (own := own) (name := C) (E := C) hown [] ⟨sp', ep, h, ct⟩ [] (by rw [ht]; rfl) (fun z hz => nomatch hz) (by simp [covers, hcov.1, hcov.2]) hct (hts _ hcl) (va_Nw.use rfl (hR.2.1.2.2.1 _ hcc)) c1 c2 c3 (h1 h hf)
      · exact absurd (by simp [hfind, hcov, hk]) hne
    · exact h2 (by simp [hfind, hcov])
theorem out_none {hs raw : List (Nat × Nat × Nat × Nat)} {own : String} {c : Code} {pc k : Nat} (hx : XTok own hs raw) (ht : c.exceptionTable.toList = tableOf raw) (hf : hfind hs pc k = some none) : ∀ x ∈ c.exceptionTable.toList, covers x pc = false := by
  rcases hx with ⟨rfl, rfl⟩ | ⟨s, e, h, ct, ci, C, T, N, rfl, rfl, -⟩
  · intro x hx
    rw [ht] at hx
    cases hx
  · intro x hx
    rw [ht] at hx
    simp only [tableOf, List.map_cons, List.map_nil, List.mem_singleton] at hx
    subst hx
    by_cases hcov : s ≤ pc ∧ pc < e
    · exfalso
      by_cases hk : ci + 1 = k
      · simp [hfind, hcov, hk] at hf
      · simp [hfind, hcov, hk] at hf
    · simp only [covers, Bool.and_eq_false_iff, decide_eq_false_iff_not]
      omega
theorem frame (hF : PF P ML HT MI) (D : va_G) (dA : Nat → ClassId) (sp : Nat → Nat) (B : Nat) (xs : Nat → Int32) (L : Nat) (us : Nat → Option Nat) : ∀ (f d y pc : Nat) (ls st : List Value) (σ : HS) (r : Res) (σ' : HS), run P ML HT f d y pc ls st σ = some (r, σ') →
    ∀ (p : Program) (l : Launch) (e : Env) (R : Room) (s : State) (m : MethodId) (args : Array Value) (below : List Frame) (meth : Method) (c : Code), CX D dA sp B xs L us (MI y).2.1 (MI y).1.cls (MI y).2.2.1 (MI y).2.2.2.1 (isIni (MI y).1) p l R s m args meth c → c.exceptionTable.toList = tableOf (MI y).2.2.2.2 → d + 8 ≤ R.frames → (d + 1) * 200 ≤ R.locals →
    ∀ (lv : Array Slot) (H : Heap) (locs : List Loc) (cells slots : Nat) (Q : State → Prop), LV sp B (MI y).2.2.1 ls lv → PH D dA sp B xs L us σ H → va_S (fun q => B ≤ q) s.heap H locs → H.size = s.heap.size + cells → cells + (nxt σ' - nxt σ) ≤ R.cells → slots + (slt σ' - slt σ) ≤ R.slots →
    (∀ (pc' : Nat) (v : Option Value) (lv' : Array Slot) (H' : Heap) (locs' : List Loc) (st' : List Value), r = .inl v → RtOK (MI y).2.1 (MI y).2.2.2.1 pc' st' v → PH D dA sp B xs L us σ' H' → va_S (fun q => B ≤ q) s.heap H' locs' → W p l e R s m args below meth c H' locs' (cells + (nxt σ' - nxt σ)) (slots + (slt σ' - slt σ)) Q (F0 m pc' lv' (st'.map (rr sp B)))) →
    (∀ (pc' a : Nat) (lv' : Array Slot) (rest : List Value) (H' : Heap) (locs' : List Loc), r = .inr a → hfind (HT y) pc' (tof σ' a) = some none → isC (tof σ' a) → PH D dA sp B xs L us σ' H' → va_S (fun q => B ≤ q) s.heap H' locs' → vx_W p l e R s m args below meth c H' locs' (cells + (nxt σ' - nxt σ)) (slots + (slt σ' - slt σ)) Q (F0 m pc' lv' rest) (rho sp B a)) →
    W p l e R s m args below meth c H locs cells slots Q (F0 m pc lv (st.map (rr sp B))) := by
  intro f
  induction f with
  | zero => intro d y pc ls st σ r σ' h; cases h
  | succ f ih =>
    intro d y pc ls st σ r σ' h p l e R s m args below meth c hC hT hRf hRl lv H locs cells slots Q hlv hP hS hz hcl hsl hE hX
    obtain ⟨hSd, hXT, -, -, -⟩ := hF y
    have hup := run_up hF
    rw [run] at h
    cases hA : P y pc pc ls st σ with
    | inl q =>
      obtain ⟨pc', ls', st', σ1⟩ := q
      rw [hA] at h
      obtain ⟨a1, a2⟩ := (hSd pc).1.1 ls st σ pc' ls' st' σ1 hA
      obtain ⟨b1, b2⟩ := hup _ _ _ _ _ _ _ _ _ h
      refine (hSd pc).1.2 D dA sp B xs L us p l e R s m args below meth c hC ls st σ pc' ls' st' σ1 hA lv H locs cells slots Q hlv hP hS hz (by omega) (by omega) (fun lv1 H1 locs1 hlv1 hP1 hS1 => ?_)
      have e1 : H1.size = s.heap.size + (cells + (nxt σ1 - nxt σ)) := by
        have g1 := hP.2.1
        have g2 := hP1.2.1
        have g3 := hP.2.2.1.1
        omega
      have e2 : cells + (nxt σ1 - nxt σ) + (nxt σ' - nxt σ1) = cells + (nxt σ' - nxt σ) := by omega
      have e3 : slots + (slt σ1 - slt σ) + (slt σ' - slt σ1) = slots + (slt σ' - slt σ) := by omega
      refine ih d y pc' ls' st' σ1 r σ' h p l e R s m args below meth c hC hT hRf hRl lv1 H1 locs1 _ _ Q hlv1 hP1 hS1 e1 (by omega) (by omega) ?_ ?_
      · rw [e2, e3]; exact hE
      · rw [e2, e3]; exact hX
    | inr q =>
      rw [hA] at h
      cases q with
      | inl q =>
        obtain ⟨y', as, rest, pc'⟩ := q
        cases d with
        | zero => cases h
        | succ d' =>
          dsimp only at h
          obtain ⟨rfl, rfl, hw, hct⟩ := (hSd pc).2.1 ls st σ y' as rest pc' hA
          obtain ⟨hSd', hXT', hpl, hML, hML2⟩ := hF y'
          cases hr : run P ML HT f d' y' 0 (lin as (ML y')) [] σ with
          | none => rw [hr] at h; cases h
          | some z =>
            rw [hr] at h
            obtain ⟨r1, σ1⟩ := z
            obtain ⟨a1, a2⟩ := hup _ _ _ _ _ _ _ _ _ hr
            have a3 : nxt σ1 ≤ nxt σ' ∧ slt σ1 ≤ slt σ' := by
              cases r1 with
              | inl v => exact hup _ _ _ _ _ _ _ _ _ h
              | inr ee =>
                dsimp only at h
                cases hh : hfind (HT y) pc (tof σ1 ee) with
                | none => rw [hh] at h; cases h
                | some o =>
                  rw [hh] at h
                  cases o with
                  | none => cases h; exact ⟨Nat.le_refl _, Nat.le_refl _⟩
                  | some pp => exact hup _ _ _ _ _ _ _ _ _ h
            have hBs : B ≤ s.heap.size := hC.2.2.2.2.2.2.2.2.2.2.2
            have hlst : l.stackTraces = false := hC.2.2.2.2.2.2.2.2.1
            have hRK : RK D dA sp B xs L us s := hC.2.2.2.2.2.2.2.1
            -- the callee's contract
            have hMet : vx_Met l (MI y').1 (wsM (MI y')) { frames := d' + 8, cells := nxt σ1 - nxt σ, slots := slt σ1 - slt σ, locals := (d' + 1) * 200 } (va_Pc (as.map (rr sp B)) (fun U => RK D dA sp B xs L us U ∧ PH D dA sp B xs L us σ U.heap ∧ B ≤ U.heap.size))
                (fun _ st o t => (∃ v, r1 = .inl v ∧ o = .returned (v.map (rr sp B)) ∧ PH D dA sp B xs L us σ1 t.heap) ∧ va_F (fun q => B ≤ q) st t)
                (fun E q st t => (∃ (a ci : Nat) (T : u_T) (N : Nat), r1 = .inr a ∧ q = rho sp B a ∧ tof σ1 a = ci + 1 ∧ ci < 99 ∧ vwCl[ci]? = some (E, T, N) ∧ PH D dA sp B xs L us σ1 t.heap) ∧ va_F (fun q => B ≤ q) st t)
                (nxt σ1 - nxt σ) (slt σ1 - slt σ) (fun q => B ≤ q) := by
              refine met_of (MI y') hpl ?_
              intro p2 e2 s2 m2 args2 below2 meth2 c2 s₁ Bd hml2 hT2 hPc2
              obtain ⟨rfl, hRK2, hP2, hB2⟩ := hPc2
              have hts2 := atoms_spec (ws := wsM (MI y')) Bd.pre
              have hC2 : CX D dA sp B xs L us (MI y').2.1 (MI y').1.cls (MI y').2.2.1 (MI y').2.2.2.1 (isIni (MI y').1) p2 l { frames := d' + 8, cells := nxt σ1 - nxt σ, slots := slt σ1 - slt σ, locals := (d' + 1) * 200 } s2 m2 (as.map (rr sp B)).toArray meth2 c2 := by
                refine ⟨Bd.exec, Bd.bytes, hml2, Bd.returns, Bd.notSynchronized, findClass_of_methodNamed Bd.named, fun w hw => hts2 w (wsM_mem _ w hw), hRK2, hlst, fun hi => ?_, ⟨by show 8 ≤ d' + 8; omega, by show 200 ≤ (d' + 1) * 200; omega⟩, hB2⟩
                rw [(name_of_methodNamed Bd.named Bd.method).1]
                exact of_decide_eq_true hi
              rw [lg_entry_eq]
              have hlv2 := LV_entry sp B hw
              rw [hML] at hr
              refine ih d' y' 0 _ [] σ r1 σ1 hr p2 l e2 _ s2 m2 _ below2 meth2 c2 hC2 hT2 (Nat.le_refl _) (Nat.le_refl _) _ s2.heap [] 0 0 _ hlv2 hP2 va_S.rf rfl (Nat.le_of_eq (Nat.zero_add _)) (Nat.le_of_eq (Nat.zero_add _)) ?_ ?_
              · intro pc3 v3 lv3 H3 locs3 st3 hr1 hrt hP3 hS3
                rw [Nat.zero_add, Nat.zero_add]
                have hq : ∀ t : State, t.heap = H3 → (∃ v, r1 = .inl v ∧ Outcome.returned (v3.map (rr sp B)) = .returned (v.map (rr sp B)) ∧ PH D dA sp B xs L us σ1 t.heap) ∧ va_F (fun q => B ≤ q) s2 t := fun t ht => ⟨⟨v3, hr1, rfl, by rw [ht]; exact hP3⟩, hS3.F ht⟩
                obtain ⟨hx2, hb2, -, hret2, hlk2, -⟩ := hC2
                refine vx_ret ?_
                rcases hrt with ⟨hd, hn, rfl, rfl⟩ | ⟨hd, x, ty, rfl, rfl, hty, hnar⟩ | ⟨hd, hty, x, rfl, rfl⟩ | ⟨hd, ⟨ty, hty, hobj⟩, rr0, rfl, rfl⟩
                · exact W.vret hx2 hb2 (hret2.trans hn) (fun t ht _ => hq t ht) hS3.2.2 hd hlk2
                · exact W.zret (ty := ty) hx2 hb2 (hret2.trans hty) hnar (fun t ht _ => hq t ht) hS3.2.2 hd hlk2
                · exact W.lret hx2 hb2 (hret2.trans hty) (fun t ht _ => hq t ht) hS3.2.2 hd hlk2
                · exact W.aret (rt := ty) hx2 hb2 (hret2.trans hty) hobj (by cases rr0 with | none => exact Or.inl rfl | some a => exact Or.inr ⟨_, rfl⟩) (fun t ht _ => hq t ht) hS3.2.2 hd hlk2
              · intro pc3 a3 lv3 rest3 H3 locs3 hr1 hfn hic hP3 hS3
                rw [Nat.zero_add, Nat.zero_add]
                obtain ⟨ci, C, T, N, k1, k2, k3⟩ := hic
                obtain ⟨ce, c1, c2', c3⟩ := obj_cell hRK2 hP3 k1 k2 k3
                exact vx_out (E := C) (out_none hXT' hT2 hfn) hC2.2.2.2.2.1 c1 c2' c3 (fun t ht _ => ⟨⟨a3, ci, T, N, hr1, rfl, k1, k2, k3, by rw [ht]; exact hP3⟩, hS3.F ht⟩) hS3.2.2 (Nat.le_refl _) (Nat.le_refl _)
            have hbl : FrameBlind (va_Pc (as.map (rr sp B)) (fun U => RK D dA sp B xs L us U ∧ PH D dA sp B xs L us σ U.heap ∧ B ≤ U.heap.size)) := by
              intro a U g mk hh
              obtain ⟨h1, h2, h3, h4⟩ := hh
              exact ⟨h1, RK.move h2 va_S.rf rfl (State.WarmedH.refl U), h3, h4⟩
            have hrun := hct D dA sp B xs L us p l e R s m args below meth c hC lv H locs cells slots hlv.2.1 hP hS _ _ _ _ _ _ _ hMet rfl rfl ⟨by show d' + 8 + 1 ≤ R.frames; omega, by show 8 + ((MI y').2.2.1 + 11) + (d' + 1) * 200 ≤ R.locals; omega⟩ hbl (fun U hU hW => ⟨rfl, RK.move hRK hS hU hW, by rw [hU]; exact hP, by rw [hU]; exact Nat.le_trans hBs hS.1⟩) ⟨by omega, by omega⟩
            intro T hT' X
            have e2 : cells + (nxt σ1 - nxt σ) + (nxt σ' - nxt σ1) = cells + (nxt σ' - nxt σ) := by omega
            have e3 : slots + (slt σ1 - slt σ) + (slt σ' - slt σ1) = slots + (slt σ' - slt σ) := by omega
            have hsz : ∀ H1 : Heap, PH D dA sp B xs L us σ1 H1 → H1.size = s.heap.size + (cells + (nxt σ1 - nxt σ)) := by
              intro H1 hP1
              have g1 := hP.2.1
              have g2 := hP1.2.1
              have g3 := hP.2.2.1.1
              omega
            rcases hrun T hT' X with ⟨v, st₀, t, T', Lc, h0, X', hL, e1', e2', ⟨⟨v1, hr1, hov, hP1⟩, hFr⟩, stp⟩ | ⟨q, st₀, t, T', Lc, E, ce, h0, X', hL, e1', e2', ⟨⟨a, ci, TT, N, hr1, hqa, k1, k2, k3, hP1⟩, hFr⟩, hce, hcv, hclE, stp⟩
            · subst hr1
              cases hov
              obtain ⟨-, -, k3⟩ := vx_keep h0 e1' hS (fun q _ z => z) (fun q z => z) hL hFr
              rw [← e1'] at hP1
              have hW := ih (d' + 1) y (pc + 3) ls (v1.toList ++ rest) σ1 r σ' h p l e R s m args below meth c hC hT hRf hRl lv T'.heap (locs ++ Lc) (cells + (nxt σ1 - nxt σ)) (slots + (slt σ1 - slt σ)) Q hlv hP1 k3 (hsz _ hP1) (by omega) (by omega) (by rw [e2, e3]; exact hE) (by rw [e2, e3]; exact hX)
              obtain ⟨t2, b1, b2⟩ := hW T' rfl X'
              refine ⟨t2, stp t2 ?_, b2⟩
              have e9 : (v1.map (rr sp B)).toList ++ rest.map (rr sp B) = (v1.toList ++ rest).map (rr sp B) := by cases v1 <;> simp
              rw [e9]
              exact b1
            · subst hr1
              obtain ⟨-, -, k3'⟩ := vx_keep h0 e1' hS (fun q _ z => z) (fun q z => z) hL hFr
              rw [← e1'] at hP1
              dsimp only at h
              have hic : isC (tof σ1 a) := ⟨ci, E, TT, N, k1, k2, k3⟩
              have hD := disp (Q := Q) (H := T'.heap) (locs := locs ++ Lc) (cells := cells + (nxt σ1 - nxt σ)) (slots := slots + (slt σ1 - slt σ)) (σ := σ1) (pc := pc) (a := a) (lv := lv) (rest := rest.map (rr sp B)) (e := e) (below := below) hC hXT hT hP1 hic
                (fun hh hf => by
                  rw [hf] at h
                  exact ih (d' + 1) y hh ls [.ref a] σ1 r σ' h p l e R s m args below meth c hC hT hRf hRl lv T'.heap (locs ++ Lc) (cells + (nxt σ1 - nxt σ)) (slots + (slt σ1 - slt σ)) Q hlv hP1 k3' (hsz _ hP1) (by omega) (by omega) (by rw [e2, e3]; exact hE) (by rw [e2, e3]; exact hX))
                (fun hf => by
                  rw [hf] at h
                  cases h
                  exact hX pc a lv (rest.map (rr sp B)) T'.heap (locs ++ Lc) rfl hf hic hP1 k3')
                (fun hf => by rw [hf] at h; cases h)
              subst hqa
              obtain ⟨t2, b1, b2⟩ := hD T' rfl X'
              exact ⟨t2, stp.trans b1, b2⟩
      | inr q =>
        cases q with
        | inl v =>
          cases h
          have := hE pc v lv H locs st rfl ((hSd pc).2.2.1 ls st σ v hA) hP hS
          rwa [Nat.sub_self, Nat.sub_self] at this
        | inr q =>
          cases q with
          | inl a =>
            obtain ⟨hdec, ⟨rest, rfl⟩, hic⟩ := (hSd pc).2.2.2 ls st σ a hA
            refine vx_athrow hC.1 hC.2.1 hdec ?_
            dsimp only at h
            refine disp hC hXT hT hP hic (fun hh hf => ?_) (fun hf => ?_) (fun hf => by rw [hf] at h; cases h)
            · rw [hf] at h
              exact ih d y hh ls [.ref a] σ r σ' h p l e R s m args below meth c hC hT hRf hRl lv H locs cells slots Q hlv hP hS hz hcl hsl hE hX
            · rw [hf] at h
              cases h
              have := hX pc a lv (rest.map (rr sp B)) H locs rfl hf hic hP hS
              rwa [Nat.sub_self, Nat.sub_self] at this
          | inr u => cases h
end FR2
