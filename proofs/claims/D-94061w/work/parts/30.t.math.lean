/-! Math.max, Math.min: the JDK's Math is run by the VM's own entries, so the kit's rows are used: one step each -/
def a_bm (f : Int32 → Int32 → Int32) : SI := fun pc ls st σ => match st with
  | .int b :: .int a :: st' => if wsum st' ≤ 8 then o_nx (pc + 3) ls (.int (f a b) :: st') σ else o_sk
  | _ => o_sk
def mx32 (a b : Int32) : Int32 := if a < b then b else a
def mn32 (a b : Int32) : Int32 := if b < a then b else a
section MXM
variable {cc : ByteArray} {own : String} {nL : Nat} {rt : Option FieldType} {ini : Bool} {pc : Nat}
theorem bm_key {f : Int32 → Int32 → Int32} {ls st : List Value} {σ : HS} {pc' : Nat} {ls' st' : List Value} {σ' : HS} (hA : a_bm f pc ls st σ = o_nx pc' ls' st' σ') : ∃ (a b : Int32) (r : List Value), st = .int b :: .int a :: r ∧ wsum r ≤ 8 ∧ pc' = pc + 3 ∧ ls' = ls ∧ st' = .int (f a b) :: r ∧ σ' = σ := by
  unfold a_bm at hA
  split at hA
  · split at hA
    · rename_i hg
      obtain ⟨rfl, rfl, rfl, rfl⟩ := onx_inj hA
      exact ⟨_, _, _, rfl, hg, rfl, rfl, rfl, rfl⟩
    · exact (osk_nx hA).elim
  · exact (osk_nx hA).elim
theorem sn_max {idx : Nat} (h1 : Cond.methodLink own idx ⟨"java/lang/Math", "max", "(II)I"⟩ ∈ lw_all) (h2 : Cond.static ⟨"java/lang/Math", "max", "(II)I"⟩ ∈ lw_all) (h3 : Cond.initialized "java/lang/Math" ∈ lw_all) (h4 : Cond.code ⟨"java/lang/Math", "max", "(II)I"⟩ prog_30_method_65_code 2 (some .int) ∈ lw_all) (hd : decode cc pc = .ok (.invokestatic idx, 3)) : Sn cc own nL rt ini pc (a_bm mx32) := by
  refine ⟨fun ls st σ pc' ls' st' σ' hA => ?_, ?_⟩
  · obtain ⟨a, b, r, -, -, -, -, -, rfl⟩ := bm_key hA
    exact ⟨Nat.le_refl _, Nat.le_refl _⟩
  · intro D dA sp B xs L us p l e R s m args below meth c hC ls st σ pc' ls' st' σ' hA lv H locs cells slots Q hl hP hS hz hcc hss kk
    obtain ⟨a, b, r, rfl, hw, rfl, rfl, rfl, rfl⟩ := bm_key hA
    obtain ⟨hx, hb, hml, -, -, hown, hts, hR, -, -, hRr, -⟩ := hC
    rw [Nat.sub_self, Nat.sub_self, Nat.add_zero, Nat.add_zero] at kk
    rw [Nat.sub_self, Nat.add_zero] at hcc hss
    exact va_mmax hx hb (by rw [hml]; exact hl.2.1.symm) hown (hts _ h1) (hts _ h2) (hts _ h3) (hts _ h4) (by omega) (by rw [rr_cats]; omega) hcc hss hd (kk lv H locs hl hP hS)
theorem sn_min {idx : Nat} (h1 : Cond.methodLink own idx ⟨"java/lang/Math", "min", "(II)I"⟩ ∈ lw_all) (h2 : Cond.static ⟨"java/lang/Math", "min", "(II)I"⟩ ∈ lw_all) (h3 : Cond.initialized "java/lang/Math" ∈ lw_all) (h4 : Cond.code ⟨"java/lang/Math", "min", "(II)I"⟩ prog_30_method_69_code 2 (some .int) ∈ lw_all) (hd : decode cc pc = .ok (.invokestatic idx, 3)) : Sn cc own nL rt ini pc (a_bm mn32) := by
  refine ⟨fun ls st σ pc' ls' st' σ' hA => ?_, ?_⟩
  · obtain ⟨a, b, r, -, -, -, -, -, rfl⟩ := bm_key hA
    exact ⟨Nat.le_refl _, Nat.le_refl _⟩
  · intro D dA sp B xs L us p l e R s m args below meth c hC ls st σ pc' ls' st' σ' hA lv H locs cells slots Q hl hP hS hz hcc hss kk
    obtain ⟨a, b, r, rfl, hw, rfl, rfl, rfl, rfl⟩ := bm_key hA
    obtain ⟨hx, hb, hml, -, -, hown, hts, hR, -, -, hRr, -⟩ := hC
    rw [Nat.sub_self, Nat.sub_self, Nat.add_zero, Nat.add_zero] at kk
    rw [Nat.sub_self, Nat.add_zero] at hcc hss
    exact va_mmin hx hb (by rw [hml]; exact hl.2.1.symm) hown (hts _ h1) (hts _ h2) (hts _ h3) (hts _ h4) (by omega) (by rw [rr_cats]; omega) hcc hss hd (kk lv H locs hl hP hS)
end MXM
theorem nx_bm {f : Int32 → Int32 → Int32} : NX (a_bm f) := by
  intro pc ls st σ
  unfold a_bm
  (repeat' split) <;> first | exact Or.inl rfl | exact Or.inr ⟨_, _, _, _, rfl⟩
theorem g_bm {P : Nat → Nat → SI} {ML : Nat → Nat} {HT : Nat → List (Nat × Nat × Nat × Nat)} {d y pc : Nat} {ls st : List Value} {σ : HS} {Q : Res → HS → Prop} {f : Int32 → Int32 → Int32} {a b : Int32} (h : P y pc = a_bm f) (hw : wsum st ≤ 8) : GG P ML HT d y pc ls (.int b :: .int a :: st) σ Q = GG P ML HT d y (pc + 3) ls (.int (f a b) :: st) σ Q :=
  GG_nx P ML HT (by rw [h]; simp only [a_bm, if_pos hw])
