/-! THE SIMPLE MACHINE IS SOUND: what it runs to, the machine comes to -/
def RtOK (cc : ByteArray) (rt : Option FieldType) (pc : Nat) (st : List Value) (v : Option Value) : Prop :=
  (decode cc pc = .ok (.return_, 1) ∧ rt = none ∧ st = [] ∧ v = none) ∨
  (decode cc pc = .ok (.ireturn, 1) ∧ ∃ (x : Int32) (ty : FieldType), st = [.int x] ∧ v = some (.int x) ∧ rt = some ty ∧ narrow ty (.int x) = .int x) ∨
  (decode cc pc = .ok (.lreturn, 1) ∧ rt = some .long ∧ ∃ x : Int64, st = [.long x] ∧ v = some (.long x)) ∨
  (decode cc pc = .ok (.areturn, 1) ∧ (∃ ty, rt = some ty ∧ ((∃ n, ty = .object n) ∨ ∃ t, ty = .array t)) ∧ ∃ r, st = [rv r] ∧ v = some (rv r))
def Rt (cc : ByteArray) (rt : Option FieldType) (pc : Nat) (A : SI) : Prop := ∀ (ls st : List Value) (σ : HS) (v : Option Value), A pc ls st σ = o_rt v → RtOK cc rt pc st v
def isC (k : Nat) : Prop := ∃ (ci : Nat) (C : String) (T : u_T) (N : Nat), k = ci + 1 ∧ ci < 99 ∧ vwCl[ci]? = some (C, T, N)
def Th (cc : ByteArray) (pc : Nat) (A : SI) : Prop := ∀ (ls st : List Value) (σ : HS) (a : Nat), A pc ls st σ = o_th a → decode cc pc = .ok (.athrow, 1) ∧ (∃ rest, st = .ref a :: rest) ∧ isC (tof σ a)
def Sd (MI : Nat → MIt) (cc : ByteArray) (own : String) (nL : Nat) (rt : Option FieldType) (ini : Bool) (pc : Nat) (A : SI) : Prop := Sn cc own nL rt ini pc A ∧ Sc MI cc own nL rt ini pc A ∧ Rt cc rt pc A ∧ Th cc pc A
def isIni (y : MethodName) : Bool := decide (y.name = "<init>")
/-- the handlers of the simple machine are the method's -/
def XTok (own : String) (hs raw : List (Nat × Nat × Nat × Nat)) : Prop := (hs = [] ∧ raw = []) ∨ ∃ (s e h ct ci : Nat) (C : String) (T : u_T) (N : Nat), hs = [(s, e, h, ci + 1)] ∧ raw = [(s, e, h, ct)] ∧ ct ≠ 0 ∧ ci < 99 ∧ vwCl[ci]? = some (C, T, N) ∧ Cond.classLink own ct C ∈ lw_all ∧ (C, C) ∈ nwC
/-- a program whose every instruction is sound -/
def PF (P : Nat → Nat → SI) (ML : Nat → Nat) (HT : Nat → List (Nat × Nat × Nat × Nat)) (MI : Nat → MIt) : Prop := ∀ y, (∀ pc, Sd MI (MI y).2.1 (MI y).1.cls (MI y).2.2.1 (MI y).2.2.2.1 (isIni (MI y).1) pc (P y pc)) ∧ XTok (MI y).1.cls (HT y) (MI y).2.2.2.2 ∧ plainName (MI y).1.cls = true ∧ ML y = (MI y).2.2.1 ∧ ML y ≤ 100
section FR
variable {P : Nat → Nat → SI} {ML : Nat → Nat} {HT : Nat → List (Nat × Nat × Nat × Nat)} {MI : Nat → MIt}
theorem run_up (hF : PF P ML HT MI) : ∀ (f d y pc : Nat) (ls st : List Value) (σ : HS) (r : Res) (σ' : HS), run P ML HT f d y pc ls st σ = some (r, σ') → nxt σ ≤ nxt σ' ∧ slt σ ≤ slt σ' := by
  intro f
  induction f with
  | zero => intro d y pc ls st σ r σ' h; cases h
  | succ f ih =>
    intro d y pc ls st σ r σ' h
    rw [run] at h
    cases hA : P y pc pc ls st σ with
    | inl q =>
      obtain ⟨pc', ls', st', σ1⟩ := q
      rw [hA] at h
      obtain ⟨a1, a2⟩ := ((hF y).1 pc).1.1 ls st σ pc' ls' st' σ1 hA
      obtain ⟨b1, b2⟩ := ih _ _ _ _ _ _ _ _ h
      exact ⟨Nat.le_trans a1 b1, Nat.le_trans a2 b2⟩
    | inr q =>
      rw [hA] at h
      cases q with
      | inl q =>
        obtain ⟨y', as, rest, pc'⟩ := q
        cases d with
        | zero => cases h
        | succ d' =>
          dsimp only at h
          cases hr : run P ML HT f d' y' 0 (lin as (ML y')) [] σ with
          | none => rw [hr] at h; cases h
          | some z =>
            rw [hr] at h
            obtain ⟨r1, σ1⟩ := z
            obtain ⟨a1, a2⟩ := ih _ _ _ _ _ _ _ _ hr
            cases r1 with
            | inl v =>
              obtain ⟨b1, b2⟩ := ih _ _ _ _ _ _ _ _ h
              exact ⟨Nat.le_trans a1 b1, Nat.le_trans a2 b2⟩
            | inr e =>
              dsimp only at h
              cases hh : hfind (HT y) pc (tof σ1 e) with
              | none => rw [hh] at h; cases h
              | some o =>
                rw [hh] at h
                cases o with
                | none => cases h; exact ⟨a1, a2⟩
                | some p =>
                  obtain ⟨b1, b2⟩ := ih _ _ _ _ _ _ _ _ h
                  exact ⟨Nat.le_trans a1 b1, Nat.le_trans a2 b2⟩
      | inr q =>
        cases q with
        | inl v => cases h; exact ⟨Nat.le_refl _, Nat.le_refl _⟩
        | inr q =>
          cases q with
          | inl e =>
            dsimp only at h
            cases hh : hfind (HT y) pc (tof σ e) with
            | none => rw [hh] at h; cases h
            | some o =>
              rw [hh] at h
              cases o with
              | none => cases h; exact ⟨Nat.le_refl _, Nat.le_refl _⟩
              | some p => exact ih _ _ _ _ _ _ _ _ h
          | inr u => cases h
/-! a callee's locals -/
theorem lin_len : ∀ (as : List Value) (n : Nat), wsum as ≤ n → (lin as n).length = n
  | [], n, _ => by simp [lin]
  | v :: vs, n, h => by
    cases v with
    | long x =>
      have h1 : wsum vs + 2 ≤ n := h
      have := lin_len vs (n - 2) (by omega)
      simp [lin, this]; omega
    | double x =>
      have h1 : wsum vs + 2 ≤ n := h
      have := lin_len vs (n - 2) (by omega)
      simp [lin, this]; omega
    | _ =>
      have h1 : wsum vs + 1 ≤ n := h
      have := lin_len vs (n - 1) (by omega)
      simp [lin, this]; omega
theorem lin_mem (sp : Nat → Nat) (B : Nat) : ∀ (as : List Value) (n k i : Nat) (v : Value), (lin as n)[i]? = some v → isK v = true → (k + i, rr sp B v) ∈ lv_args k (as.map (rr sp B))
  | [], n, k, i, v, h, hk => by
    have : v = UU := by
      have := List.mem_of_getElem? h
      simp only [lin] at this
      exact List.eq_of_mem_replicate this
    subst this
    exact absurd hk (by decide)
  | x :: vs, n, k, i, v, h, hk => by
    have two : ∀ (w : Value) (l2 : List Value), w.category = 2 → (w :: UU :: l2)[i]? = some v → (∀ j, l2[j]? = some v → (k + 2 + j, rr sp B v) ∈ lv_args (k + 2) (vs.map (rr sp B))) → (k + i, rr sp B v) ∈ lv_args k (rr sp B w :: vs.map (rr sp B)) := by
      intro w l2 hc hi hrec
      have e : lv_args k (rr sp B w :: vs.map (rr sp B)) = (k, rr sp B w) :: lv_args (k + 2) (vs.map (rr sp B)) := by
        rw [lv_args, rr_cat, if_pos hc]
      rw [e]
      match i, hi with
      | 0, hi => simp at hi; subst hi; exact List.mem_cons_self
      | 1, hi => simp at hi; subst hi; exact absurd hk (by decide)
      | j + 2, hi =>
        simp at hi
        have := hrec j hi
        rw [show k + 2 + j = k + (j + 2) by omega] at this
        exact List.mem_cons_of_mem _ this
    have one : ∀ (w : Value) (l2 : List Value), w.category ≠ 2 → (w :: l2)[i]? = some v → (∀ j, l2[j]? = some v → (k + 1 + j, rr sp B v) ∈ lv_args (k + 1) (vs.map (rr sp B))) → (k + i, rr sp B v) ∈ lv_args k (rr sp B w :: vs.map (rr sp B)) := by
      intro w l2 hc hi hrec
      have e : lv_args k (rr sp B w :: vs.map (rr sp B)) = (k, rr sp B w) :: lv_args (k + 1) (vs.map (rr sp B)) := by
        rw [lv_args, rr_cat, if_neg hc]
      rw [e]
      match i, hi with
      | 0, hi => simp at hi; subst hi; exact List.mem_cons_self
      | j + 1, hi =>
        simp at hi
        have := hrec j hi
        rw [show k + 1 + j = k + (j + 1) by omega] at this
        exact List.mem_cons_of_mem _ this
    cases x with
    | long z => exact two _ (lin vs (n - 2)) rfl (by simpa [lin] using h) (fun j hj => lin_mem sp B vs _ (k + 2) j v hj hk)
    | double z => exact two _ (lin vs (n - 2)) rfl (by simpa [lin] using h) (fun j hj => lin_mem sp B vs _ (k + 2) j v hj hk)
    | _ => exact one _ (lin vs (n - 1)) (by simp [Value.category]) (by simpa [lin] using h) (fun j hj => lin_mem sp B vs _ (k + 1) j v hj hk)
theorem sl_len : ∀ vs : List Value, (lg_sl vs).length = wsum vs
  | [] => rfl
  | v :: vs => by
    have := sl_len vs
    cases v <;> simp_all [lg_sl, wsum, Value.category] <;> omega
theorem wsum_rr (sp : Nat → Nat) (B : Nat) : ∀ vs : List Value, wsum (vs.map (rr sp B)) = wsum vs
  | [] => rfl
  | v :: vs => by
    have := wsum_rr sp B vs
    cases v <;> simp_all [wsum, rr]
theorem LV_entry (sp : Nat → Nat) (B : Nat) {as : List Value} {n : Nat} (h : wsum as ≤ n) : LV sp B n (lin as n) ((lg_sl (as.map (rr sp B)) ++ List.replicate (n - (lg_sl (as.map (rr sp B))).length) Slot.unset).toArray) := by
  have h1 : (lg_sl (as.map (rr sp B))).length ≤ n := by rw [sl_len, wsum_rr]; exact h
  have h2 := lv_entry (as.map (rr sp B)) h1
  refine ⟨lin_len as n h, h2.1, h2.2.1, fun q hq => ?_⟩
  obtain ⟨v, e1, e2, e3⟩ := lvl_mem.mp hq
  refine h2.2.2 q ?_
  have := lin_mem sp B as n 0 q.1 v e1 e2
  rw [Nat.zero_add, ← e3] at this
  exact this
theorem wsM_mem (i : MIt) : ∀ w ∈ lw_all, w ∈ wsM i := by
  intro w hw
  unfold wsM
  split
  · exact List.mem_cons_of_mem _ hw
  · exact List.mem_cons_of_mem _ hw
/-- a contract out of its body's walk -/
theorem met_of {l : Launch} (i : MIt) {rm : Room} {Pc : Array Value → State → Prop} {Qc : Array Value → State → Outcome → State → Prop} {XC : String → Addr → State → State → Prop} {mc ms : Nat} {free : Addr → Prop} (hy : plainName i.1.cls = true)
    (body : ∀ p e s m args below meth c s₁, BodyLoose p l i.1 (headSpec (wsM i) rm) i.2.1 i.2.2.1 i.2.2.2.1 e s m args below meth c s₁ → c.maxLocals = i.2.2.1 → c.exceptionTable.toList = tableOf i.2.2.2.2 → Pc args s →
      W p l e rm s m args below meth c s.heap [] 0 0 (vx_MQ below Qc XC args s mc ms free) (entryFrame m args i.2.2.1)) : vx_Met l i.1 (wsM i) rm Pc Qc XC mc ms free := by
  obtain ⟨y, b, ML, r, hh⟩ := i
  cases hh with
  | nil =>
    refine vx_ofW (cc := b) (maxL := ML) (ret := r) hy rfl ?_
    intro p e s m args below meth c s₁ B hml ht hP
    refine body p e s m args below meth c s₁ B hml ?_ hP
    cases hx : c.exceptionTable.toList with
    | nil => rfl
    | cons a t => exact (ht a (by rw [hx]; exact List.mem_cons_self)).elim
  | cons h t =>
    refine vx_ofWH (cc := b) (maxL := ML) (ret := r) (hh := h :: t) hy rfl ?_
    intro p e s m args below meth c s₁ B hml hP
    exact body p e s m args below meth c s₁ B hml (vx_table (x := y) B (atoms_spec (ws := wsW_ y b ML r (h :: t)) B.pre _ List.mem_cons_self)) hP
end FR
