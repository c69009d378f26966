/-! THE SIMPLE MACHINE: a heap of numbered cells (ints, longs, references by cell and place; a kind and a length by cell), and a program of small steps over it -/
abbrev HS : Type := (Nat → Nat → Int32) × (Nat → Nat → Int64) × (Nat → Nat → Option Nat) × (Nat → Nat × Nat) × Nat × Nat
def iof (σ : HS) (a k : Nat) : Int32 := σ.1 a k
def lof (σ : HS) (a k : Nat) : Int64 := σ.2.1 a k
def rof (σ : HS) (a k : Nat) : Option Nat := σ.2.2.1 a k
def tof (σ : HS) (a : Nat) : Nat := (σ.2.2.2.1 a).1
def nof (σ : HS) (a : Nat) : Nat := (σ.2.2.2.1 a).2
def nxt (σ : HS) : Nat := σ.2.2.2.2.1
def slt (σ : HS) : Nat := σ.2.2.2.2.2
def up1 {α : Type} (f : Nat → α) (a : Nat) (g : α) : Nat → α := fun b => if b = a then g else f b
def iall (σ : HS) (a : Nat) (g : Nat → Int32) : HS := (up1 σ.1 a g, σ.2)
def lall (σ : HS) (a : Nat) (g : Nat → Int64) : HS := (σ.1, up1 σ.2.1 a g, σ.2.2)
def rall (σ : HS) (a : Nat) (g : Nat → Option Nat) : HS := (σ.1, σ.2.1, up1 σ.2.2.1 a g, σ.2.2.2)
def iput (σ : HS) (a k : Nat) (v : Int32) : HS := iall σ a (up1 (iof σ a) k v)
def lput (σ : HS) (a k : Nat) (v : Int64) : HS := lall σ a (up1 (lof σ a) k v)
def rput (σ : HS) (a k : Nat) (v : Option Nat) : HS := rall σ a (up1 (rof σ a) k v)
/-- a new cell: kind t, length n, w slots -/
def hnew (σ : HS) (t n w : Nat) : HS := (up1 σ.1 (nxt σ) (fun _ => 0), up1 σ.2.1 (nxt σ) (fun _ => 0), up1 σ.2.2.1 (nxt σ) (fun _ => none), up1 σ.2.2.2.1 (nxt σ) (t, n), nxt σ + 1, slt σ + w)
theorem up1_self {α : Type} (f : Nat → α) (a : Nat) (g : α) : up1 f a g a = g := by simp [up1]
theorem up1_ne {α : Type} {f : Nat → α} {a b : Nat} {g : α} (h : b ≠ a) : up1 f a g b = f b := by simp [up1, h]
theorem up1_up1 {α : Type} (f : Nat → α) (a : Nat) (g h : α) : up1 (up1 f a g) a h = up1 f a h := by
  funext b
  by_cases e : b = a <;> simp [up1, e]
theorem up1_id {α : Type} (f : Nat → α) (a : Nat) : up1 f a (f a) = f := by
  funext b
  by_cases e : b = a <;> simp [up1, e]
theorem iof_iall (σ : HS) (a b k : Nat) (g : Nat → Int32) : iof (iall σ a g) b k = if b = a then g k else iof σ b k := by
  by_cases h : b = a <;> simp [iof, iall, up1, h]
theorem lof_iall (σ : HS) (a b k : Nat) (g : Nat → Int32) : lof (iall σ a g) b k = lof σ b k := rfl
theorem rof_iall (σ : HS) (a b k : Nat) (g : Nat → Int32) : rof (iall σ a g) b k = rof σ b k := rfl
theorem tof_iall (σ : HS) (a b : Nat) (g : Nat → Int32) : tof (iall σ a g) b = tof σ b := rfl
theorem nof_iall (σ : HS) (a b : Nat) (g : Nat → Int32) : nof (iall σ a g) b = nof σ b := rfl
theorem nxt_iall (σ : HS) (a : Nat) (g : Nat → Int32) : nxt (iall σ a g) = nxt σ := rfl
theorem slt_iall (σ : HS) (a : Nat) (g : Nat → Int32) : slt (iall σ a g) = slt σ := rfl
theorem lof_lall (σ : HS) (a b k : Nat) (g : Nat → Int64) : lof (lall σ a g) b k = if b = a then g k else lof σ b k := by
  by_cases h : b = a <;> simp [lof, lall, up1, h]
theorem iof_lall (σ : HS) (a b k : Nat) (g : Nat → Int64) : iof (lall σ a g) b k = iof σ b k := rfl
theorem rof_lall (σ : HS) (a b k : Nat) (g : Nat → Int64) : rof (lall σ a g) b k = rof σ b k := rfl
theorem tof_lall (σ : HS) (a b : Nat) (g : Nat → Int64) : tof (lall σ a g) b = tof σ b := rfl
theorem nof_lall (σ : HS) (a b : Nat) (g : Nat → Int64) : nof (lall σ a g) b = nof σ b := rfl
theorem nxt_lall (σ : HS) (a : Nat) (g : Nat → Int64) : nxt (lall σ a g) = nxt σ := rfl
theorem slt_lall (σ : HS) (a : Nat) (g : Nat → Int64) : slt (lall σ a g) = slt σ := rfl
theorem rof_rall (σ : HS) (a b k : Nat) (g : Nat → Option Nat) : rof (rall σ a g) b k = if b = a then g k else rof σ b k := by
  by_cases h : b = a <;> simp [rof, rall, up1, h]
theorem iof_rall (σ : HS) (a b k : Nat) (g : Nat → Option Nat) : iof (rall σ a g) b k = iof σ b k := rfl
theorem lof_rall (σ : HS) (a b k : Nat) (g : Nat → Option Nat) : lof (rall σ a g) b k = lof σ b k := rfl
theorem tof_rall (σ : HS) (a b : Nat) (g : Nat → Option Nat) : tof (rall σ a g) b = tof σ b := rfl
theorem nof_rall (σ : HS) (a b : Nat) (g : Nat → Option Nat) : nof (rall σ a g) b = nof σ b := rfl
theorem nxt_rall (σ : HS) (a : Nat) (g : Nat → Option Nat) : nxt (rall σ a g) = nxt σ := rfl
theorem slt_rall (σ : HS) (a : Nat) (g : Nat → Option Nat) : slt (rall σ a g) = slt σ := rfl
theorem iof_hnew (σ : HS) (t n w b k : Nat) : iof (hnew σ t n w) b k = if b = nxt σ then 0 else iof σ b k := by
  by_cases h : b = nxt σ <;> simp [iof, hnew, up1, h]
theorem lof_hnew (σ : HS) (t n w b k : Nat) : lof (hnew σ t n w) b k = if b = nxt σ then 0 else lof σ b k := by
  by_cases h : b = nxt σ <;> simp [lof, hnew, up1, h]
theorem rof_hnew (σ : HS) (t n w b k : Nat) : rof (hnew σ t n w) b k = if b = nxt σ then none else rof σ b k := by
  by_cases h : b = nxt σ <;> simp [rof, hnew, up1, h]
theorem tof_hnew (σ : HS) (t n w b : Nat) : tof (hnew σ t n w) b = if b = nxt σ then t else tof σ b := by
  by_cases h : b = nxt σ <;> simp [tof, hnew, up1, h]
theorem nof_hnew (σ : HS) (t n w b : Nat) : nof (hnew σ t n w) b = if b = nxt σ then n else nof σ b := by
  by_cases h : b = nxt σ <;> simp [nof, hnew, up1, h]
theorem nxt_hnew (σ : HS) (t n w : Nat) : nxt (hnew σ t n w) = nxt σ + 1 := rfl
theorem slt_hnew (σ : HS) (t n w : Nat) : slt (hnew σ t n w) = slt σ + w := rfl
theorem iof_iput (σ : HS) (a k : Nat) (v : Int32) (b j : Nat) : iof (iput σ a k v) b j = if b = a ∧ j = k then v else iof σ b j := by
  by_cases h : b = a <;> by_cases h2 : j = k <;> simp [iput, iof_iall, up1, h, h2]
theorem lof_lput (σ : HS) (a k : Nat) (v : Int64) (b j : Nat) : lof (lput σ a k v) b j = if b = a ∧ j = k then v else lof σ b j := by
  by_cases h : b = a <;> by_cases h2 : j = k <;> simp [lput, lof_lall, up1, h, h2]
theorem rof_rput (σ : HS) (a k : Nat) (v : Option Nat) (b j : Nat) : rof (rput σ a k v) b j = if b = a ∧ j = k then v else rof σ b j := by
  by_cases h : b = a <;> by_cases h2 : j = k <;> simp [rput, rof_rall, up1, h, h2]
theorem iall_iall (σ : HS) (a : Nat) (f g : Nat → Int32) : iall (iall σ a f) a g = iall σ a g := by simp [iall, up1_up1]
theorem lall_lall (σ : HS) (a : Nat) (f g : Nat → Int64) : lall (lall σ a f) a g = lall σ a g := by simp [lall, up1_up1]
theorem rall_rall (σ : HS) (a : Nat) (f g : Nat → Option Nat) : rall (rall σ a f) a g = rall σ a g := by simp [rall, up1_up1]
theorem iput_iall (σ : HS) (a k : Nat) (f : Nat → Int32) (v : Int32) : iput (iall σ a f) a k v = iall σ a (up1 f k v) := by
  have h : iof (iall σ a f) a = f := by funext j; simp [iof_iall]
  rw [iput, h, iall_iall]
theorem lput_lall (σ : HS) (a k : Nat) (f : Nat → Int64) (v : Int64) : lput (lall σ a f) a k v = lall σ a (up1 f k v) := by
  have h : lof (lall σ a f) a = f := by funext j; simp [lof_lall]
  rw [lput, h, lall_lall]
theorem rput_rall (σ : HS) (a k : Nat) (f : Nat → Option Nat) (v : Option Nat) : rput (rall σ a f) a k v = rall σ a (up1 f k v) := by
  have h : rof (rall σ a f) a = f := by funext j; simp [rof_rall]
  rw [rput, h, rall_rall]
theorem iall_id (σ : HS) (a : Nat) : iall σ a (iof σ a) = σ := by
  show (up1 σ.1 a (σ.1 a), σ.2) = σ
  rw [up1_id]
/-- a reference or null, as a value -/
def rv (r : Option Nat) : Value := match r with
  | none => .null
  | some a => .ref a
/-- a local that holds nothing known -/
abbrev UU : Value := .float 0
abbrev Out : Type := (Nat × List Value × List Value × HS) ⊕ ((Nat × List Value × List Value × Nat) ⊕ (Option Value ⊕ (Nat ⊕ Unit)))
abbrev SI : Type := Nat → List Value → List Value → HS → Out
abbrev Res : Type := Option Value ⊕ Nat
/-- goes on at pc' -/
def o_nx (pc : Nat) (ls st : List Value) (σ : HS) : Out := .inl (pc, ls, st, σ)
/-- calls y' with as; goes on at pc' with rest -/
def o_cl (y : Nat) (as rest : List Value) (pc : Nat) : Out := .inr (.inl (y, as, rest, pc))
def o_rt (v : Option Value) : Out := .inr (.inr (.inl v))
def o_th (e : Nat) : Out := .inr (.inr (.inr (.inl e)))
def o_sk : Out := .inr (.inr (.inr (.inr ())))
/-- the locals of a callee -/
def lin : List Value → Nat → List Value
  | [], n => List.replicate n UU
  | .long x :: vs, n => .long x :: UU :: lin vs (n - 2)
  | .double x :: vs, n => .double x :: UU :: lin vs (n - 2)
  | v :: vs, n => v :: lin vs (n - 1)
/-- the table of handlers: caught at h: some (some h); not caught: some none -/
def hfind : List (Nat × Nat × Nat × Nat) → Nat → Nat → Option (Option Nat)
  | [], _, _ => some none
  | (s, e, h, t) :: hs, pc, k => if s ≤ pc ∧ pc < e then (if t = k then some (some h) else none) else hfind hs pc k
section RUN
variable (P : Nat → Nat → SI) (ML : Nat → Nat) (HT : Nat → List (Nat × Nat × Nat × Nat))
def run : Nat → Nat → Nat → Nat → List Value → List Value → HS → Option (Res × HS)
  | 0, _, _, _, _, _, _ => none
  | f + 1, d, y, pc, ls, st, σ => match P y pc pc ls st σ with
    | .inl (pc', ls', st', σ') => run f d y pc' ls' st' σ'
    | .inr (.inl (y', as, rest, pc')) => match d with
      | 0 => none
      | d' + 1 => match run f d' y' 0 (lin as (ML y')) [] σ with
        | none => none
        | some (.inl v, σ1) => run f (d' + 1) y pc' ls (v.toList ++ rest) σ1
        | some (.inr e, σ1) => match hfind (HT y) pc (tof σ1 e) with
          | some (some h) => run f (d' + 1) y h ls [.ref e] σ1
          | some none => some (.inr e, σ1)
          | none => none
    | .inr (.inr (.inl v)) => some (.inl v, σ)
    | .inr (.inr (.inr (.inl e))) => match hfind (HT y) pc (tof σ e) with
      | some (some h) => run f d y h ls [.ref e] σ
      | some none => some (.inr e, σ)
      | none => none
    | .inr (.inr (.inr (.inr _))) => none
theorem run_mono : ∀ (f : Nat) (d y pc : Nat) (ls st : List Value) (σ : HS) (x : Res × HS), run P ML HT f d y pc ls st σ = some x → run P ML HT (f + 1) d y pc ls st σ = some x := by
  intro f
  induction f with
  | zero => intro d y pc ls st σ x h; cases h
  | succ f ih =>
    intro d y pc ls st σ x h
    rw [run] at h
    rw [run]
    cases hA : P y pc pc ls st σ with
    | inl q =>
      obtain ⟨pc', ls', st', σ'⟩ := q
      rw [hA] at h
      exact ih _ _ _ _ _ _ _ h
    | inr q =>
      rw [hA] at h
      cases q with
      | inl q =>
        obtain ⟨y', as, rest, pc'⟩ := q
        cases d with
        | zero => cases h
        | succ d' =>
          dsimp only at h ⊢
          cases hr : run P ML HT f d' y' 0 (lin as (ML y')) [] σ with
          | none => rw [hr] at h; cases h
          | some z =>
            rw [hr] at h
            rw [ih _ _ _ _ _ _ _ hr]
            obtain ⟨r, σ1⟩ := z
            cases r with
            | inl v => exact ih _ _ _ _ _ _ _ h
            | inr e =>
              dsimp only at h ⊢
              cases hh : hfind (HT y) pc (tof σ1 e) with
              | none => rw [hh] at h; cases h
              | some o =>
                rw [hh] at h
                cases o with
                | none => exact h
                | some p => exact ih _ _ _ _ _ _ _ h
      | inr q =>
        cases q with
        | inl v => exact h
        | inr q =>
          cases q with
          | inl e =>
            dsimp only at h ⊢
            cases hh : hfind (HT y) pc (tof σ e) with
            | none => rw [hh] at h; cases h
            | some o =>
              rw [hh] at h
              cases o with
              | none => exact h
              | some p => exact ih _ _ _ _ _ _ _ h
          | inr u => cases h
theorem run_le {f g : Nat} (hfg : f ≤ g) {d y pc : Nat} {ls st : List Value} {σ : HS} {x : Res × HS} (h : run P ML HT f d y pc ls st σ = some x) : run P ML HT g d y pc ls st σ = some x := by
  induction hfg with
  | refl => exact h
  | step _ ih => exact run_mono P ML HT _ _ _ _ _ _ _ _ ih
/-- from here the machine comes to an end (a value, or an exception) with Q -/
def GG (d y pc : Nat) (ls st : List Value) (σ : HS) (Q : Res → HS → Prop) : Prop := ∃ (f : Nat) (r : Res) (σ' : HS), run P ML HT f d y pc ls st σ = some (r, σ') ∧ Q r σ'
/-- e thrown at pc -/
def GX (d y pc : Nat) (ls : List Value) (e : Nat) (σ : HS) (Q : Res → HS → Prop) : Prop := match hfind (HT y) pc (tof σ e) with
  | some (some h) => GG P ML HT d y h ls [.ref e] σ Q
  | some none => Q (.inr e) σ
  | none => False
/-- behind a call -/
def GK (d y pc pc' : Nat) (ls rest : List Value) (Q : Res → HS → Prop) : Res → HS → Prop := fun r σ => match r with
  | .inl v => GG P ML HT d y pc' ls (v.toList ++ rest) σ Q
  | .inr e => GX P ML HT d y pc ls e σ Q
theorem GG_nx {d y pc pc' : Nat} {ls ls' st st' : List Value} {σ σ' : HS} {Q : Res → HS → Prop} (h : P y pc pc ls st σ = o_nx pc' ls' st' σ') : GG P ML HT d y pc ls st σ Q = GG P ML HT d y pc' ls' st' σ' Q := by
  apply propext
  constructor
  · rintro ⟨f, r, σ2, hr, hq⟩
    cases f with
    | zero => cases hr
    | succ f =>
      rw [run, h] at hr
      exact ⟨f, r, σ2, hr, hq⟩
  · rintro ⟨f, r, σ2, hr, hq⟩
    refine ⟨f + 1, r, σ2, ?_, hq⟩
    rw [run, h]
    exact hr
theorem GG_rt {d y pc : Nat} {ls st : List Value} {σ : HS} {v : Option Value} {Q : Res → HS → Prop} (h : P y pc pc ls st σ = o_rt v) : GG P ML HT d y pc ls st σ Q = Q (.inl v) σ := by
  apply propext
  constructor
  · rintro ⟨f, r, σ2, hr, hq⟩
    cases f with
    | zero => cases hr
    | succ f =>
      rw [run, h] at hr
      cases hr
      exact hq
  · intro hq
    refine ⟨1, _, _, ?_, hq⟩
    rw [run, h]
    rfl
theorem GG_th {d y pc : Nat} {ls st : List Value} {σ : HS} {e : Nat} {Q : Res → HS → Prop} (h : P y pc pc ls st σ = o_th e) : GG P ML HT d y pc ls st σ Q = GX P ML HT d y pc ls e σ Q := by
  apply propext
  unfold GX
  constructor
  · rintro ⟨f, r, σ2, hr, hq⟩
    cases f with
    | zero => cases hr
    | succ f =>
      rw [run, h] at hr
      simp only [o_th] at hr
      cases hh : hfind (HT y) pc (tof σ e) with
      | none => rw [hh] at hr; cases hr
      | some o =>
        rw [hh] at hr
        cases o with
        | none => cases hr; exact hq
        | some p => exact ⟨f, r, σ2, hr, hq⟩
  · intro hq
    cases hh : hfind (HT y) pc (tof σ e) with
    | none => rw [hh] at hq; exact hq.elim
    | some o =>
      rw [hh] at hq
      cases o with
      | none =>
        refine ⟨1, _, _, ?_, hq⟩
        rw [run, h]
        simp only [o_th]
        rw [hh]
      | some p =>
        obtain ⟨f, r, σ2, hr, hq⟩ := hq
        refine ⟨f + 1, r, σ2, ?_, hq⟩
        rw [run, h]
        simp only [o_th]
        rw [hh]
        exact hr
theorem GG_cl {d y pc y' pc' : Nat} {ls st as rest : List Value} {σ : HS} {Q : Res → HS → Prop} (h : P y pc pc ls st σ = o_cl y' as rest pc') : GG P ML HT (d + 1) y pc ls st σ Q = GG P ML HT d y' 0 (lin as (ML y')) [] σ (GK P ML HT (d + 1) y pc pc' ls rest Q) := by
  apply propext
  constructor
  · rintro ⟨f, r, σ2, hr, hq⟩
    cases f with
    | zero => cases hr
    | succ f =>
      rw [run, h] at hr
      simp only [o_cl] at hr
      cases hc : run P ML HT f d y' 0 (lin as (ML y')) [] σ with
      | none => rw [hc] at hr; cases hr
      | some z =>
        rw [hc] at hr
        obtain ⟨r1, σ1⟩ := z
        refine ⟨f, r1, σ1, hc, ?_⟩
        cases r1 with
        | inl v => exact ⟨f, r, σ2, hr, hq⟩
        | inr e =>
          show GX P ML HT (d + 1) y pc ls e σ1 Q
          unfold GX
          dsimp only at hr
          cases hh : hfind (HT y) pc (tof σ1 e) with
          | none => rw [hh] at hr; cases hr
          | some o =>
            rw [hh] at hr
            cases o with
            | none => cases hr; exact hq
            | some p => exact ⟨f, r, σ2, hr, hq⟩
  · rintro ⟨f, r1, σ1, hc, hq⟩
    cases r1 with
    | inl v =>
      obtain ⟨g, r, σ2, hr, hq⟩ := (hq : GG P ML HT (d + 1) y pc' ls (v.toList ++ rest) σ1 Q)
      refine ⟨max f g + 1, r, σ2, ?_, hq⟩
      rw [run, h]
      simp only [o_cl]
      rw [run_le P ML HT (Nat.le_max_left f g) hc]
      exact run_le P ML HT (Nat.le_max_right f g) hr
    | inr e =>
      have hq : GX P ML HT (d + 1) y pc ls e σ1 Q := hq
      unfold GX at hq
      cases hh : hfind (HT y) pc (tof σ1 e) with
      | none => rw [hh] at hq; exact hq.elim
      | some o =>
        rw [hh] at hq
        cases o with
        | none =>
          refine ⟨f + 1, _, _, ?_, hq⟩
          rw [run, h]
          simp only [o_cl]
          rw [hc]
          dsimp only
          rw [hh]
        | some p =>
          obtain ⟨g, r, σ2, hr, hq⟩ := hq
          refine ⟨max f g + 1, r, σ2, ?_, hq⟩
          rw [run, h]
          simp only [o_cl]
          rw [run_le P ML HT (Nat.le_max_left f g) hc]
          dsimp only
          rw [hh]
          exact run_le P ML HT (Nat.le_max_right f g) hr
theorem GG_mono {d y pc : Nat} {ls st : List Value} {σ : HS} {Q Q' : Res → HS → Prop} (h : GG P ML HT d y pc ls st σ Q) (hq : ∀ r σ', Q r σ' → Q' r σ') : GG P ML HT d y pc ls st σ Q' := by
  obtain ⟨f, r, σ', h1, h2⟩ := h
  exact ⟨f, r, σ', h1, hq _ _ h2⟩
end RUN
