/-! THE PLAIN LAW, the ground: reads of written heaps, truth values, small methods -/
theorem rof_iput (σ : HS) (a k : Nat) (v : Int32) (b j : Nat) : rof (iput σ a k v) b j = rof σ b j := rfl
theorem lof_iput (σ : HS) (a k : Nat) (v : Int32) (b j : Nat) : lof (iput σ a k v) b j = lof σ b j := rfl
theorem tof_iput (σ : HS) (a k : Nat) (v : Int32) (b : Nat) : tof (iput σ a k v) b = tof σ b := rfl
theorem nof_iput (σ : HS) (a k : Nat) (v : Int32) (b : Nat) : nof (iput σ a k v) b = nof σ b := rfl
theorem nxt_iput (σ : HS) (a k : Nat) (v : Int32) : nxt (iput σ a k v) = nxt σ := rfl
theorem slt_iput (σ : HS) (a k : Nat) (v : Int32) : slt (iput σ a k v) = slt σ := rfl
theorem iof_lput (σ : HS) (a k : Nat) (v : Int64) (b j : Nat) : iof (lput σ a k v) b j = iof σ b j := rfl
theorem rof_lput (σ : HS) (a k : Nat) (v : Int64) (b j : Nat) : rof (lput σ a k v) b j = rof σ b j := rfl
theorem tof_lput (σ : HS) (a k : Nat) (v : Int64) (b : Nat) : tof (lput σ a k v) b = tof σ b := rfl
theorem nof_lput (σ : HS) (a k : Nat) (v : Int64) (b : Nat) : nof (lput σ a k v) b = nof σ b := rfl
theorem nxt_lput (σ : HS) (a k : Nat) (v : Int64) : nxt (lput σ a k v) = nxt σ := rfl
theorem slt_lput (σ : HS) (a k : Nat) (v : Int64) : slt (lput σ a k v) = slt σ := rfl
theorem iof_rput (σ : HS) (a k : Nat) (v : Option Nat) (b j : Nat) : iof (rput σ a k v) b j = iof σ b j := rfl
theorem lof_rput (σ : HS) (a k : Nat) (v : Option Nat) (b j : Nat) : lof (rput σ a k v) b j = lof σ b j := rfl
theorem tof_rput (σ : HS) (a k : Nat) (v : Option Nat) (b : Nat) : tof (rput σ a k v) b = tof σ b := rfl
theorem nof_rput (σ : HS) (a k : Nat) (v : Option Nat) (b : Nat) : nof (rput σ a k v) b = nof σ b := rfl
theorem nxt_rput (σ : HS) (a k : Nat) (v : Option Nat) : nxt (rput σ a k v) = nxt σ := rfl
theorem slt_rput (σ : HS) (a k : Nat) (v : Option Nat) : slt (rput σ a k v) = slt σ := rfl
/-- a truth value -/
def bI (p : Prop) [Decidable p] : Int32 := if p then nI 1 else nI 0
theorem nar1 : narrow .boolean (.int (nI 1)) = .int (nI 1) := by decide
theorem nar0 : narrow .boolean (.int (nI 0)) = .int (nI 0) := by decide
theorem bI_nar (p : Prop) [Decidable p] : narrow .boolean (.int (bI p)) = .int (bI p) := by
  unfold bI
  split
  · exact nar1
  · exact nar0
theorem bI_0 (p : Prop) [Decidable p] : bI p = nI 0 ↔ ¬ p := by
  unfold bI
  split <;> rename_i h
  · exact ⟨fun e => absurd e (by decide), fun g => absurd h g⟩
  · exact ⟨fun _ => h, fun _ => rfl⟩
theorem ite_in {α : Sort _} (v lo hi : Int32) (A B : α) : (if v < lo then B else if hi < v then B else A) = (if lo ≤ v ∧ v ≤ hi then A else B) := by
  by_cases h1 : v < lo
  · rw [if_pos h1, if_neg (fun h => absurd h1 (Int32.not_lt.mpr h.1))]
  · rw [if_neg h1]
    by_cases h2 : hi < v
    · rw [if_pos h2, if_neg (fun h => absurd h2 (Int32.not_lt.mpr h.2))]
    · rw [if_neg h2, if_pos ⟨Int32.not_lt.mp h1, Int32.not_lt.mp h2⟩]
/-- isIn, of the component -/
theorem f_9 {d : Nat} {v lo hi : Int32} {σ : HS} {Q : Res → HS → Prop} : GG0 d 9 0 [.int v, .int lo, .int hi] [] σ Q = Q (.inl (some (.int (bI (lo ≤ v ∧ v ≤ hi))))) σ := by
  simp only [E_9, nar1, nar0, ite_in, bI]
  split <;> rfl
