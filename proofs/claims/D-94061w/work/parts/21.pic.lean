/-! THE PICTURE: how the machine's heap holds the simple machine's -/
def rho (sp : Nat → Nat) (B a : Nat) : Nat := if a < 100 then sp a else B + (a - 100)
def rr (sp : Nat → Nat) (B : Nat) (v : Value) : Value := match v with
  | .ref a => .ref (rho sp B a)
  | v => v
theorem rr_rv (sp : Nat → Nat) (B : Nat) (r : Option Nat) : rr sp B (rv r) = va_rf (r.map (rho sp B)) := by cases r <;> rfl
theorem rr_cat (sp : Nat → Nat) (B : Nat) (v : Value) : (rr sp B v).category = v.category := by cases v <;> rfl
theorem rr_cats (sp : Nat → Nat) (B : Nat) (l : List Value) : ((l.map (rr sp B)).map fun v => v.category).sum = wsum l := by
  rw [List.map_map, ← wsum_sum]
  congr 1
  exact List.map_congr_left fun v _ => rr_cat sp B v
def fval (sp : Nat → Nat) (B : Nat) (q : Nat) (σ : HS) (a k : Nat) : Value := match q with
  | 0 => .int (iof σ a k)
  | 1 => .long (lof σ a k)
  | _ => rr sp B (rv (rof σ a k))
def flds (sp : Nat → Nat) (B ci : Nat) (σ : HS) (a : Nat) : List Value := (List.range (fkL.getD ci []).length).map (fun k => fval sp B ((fkL.getD ci []).getD k 0) σ a k)
def contA (sp : Nat → Nat) (B q : Nat) (σ : HS) (a : Nat) : (Nat → Int32) ⊕ (Nat → Int64) ⊕ (Nat → UInt32) ⊕ (Nat → UInt64) ⊕ (Nat → Option Nat) := match q with
  | 0 => .inl (iof σ a)
  | 1 => .inr (.inl (lof σ a))
  | _ => .inr (.inr (.inr (.inr (fun j => (rof σ a j).map (rho sp B)))))
def cel (dA : Nat → ClassId) (sp : Nat → Nat) (B : Nat) (σ : HS) (a : Nat) : va_E := if 100 ≤ tof σ a then .inl (dA (tof σ a - 100), nof σ a, contA sp B ((atL.getD (tof σ a - 100) (.int, 0)).2) σ a) else .inr (tof σ a - 1, flds sp B (tof σ a - 1) σ a)
def wld (dA : Nat → ClassId) (sp : Nat → Nat) (B : Nat) (σ : HS) : va_W := (List.range (nxt σ - 100)).map (fun i => (B + i, cel dA sp B σ (100 + i)))
def WF (σ : HS) : Prop := 100 ≤ nxt σ ∧ ∀ a, tof σ a ≠ 0 → 100 ≤ a ∧ a < nxt σ
def tyL (dA : Nat → ClassId) : List (ClassId × FieldType) := (List.range atL.length).map (fun t => (dA t, (atL.getD t (.int, 0)).1))
/-- the machine's heap H holds σ: from B on its cells -/
def PH (D : va_G) (dA : Nat → ClassId) (sp : Nat → Nat) (B : Nat) (xs : Nat → Int32) (L : Nat) (us : Nat → Option Nat) (σ : HS) (H : Heap) : Prop :=
  va_P D vwCl (wld dA sp B σ) H ∧ H.size = B + (nxt σ - 100) ∧ WF σ ∧ nof σ 0 = L ∧ (∀ j, j < L → iof σ 0 j = xs j) ∧ rof σ 1 = us
theorem flds_get {sp : Nat → Nat} {B ci : Nat} {σ : HS} {a k q : Nat} (hk : (fkL.getD ci [])[k]? = some q) : (flds sp B ci σ a)[k]? = some (fval sp B q σ a k) := by
  have hl : k < (fkL.getD ci []).length := (List.getElem?_eq_some_iff.mp hk).1
  simp only [flds, List.getElem?_map, List.getElem?_range hl, Option.map_some]
  rw [List.getD_eq_getElem?_getD, hk, Option.getD_some]
theorem flds_len {sp : Nat → Nat} {B ci : Nat} {σ : HS} {a : Nat} : (flds sp B ci σ a).length = (fkL.getD ci []).length := by simp [flds]
theorem wld_at {dA : Nat → ClassId} {sp : Nat → Nat} {B : Nat} {σ : HS} {a : Nat} (h1 : 100 ≤ a) (h2 : a < nxt σ) : (wld dA sp B σ)[a - 100]? = some (rho sp B a, cel dA sp B σ a) := by
  have hl : a - 100 < nxt σ - 100 := by omega
  simp only [wld, List.getElem?_map, List.getElem?_range hl, Option.map_some, rho, if_neg (show ¬ a < 100 by omega)]
  rw [show 100 + (a - 100) = a by omega]
theorem wld_len {dA : Nat → ClassId} {sp : Nat → Nat} {B : Nat} {σ : HS} : (wld dA sp B σ).length = nxt σ - 100 := by simp [wld]
/-- one cell has changed -/
theorem wld_set {dA : Nat → ClassId} {sp : Nat → Nat} {B : Nat} {σ σ' : HS} {a : Nat} (h1 : 100 ≤ a) (h2 : a < nxt σ) (hn : nxt σ' = nxt σ) (hc : ∀ b, b ≠ a → cel dA sp B σ' b = cel dA sp B σ b) : (wld dA sp B σ).set (a - 100) (rho sp B a, cel dA sp B σ' a) = wld dA sp B σ' := by
  apply List.ext_getElem?
  intro i
  by_cases hi : i < nxt σ - 100
  · have e' : (wld dA sp B σ')[i]? = some (B + i, cel dA sp B σ' (100 + i)) := by simp [wld, hn, hi]
    have e : (wld dA sp B σ)[i]? = some (B + i, cel dA sp B σ (100 + i)) := by simp [wld, hi]
    by_cases hia : i = a - 100
    · subst hia
      rw [List.getElem?_set_self (by rw [wld_len]; exact hi), e']
      rw [show 100 + (a - 100) = a by omega, rho, if_neg (by omega)]
    · rw [List.getElem?_set_ne (fun z => hia z.symm), e, e', hc _ (by omega)]
  · rw [List.getElem?_eq_none (by rw [List.length_set, wld_len]; omega), List.getElem?_eq_none (by rw [wld_len, hn]; omega)]
/-- one cell is new -/
theorem wld_push {dA : Nat → ClassId} {sp : Nat → Nat} {B : Nat} {σ σ' : HS} (h0 : 100 ≤ nxt σ) (hn : nxt σ' = nxt σ + 1) (hc : ∀ b, b < nxt σ → cel dA sp B σ' b = cel dA sp B σ b) : wld dA sp B σ ++ [(B + (nxt σ - 100), cel dA sp B σ' (nxt σ))] = wld dA sp B σ' := by
  have e1 : nxt σ' - 100 = (nxt σ - 100) + 1 := by omega
  have e2 : wld dA sp B σ' = (List.range (nxt σ - 100)).map (fun i => (B + i, cel dA sp B σ' (100 + i))) ++ [(B + (nxt σ - 100), cel dA sp B σ' (100 + (nxt σ - 100)))] := by
    unfold wld
    rw [e1, List.range_succ, List.map_append]
    rfl
  rw [e2, show 100 + (nxt σ - 100) = nxt σ by omega]
  congr 1
  unfold wld
  refine List.map_congr_left fun i hi => ?_
  rw [hc _ (by have := List.mem_range.mp hi; omega)]
/-- the cells are apart, and above B -/
theorem wld_D (dA : Nat → ClassId) (sp : Nat → Nat) (B : Nat) (σ : HS) : va_D (fun q => B ≤ q) (wld dA sp B σ) := by
  have key : ∀ (k : Nat) (q : Nat × va_E), (wld dA sp B σ)[k]? = some q → q.1 = B + k := by
    intro k q h
    have hk : k < nxt σ - 100 := by
      have := (List.getElem?_eq_some_iff.mp h).1
      rwa [wld_len] at this
    simp only [wld, List.getElem?_map, List.getElem?_range hk, Option.map_some] at h
    cases h
    rfl
  refine ⟨fun i j p q hp hq e => ?_, fun k q h => ?_⟩
  · rw [key i p hp, key j q hq] at e
    omega
  · show B ≤ q.1
    rw [key k q h]
    omega
theorem cel_congr {dA : Nat → ClassId} {sp : Nat → Nat} {B : Nat} {σ σ' : HS} {b : Nat} (h1 : iof σ' b = iof σ b) (h2 : lof σ' b = lof σ b) (h3 : rof σ' b = rof σ b) (h4 : tof σ' b = tof σ b) (h5 : nof σ' b = nof σ b) : cel dA sp B σ' b = cel dA sp B σ b := by
  have e1 : flds sp B (tof σ b - 1) σ' b = flds sp B (tof σ b - 1) σ b := by
    unfold flds
    refine List.map_congr_left fun k _ => ?_
    unfold fval
    rw [h1, h2, h3]
  have e2 : ∀ q, contA sp B q σ' b = contA sp B q σ b := by
    intro q
    unfold contA
    rw [h1, h2, h3]
  unfold cel
  rw [h4, h5, e1, e2]
theorem cel_obj {dA : Nat → ClassId} {sp : Nat → Nat} {B : Nat} {σ : HS} {a c : Nat} (h : tof σ a = c) (hc : c < 100) : cel dA sp B σ a = .inr (c - 1, flds sp B (c - 1) σ a) := by
  rw [cel, h, if_neg (by omega)]
theorem cel_arr {dA : Nat → ClassId} {sp : Nat → Nat} {B : Nat} {σ : HS} {a t q : Nat} {ty : FieldType} (h : tof σ a = 100 + t) (ht : atL[t]? = some (ty, q)) : cel dA sp B σ a = .inl (dA t, nof σ a, contA sp B q σ a) := by
  rw [cel, h, if_pos (by omega), show 100 + t - 100 = t by omega, List.getD_eq_getElem?_getD, ht, Option.getD_some]
theorem tyL_at {dA : Nat → ClassId} {t q : Nat} {ty : FieldType} (ht : atL[t]? = some (ty, q)) : (tyL dA)[t]? = some (dA t, ty) := by
  have hl : t < atL.length := (List.getElem?_eq_some_iff.mp ht).1
  unfold tyL
  rw [List.getElem?_map, List.getElem?_range hl, Option.map_some, List.getD_eq_getElem?_getD, ht, Option.getD_some]
theorem iall_cel {dA : Nat → ClassId} {sp : Nat → Nat} {B : Nat} {σ : HS} {a : Nat} {g : Nat → Int32} : ∀ b, b ≠ a → cel dA sp B (iall σ a g) b = cel dA sp B σ b := fun b hb => cel_congr (by funext k; rw [iof_iall, if_neg hb]) rfl rfl rfl rfl
theorem lall_cel {dA : Nat → ClassId} {sp : Nat → Nat} {B : Nat} {σ : HS} {a : Nat} {g : Nat → Int64} : ∀ b, b ≠ a → cel dA sp B (lall σ a g) b = cel dA sp B σ b := fun b hb => cel_congr rfl (by funext k; rw [lof_lall, if_neg hb]) rfl rfl rfl
theorem rall_cel {dA : Nat → ClassId} {sp : Nat → Nat} {B : Nat} {σ : HS} {a : Nat} {g : Nat → Option Nat} : ∀ b, b ≠ a → cel dA sp B (rall σ a g) b = cel dA sp B σ b := fun b hb => cel_congr rfl rfl (by funext k; rw [rof_rall, if_neg hb]) rfl rfl
theorem hnew_cel {dA : Nat → ClassId} {sp : Nat → Nat} {B : Nat} {σ : HS} {t n w : Nat} : ∀ b, b < nxt σ → cel dA sp B (hnew σ t n w) b = cel dA sp B σ b := fun b hb => cel_congr (by funext k; rw [iof_hnew, if_neg (by omega)]) (by funext k; rw [lof_hnew, if_neg (by omega)]) (by funext k; rw [rof_hnew, if_neg (by omega)]) (by rw [tof_hnew, if_neg (by omega)]) (by rw [nof_hnew, if_neg (by omega)])
theorem flds_iput {sp : Nat → Nat} {B ci : Nat} {σ : HS} {a k : Nat} {v : Int32} (hk : (fkL.getD ci [])[k]? = some 0) : flds sp B ci (iput σ a k v) a = (flds sp B ci σ a).set k (.int v) := by
  apply List.ext_getElem?
  intro i
  by_cases hi : i < (fkL.getD ci []).length
  · obtain ⟨q, hq⟩ : ∃ q, (fkL.getD ci [])[i]? = some q := ⟨_, List.getElem?_eq_getElem hi⟩
    rw [flds_get hq]
    by_cases hik : i = k
    · subst hik
      rw [List.getElem?_set_self (by rw [flds_len]; exact hi)]
      rw [hk] at hq
      cases hq
      simp [fval, iof_iput]
    · rw [List.getElem?_set_ne (fun z => hik z.symm), flds_get hq]
      have e1 : iof (iput σ a k v) a i = iof σ a i := by rw [iof_iput, if_neg (fun z => hik z.2)]
      congr 1
      unfold fval
      rw [e1]
      rfl
  · rw [List.getElem?_eq_none (by rw [flds_len]; omega), List.getElem?_eq_none (by rw [List.length_set, flds_len]; omega)]
theorem flds_lput {sp : Nat → Nat} {B ci : Nat} {σ : HS} {a k : Nat} {v : Int64} (hk : (fkL.getD ci [])[k]? = some 1) : flds sp B ci (lput σ a k v) a = (flds sp B ci σ a).set k (.long v) := by
  apply List.ext_getElem?
  intro i
  by_cases hi : i < (fkL.getD ci []).length
  · obtain ⟨q, hq⟩ : ∃ q, (fkL.getD ci [])[i]? = some q := ⟨_, List.getElem?_eq_getElem hi⟩
    rw [flds_get hq]
    by_cases hik : i = k
    · subst hik
      rw [List.getElem?_set_self (by rw [flds_len]; exact hi)]
      rw [hk] at hq
      cases hq
      simp [fval, lof_lput]
    · rw [List.getElem?_set_ne (fun z => hik z.symm), flds_get hq]
      have e1 : lof (lput σ a k v) a i = lof σ a i := by rw [lof_lput, if_neg (fun z => hik z.2)]
      congr 1
      unfold fval
      rw [e1]
      rfl
  · rw [List.getElem?_eq_none (by rw [flds_len]; omega), List.getElem?_eq_none (by rw [List.length_set, flds_len]; omega)]
theorem flds_rput {sp : Nat → Nat} {B ci : Nat} {σ : HS} {a k : Nat} {v : Option Nat} (hk : (fkL.getD ci [])[k]? = some 2) : flds sp B ci (rput σ a k v) a = (flds sp B ci σ a).set k (rr sp B (rv v)) := by
  apply List.ext_getElem?
  intro i
  by_cases hi : i < (fkL.getD ci []).length
  · obtain ⟨q, hq⟩ : ∃ q, (fkL.getD ci [])[i]? = some q := ⟨_, List.getElem?_eq_getElem hi⟩
    rw [flds_get hq]
    by_cases hik : i = k
    · subst hik
      rw [List.getElem?_set_self (by rw [flds_len]; exact hi)]
      rw [hk] at hq
      cases hq
      simp [fval, rof_rput]
    · rw [List.getElem?_set_ne (fun z => hik z.symm), flds_get hq]
      have e1 : rof (rput σ a k v) a i = rof σ a i := by rw [rof_rput, if_neg (fun z => hik z.2)]
      congr 1
      unfold fval
      rw [e1]
      rfl
  · rw [List.getElem?_eq_none (by rw [flds_len]; omega), List.getElem?_eq_none (by rw [List.length_set, flds_len]; omega)]
/-! the locals -/
def isK (v : Value) : Bool := match v with
  | .int _ => true
  | .long _ => true
  | .null => true
  | .ref _ => true
  | _ => false
def lvl (sp : Nat → Nat) (B : Nat) (ls : List Value) : List (Nat × Value) := (List.range ls.length).filterMap (fun i => match ls[i]? with
  | some v => if isK v then some (i, rr sp B v) else none
  | none => none)
theorem lvl_mem {sp : Nat → Nat} {B : Nat} {ls : List Value} {q : Nat × Value} : q ∈ lvl sp B ls ↔ ∃ v, ls[q.1]? = some v ∧ isK v = true ∧ q.2 = rr sp B v := by
  unfold lvl
  rw [List.mem_filterMap]
  constructor
  · rintro ⟨i, -, hi⟩
    cases hv : ls[i]? with
    | none => rw [hv] at hi; cases hi
    | some v =>
      rw [hv] at hi
      dsimp only at hi
      by_cases hk : isK v = true
      · rw [if_pos hk] at hi
        cases hi
        exact ⟨v, hv, hk, rfl⟩
      · rw [if_neg hk] at hi
        cases hi
  · rintro ⟨v, hv, hk, he⟩
    refine ⟨q.1, List.mem_range.mpr (List.getElem?_eq_some_iff.mp hv).1, ?_⟩
    rw [hv]
    dsimp only
    rw [if_pos hk, ← he]
theorem kll_K {v : Value} (h : isK (kll v) = true) : kll v = v ∧ v.category = 1 := by
  cases v <;> first | exact ⟨rfl, rfl⟩ | (exfalso; revert h; simp [kll, isK])
theorem stL_len : ∀ (ls : List Value) (i : Nat) (x : Value), (stL ls i x).length = ls.length
  | [], _, _ => rfl
  | _ :: l, 0, _ => by simp [stL]
  | [_], 1, _ => by simp [stL]
  | _ :: _ :: l, 1, _ => by simp [stL]
  | y :: l, i + 2, x => by
    have := stL_len l (i + 1) x
    cases l <;> simp_all [stL]
theorem stL_get : ∀ (ls : List Value) (i : Nat) (x : Value), i < ls.length → ∀ j v, (stL ls i x)[j]? = some v → (j = i ∧ v = x) ∨ (j ≠ i ∧ j + 1 ≠ i ∧ ls[j]? = some v) ∨ (j ≠ i ∧ j + 1 = i ∧ ∃ w, ls[j]? = some w ∧ v = kll w)
  | [], _, _, h, _, _, _ => by simp at h
  | y :: l, 0, x, _, j, v, hv => by
    cases j with
    | zero => simp [stL] at hv; exact Or.inl ⟨rfl, hv.symm⟩
    | succ j => simp [stL] at hv; exact Or.inr (Or.inl ⟨by omega, by omega, by simpa using hv⟩)
  | [_], 1, _, h, _, _, _ => by simp at h
  | y :: z :: l, 1, x, _, j, v, hv => by
    match j, hv with
    | 0, hv => simp [stL] at hv; exact Or.inr (Or.inr ⟨by omega, rfl, y, rfl, hv.symm⟩)
    | 1, hv => simp [stL] at hv; exact Or.inl ⟨rfl, hv.symm⟩
    | j + 2, hv => simp [stL] at hv; exact Or.inr (Or.inl ⟨by omega, by omega, by simpa using hv⟩)
  | y :: l, i + 2, x, h, j, v, hv => by
    have hl : i + 1 < l.length := by simp only [List.length_cons] at h; omega
    have e : stL (y :: l) (i + 2) x = y :: stL l (i + 1) x := by cases l <;> simp [stL]
    rw [e] at hv
    cases j with
    | zero => simp at hv; exact Or.inr (Or.inl ⟨by omega, by omega, by simpa using hv⟩)
    | succ j =>
      simp at hv
      rcases stL_get l (i + 1) x hl j v hv with ⟨e1, e2⟩ | ⟨e1, e2, e3⟩ | ⟨e1, e2, w, e3, e4⟩
      · exact Or.inl ⟨by omega, e2⟩
      · exact Or.inr (Or.inl ⟨by omega, by omega, by simpa using e3⟩)
      · exact Or.inr (Or.inr ⟨by omega, by omega, w, by simpa using e3, e4⟩)
theorem stW_len : ∀ (ls : List Value) (i : Nat) (x : Value), (stW ls i x).length = ls.length
  | [], _, _ => rfl
  | [_], 0, _ => by simp [stW]
  | _ :: _ :: l, 0, _ => by simp [stW]
  | [_], 1, _ => by simp [stW]
  | [_, _], 1, _ => by simp [stW]
  | y :: z :: u :: l, 1, x => by simp [stW]
  | y :: l, i + 2, x => by
    have := stW_len l (i + 1) x
    match l with
    | [] => simp [stW]
    | [_] => simp_all [stW]
    | _ :: _ :: _ => simp_all [stW]
theorem stW_get : ∀ (ls : List Value) (i : Nat) (x : Value), i + 1 < ls.length → ∀ j v, (stW ls i x)[j]? = some v → (j = i ∧ v = x) ∨ (j = i + 1 ∧ v = UU) ∨ (j ≠ i ∧ j ≠ i + 1 ∧ j + 1 ≠ i ∧ ls[j]? = some v) ∨ (j ≠ i ∧ j ≠ i + 1 ∧ j + 1 = i ∧ ∃ w, ls[j]? = some w ∧ v = kll w)
  | [], _, _, h, _, _, _ => by simp at h
  | [_], 0, _, h, _, _, _ => by simp at h
  | y :: z :: l, 0, x, _, j, v, hv => by
    match j, hv with
    | 0, hv => simp [stW] at hv; exact Or.inl ⟨rfl, hv.symm⟩
    | 1, hv => simp [stW] at hv; exact Or.inr (Or.inl ⟨rfl, hv.symm⟩)
    | j + 2, hv => simp [stW] at hv; exact Or.inr (Or.inr (Or.inl ⟨by omega, by omega, by omega, by simpa using hv⟩))
  | [_], 1, _, h, _, _, _ => by simp at h
  | [_, _], 1, _, h, _, _, _ => by simp at h
  | y :: z :: u :: l, 1, x, _, j, v, hv => by
    match j, hv with
    | 0, hv => simp [stW] at hv; exact Or.inr (Or.inr (Or.inr ⟨by omega, by omega, rfl, y, rfl, hv.symm⟩))
    | 1, hv => simp [stW] at hv; exact Or.inl ⟨rfl, hv.symm⟩
    | 2, hv => simp [stW] at hv; exact Or.inr (Or.inl ⟨rfl, hv.symm⟩)
    | j + 3, hv => simp [stW] at hv; exact Or.inr (Or.inr (Or.inl ⟨by omega, by omega, by omega, by simpa using hv⟩))
  | y :: l, i + 2, x, h, j, v, hv => by
    have hl : i + 1 + 1 < l.length := by simp only [List.length_cons] at h; omega
    have e : stW (y :: l) (i + 2) x = y :: stW l (i + 1) x := by
      match l with
      | [] => simp [stW]
      | [_] => simp [stW]
      | _ :: _ :: _ => simp [stW]
    rw [e] at hv
    cases j with
    | zero => simp at hv; exact Or.inr (Or.inr (Or.inl ⟨by omega, by omega, by omega, by simpa using hv⟩))
    | succ j =>
      simp at hv
      rcases stW_get l (i + 1) x hl j v hv with ⟨e1, e2⟩ | ⟨e1, e2⟩ | ⟨e1, e2, e5, e3⟩ | ⟨e1, e2, e5, w, e3, e4⟩
      · exact Or.inl ⟨by omega, e2⟩
      · exact Or.inr (Or.inl ⟨by omega, e2⟩)
      · exact Or.inr (Or.inr (Or.inl ⟨by omega, by omega, by omega, by simpa using e3⟩))
      · exact Or.inr (Or.inr (Or.inr ⟨by omega, by omega, by omega, w, by simpa using e3, e4⟩))
def LV (sp : Nat → Nat) (B nL : Nat) (ls : List Value) (lv : Array Slot) : Prop := ls.length = nL ∧ lv_has lv nL (lvl sp B ls)
theorem LV_get {sp : Nat → Nat} {B nL : Nat} {ls : List Value} {lv : Array Slot} {i : Nat} {v : Value} (h : LV sp B nL ls lv) (hv : ls[i]? = some v) (hk : isK v = true) : lv[i]? = some (.val (rr sp B v)) := h.2.2.2 (i, rr sp B v) (lvl_mem.mpr ⟨v, hv, hk, rfl⟩)
theorem LV_st {sp : Nat → Nat} {B nL : Nat} {ls : List Value} {lv : Array Slot} {i : Nat} {x : Value} (h : LV sp B nL ls lv) (hi : i < ls.length) (hx : isK x = true) (lv' : Array Slot) (h' : lv_has lv' nL ((i, rr sp B x) :: (lvl sp B ls).filter (fun q => !(q.1 == i) && !(q.1 + 1 == i && q.2.category == 2)))) : LV sp B nL (stL ls i x) lv' := by
  refine ⟨(stL_len ls i x).trans h.1, h'.1, h'.2.1, fun q hq => ?_⟩
  obtain ⟨v, h1, h2, h3⟩ := lvl_mem.mp hq
  refine h'.2.2 q ?_
  obtain ⟨j, w⟩ := q
  dsimp only at h1 h3
  subst h3
  rcases stL_get ls i x hi j v h1 with ⟨e1, e2⟩ | ⟨e1, e2, e3⟩ | ⟨e1, e2, w, e3, e4⟩
  · subst e1; subst e2; exact List.mem_cons_self
  · refine List.mem_cons_of_mem _ (List.mem_filter.mpr ⟨lvl_mem.mpr ⟨v, e3, h2, rfl⟩, ?_⟩)
    simp [e1, e2]
  · subst e4
    obtain ⟨k1, k2⟩ := kll_K h2
    refine List.mem_cons_of_mem _ (List.mem_filter.mpr ⟨lvl_mem.mpr ⟨w, e3, by rw [← k1]; exact h2, by rw [k1]⟩, ?_⟩)
    simp [e1, rr_cat, k1, k2]
theorem LV_sw {sp : Nat → Nat} {B nL : Nat} {ls : List Value} {lv : Array Slot} {i : Nat} {x : Value} (h : LV sp B nL ls lv) (hi : i + 1 < ls.length) (lv' : Array Slot) (h' : lv_has lv' nL ((i, rr sp B x) :: (lvl sp B ls).filter (fun q => !(q.1 == i) && (!(q.1 == i + 1) && !(q.1 + 1 == i && q.2.category == 2))))) : LV sp B nL (stW ls i x) lv' := by
  refine ⟨(stW_len ls i x).trans h.1, h'.1, h'.2.1, fun q hq => ?_⟩
  obtain ⟨v, h1, h2, h3⟩ := lvl_mem.mp hq
  refine h'.2.2 q ?_
  obtain ⟨j, w⟩ := q
  dsimp only at h1 h3
  subst h3
  rcases stW_get ls i x hi j v h1 with ⟨e1, e2⟩ | ⟨e1, e2⟩ | ⟨e1, e2, e5, e3⟩ | ⟨e1, e2, e5, w, e3, e4⟩
  · subst e1; subst e2; exact List.mem_cons_self
  · subst e2; exact absurd h2 (by decide)
  · refine List.mem_cons_of_mem _ (List.mem_filter.mpr ⟨lvl_mem.mpr ⟨v, e3, h2, rfl⟩, ?_⟩)
    simp [e1, e2, e5]
  · subst e4
    obtain ⟨k1, k2⟩ := kll_K h2
    refine List.mem_cons_of_mem _ (List.mem_filter.mpr ⟨lvl_mem.mpr ⟨w, e3, by rw [← k1]; exact h2, by rw [k1]⟩, ?_⟩)
    simp [e1, e2, rr_cat, k1, k2]
