/-! where the Statement says the String constants (printed by tools/gen_start.py) -/
set_option maxRecDepth 100000
def nzW (own : String) (k : Nat) (byt : List Int32) : List Cond :=
  Cond.exactly (.string own k) "java/lang/String" :: Cond.eq (.field (.string own k) "java/lang/String" "coder" "B") (.int 0) :: Cond.arrayOf (.field (.string own k) "java/lang/String" "value" "[B") .byte :: Cond.eq (.length (.field (.string own k) "java/lang/String" "value" "[B")) (.int (Int32.ofNat byt.length)) ::
    (List.range byt.length).map (fun j => Cond.eq (.elem (.field (.string own k) "java/lang/String" "value" "[B") (.int (Int32.ofNat j))) (.int (byt.getD j 0)))
def nzF : List Cond := flatC narrow_1
def STok (i : Nat) : Prop := ∀ q, stL_[i]? = some q → Cond.stringRef q.1 q.2.1 q.2.2 ∈ lw_tbl ∧ (∀ w ∈ nzW q.1 q.2.1 (bytS.getD i []), w ∈ nzF) ∧ lenS.getD i 0 = (bytS.getD i []).length ∧ lenS.getD i 0 < 100
theorem nz_in {a n : Nat} {l : List Cond} (h : (nzF.drop a).take n = l) : ∀ w ∈ l, w ∈ nzF := by
  intro w hw
  rw [← h] at hw
  exact List.mem_of_mem_drop (List.mem_of_mem_take hw)
theorem nz_0 : (nzF.drop 177).take 9 = nzW "TwoHalves" 22 (bytS.getD 0 []) := by decide +kernel
theorem st_0 : STok 0 := fun q h => by cases h; exact ⟨q222, nz_in nz_0, by decide, by decide⟩
theorem nz_1 : (nzF.drop 186).take 9 = nzW "TwoHalves" 24 (bytS.getD 1 []) := by decide +kernel
theorem st_1 : STok 1 := fun q h => by cases h; exact ⟨q223, nz_in nz_1, by decide, by decide⟩
theorem nz_2 : (nzF.drop 195).take 8 = nzW "TwoHalves" 26 (bytS.getD 2 []) := by decide +kernel
theorem st_2 : STok 2 := fun q h => by cases h; exact ⟨q224, nz_in nz_2, by decide, by decide⟩
theorem nz_3 : (nzF.drop 203).take 7 = nzW "TwoHalves" 28 (bytS.getD 3 []) := by decide +kernel
theorem st_3 : STok 3 := fun q h => by cases h; exact ⟨q225, nz_in nz_3, by decide, by decide⟩
theorem nz_4 : (nzF.drop 210).take 9 = nzW "TwoHalves" 34 (bytS.getD 4 []) := by decide +kernel
theorem st_4 : STok 4 := fun q h => by cases h; exact ⟨q226, nz_in nz_4, by decide, by decide⟩
theorem nz_5 : (nzF.drop 219).take 8 = nzW "TwoHalves" 36 (bytS.getD 5 []) := by decide +kernel
theorem st_5 : STok 5 := fun q h => by cases h; exact ⟨q227, nz_in nz_5, by decide, by decide⟩
theorem nz_6 : (nzF.drop 227).take 8 = nzW "TwoHalves" 38 (bytS.getD 6 []) := by decide +kernel
theorem st_6 : STok 6 := fun q h => by cases h; exact ⟨q228, nz_in nz_6, by decide, by decide⟩
theorem nz_7 : (nzF.drop 235).take 9 = nzW "TwoHalves" 40 (bytS.getD 7 []) := by decide +kernel
theorem st_7 : STok 7 := fun q h => by cases h; exact ⟨q229, nz_in nz_7, by decide, by decide⟩
theorem nz_8 : (nzF.drop 244).take 8 = nzW "TwoHalves" 45 (bytS.getD 8 []) := by decide +kernel
theorem st_8 : STok 8 := fun q h => by cases h; exact ⟨q230, nz_in nz_8, by decide, by decide⟩
theorem nz_9 : (nzF.drop 252).take 9 = nzW "TwoHalves" 47 (bytS.getD 9 []) := by decide +kernel
theorem st_9 : STok 9 := fun q h => by cases h; exact ⟨q231, nz_in nz_9, by decide, by decide⟩
theorem nz_10 : (nzF.drop 261).take 8 = nzW "TwoHalves" 52 (bytS.getD 10 []) := by decide +kernel
theorem st_10 : STok 10 := fun q h => by cases h; exact ⟨q232, nz_in nz_10, by decide, by decide⟩
theorem nz_11 : (nzF.drop 269).take 9 = nzW "TwoHalves" 54 (bytS.getD 11 []) := by decide +kernel
theorem st_11 : STok 11 := fun q h => by cases h; exact ⟨q233, nz_in nz_11, by decide, by decide⟩
theorem nz_12 : (nzF.drop 278).take 9 = nzW "TwoHalves" 56 (bytS.getD 12 []) := by decide +kernel
theorem st_12 : STok 12 := fun q h => by cases h; exact ⟨q234, nz_in nz_12, by decide, by decide⟩
theorem nz_13 : (nzF.drop 287).take 9 = nzW "TwoHalves" 58 (bytS.getD 13 []) := by decide +kernel
theorem st_13 : STok 13 := fun q h => by cases h; exact ⟨q235, nz_in nz_13, by decide, by decide⟩
theorem nz_14 : (nzF.drop 296).take 9 = nzW "TwoHalves" 60 (bytS.getD 14 []) := by decide +kernel
theorem st_14 : STok 14 := fun q h => by cases h; exact ⟨q236, nz_in nz_14, by decide, by decide⟩
theorem nz_15 : (nzF.drop 305).take 8 = nzW "TwoHalves" 62 (bytS.getD 15 []) := by decide +kernel
theorem st_15 : STok 15 := fun q h => by cases h; exact ⟨q237, nz_in nz_15, by decide, by decide⟩
theorem nz_16 : (nzF.drop 313).take 7 = nzW "TwoHalves" 64 (bytS.getD 16 []) := by decide +kernel
theorem st_16 : STok 16 := fun q h => by cases h; exact ⟨q238, nz_in nz_16, by decide, by decide⟩
theorem nz_17 : (nzF.drop 320).take 9 = nzW "TwoHalves" 66 (bytS.getD 17 []) := by decide +kernel
theorem st_17 : STok 17 := fun q h => by cases h; exact ⟨q239, nz_in nz_17, by decide, by decide⟩
theorem nz_18 : (nzF.drop 329).take 8 = nzW "TwoHalves" 71 (bytS.getD 18 []) := by decide +kernel
theorem st_18 : STok 18 := fun q h => by cases h; exact ⟨q240, nz_in nz_18, by decide, by decide⟩
theorem nz_19 : (nzF.drop 337).take 7 = nzW "TwoHalves" 73 (bytS.getD 19 []) := by decide +kernel
theorem st_19 : STok 19 := fun q h => by cases h; exact ⟨q241, nz_in nz_19, by decide, by decide⟩
theorem nz_20 : (nzF.drop 344).take 9 = nzW "TwoHalves" 75 (bytS.getD 20 []) := by decide +kernel
theorem st_20 : STok 20 := fun q h => by cases h; exact ⟨q242, nz_in nz_20, by decide, by decide⟩
theorem nz_21 : (nzF.drop 353).take 8 = nzW "TwoHalves" 77 (bytS.getD 21 []) := by decide +kernel
theorem st_21 : STok 21 := fun q h => by cases h; exact ⟨q243, nz_in nz_21, by decide, by decide⟩
theorem nz_22 : (nzF.drop 361).take 6 = nzW "TwoHalves" 82 (bytS.getD 22 []) := by decide +kernel
theorem st_22 : STok 22 := fun q h => by cases h; exact ⟨q244, nz_in nz_22, by decide, by decide⟩
theorem nz_23 : (nzF.drop 367).take 9 = nzW "TwoHalves" 84 (bytS.getD 23 []) := by decide +kernel
theorem st_23 : STok 23 := fun q h => by cases h; exact ⟨q245, nz_in nz_23, by decide, by decide⟩
theorem nz_24 : (nzF.drop 376).take 9 = nzW "TwoHalves" 86 (bytS.getD 24 []) := by decide +kernel
theorem st_24 : STok 24 := fun q h => by cases h; exact ⟨q246, nz_in nz_24, by decide, by decide⟩
theorem nz_25 : (nzF.drop 385).take 8 = nzW "TwoHalves" 88 (bytS.getD 25 []) := by decide +kernel
theorem st_25 : STok 25 := fun q h => by cases h; exact ⟨q247, nz_in nz_25, by decide, by decide⟩
theorem nz_26 : (nzF.drop 393).take 9 = nzW "TwoHalves$SentenceReader" 17 (bytS.getD 26 []) := by decide +kernel
theorem st_26 : STok 26 := fun q h => by cases h; exact ⟨q471, nz_in nz_26, by decide, by decide⟩
theorem nz_27 : (nzF.drop 402).take 8 = nzW "TwoHalves$SentenceReader" 19 (bytS.getD 27 []) := by decide +kernel
theorem st_27 : STok 27 := fun q h => by cases h; exact ⟨q472, nz_in nz_27, by decide, by decide⟩
theorem nz_28 : (nzF.drop 410).take 9 = nzW "TwoHalves$SentenceReader" 21 (bytS.getD 28 []) := by decide +kernel
theorem st_28 : STok 28 := fun q h => by cases h; exact ⟨q473, nz_in nz_28, by decide, by decide⟩
theorem nz_29 : (nzF.drop 420).take 8 = nzW "TwoHalves$SentenceReader" 27 (bytS.getD 29 []) := by decide +kernel
theorem st_29 : STok 29 := fun q h => by cases h; exact ⟨q474, nz_in nz_29, by decide, by decide⟩
theorem nz_30 : (nzF.drop 428).take 10 = nzW "TwoHalves$SentenceReader" 29 (bytS.getD 30 []) := by decide +kernel
theorem st_30 : STok 30 := fun q h => by cases h; exact ⟨q475, nz_in nz_30, by decide, by decide⟩
theorem nz_31 : (nzF.drop 438).take 10 = nzW "TwoHalves$SentenceReader" 31 (bytS.getD 31 []) := by decide +kernel
theorem st_31 : STok 31 := fun q h => by cases h; exact ⟨q476, nz_in nz_31, by decide, by decide⟩
theorem nz_32 : (nzF.drop 448).take 10 = nzW "TwoHalves$SentenceReader" 33 (bytS.getD 32 []) := by decide +kernel
theorem st_32 : STok 32 := fun q h => by cases h; exact ⟨q477, nz_in nz_32, by decide, by decide⟩
theorem nz_33 : (nzF.drop 458).take 6 = nzW "TwoHalves$HeadReader" 129 (bytS.getD 33 []) := by decide +kernel
theorem st_33 : STok 33 := fun q h => by cases h; exact ⟨q867, nz_in nz_33, by decide, by decide⟩
theorem nz_34 : (nzF.drop 465).take 9 = nzW "TwoHalves$HeadReader" 141 (bytS.getD 34 []) := by decide +kernel
theorem st_34 : STok 34 := fun q h => by cases h; exact ⟨q880, nz_in nz_34, by decide, by decide⟩
theorem nz_35 : (nzF.drop 475).take 9 = nzW "TwoHalves$HeadReader" 146 (bytS.getD 35 []) := by decide +kernel
theorem st_35 : STok 35 := fun q h => by cases h; exact ⟨q881, nz_in nz_35, by decide, by decide⟩
theorem nz_36 : (nzF.drop 485).take 8 = nzW "TwoHalves$HeadReader" 150 (bytS.getD 36 []) := by decide +kernel
theorem st_36 : STok 36 := fun q h => by cases h; exact ⟨q882, nz_in nz_36, by decide, by decide⟩
theorem nz_37 : (nzF.drop 494).take 7 = nzW "TwoHalves$SentenceReader" 82 (bytS.getD 37 []) := by decide +kernel
theorem st_37 : STok 37 := fun q h => by cases h; exact ⟨q1180, nz_in nz_37, by decide, by decide⟩
theorem nz_38 : (nzF.drop 501).take 7 = nzW "TwoHalves$SentenceReader" 77 (bytS.getD 38 []) := by decide +kernel
theorem st_38 : STok 38 := fun q h => by cases h; exact ⟨q1256, nz_in nz_38, by decide, by decide⟩
theorem nz_39 : (nzF.drop 508).take 6 = nzW "TwoHalves$SentenceReader" 63 (bytS.getD 39 []) := by decide +kernel
theorem st_39 : STok 39 := fun q h => by cases h; exact ⟨q1270, nz_in nz_39, by decide, by decide⟩
theorem st_ok : ∀ i, i < 40 → STok i := by
  intro i hi
  match i, hi with
  | 0, _ => exact st_0
  | 1, _ => exact st_1
  | 2, _ => exact st_2
  | 3, _ => exact st_3
  | 4, _ => exact st_4
  | 5, _ => exact st_5
  | 6, _ => exact st_6
  | 7, _ => exact st_7
  | 8, _ => exact st_8
  | 9, _ => exact st_9
  | 10, _ => exact st_10
  | 11, _ => exact st_11
  | 12, _ => exact st_12
  | 13, _ => exact st_13
  | 14, _ => exact st_14
  | 15, _ => exact st_15
  | 16, _ => exact st_16
  | 17, _ => exact st_17
  | 18, _ => exact st_18
  | 19, _ => exact st_19
  | 20, _ => exact st_20
  | 21, _ => exact st_21
  | 22, _ => exact st_22
  | 23, _ => exact st_23
  | 24, _ => exact st_24
  | 25, _ => exact st_25
  | 26, _ => exact st_26
  | 27, _ => exact st_27
  | 28, _ => exact st_28
  | 29, _ => exact st_29
  | 30, _ => exact st_30
  | 31, _ => exact st_31
  | 32, _ => exact st_32
  | 33, _ => exact st_33
  | 34, _ => exact st_34
  | 35, _ => exact st_35
  | 36, _ => exact st_36
  | 37, _ => exact st_37
  | 38, _ => exact st_38
  | 39, _ => exact st_39
  | n + 40, h => exact absurd h (by omega)
theorem nz_us : Cond.isRef (.static "java/lang/Throwable" "UNASSIGNED_STACK" "[Ljava/lang/StackTraceElement;") ∈ nzF := List.mem_of_getElem? (i := 2) (by decide +kernel)
theorem nz_ss : Cond.isRef (.static "java/lang/Throwable" "SUPPRESSED_SENTINEL" "Ljava/util/List;") ∈ nzF := List.mem_of_getElem? (i := 3) (by decide +kernel)
theorem nz_cs : Cond.eq (.static "java/lang/String" "COMPACT_STRINGS" "Z") (.int 1) ∈ nzF := List.mem_of_getElem? (i := 4) (by decide +kernel)
theorem nz_sf : Cond.isRef (.static "jdk/internal/util/Preconditions" "SIOOBE_FORMATTER" "Ljava/util/function/BiFunction;") ∈ nzF := List.mem_of_getElem? (i := 5) (by decide +kernel)
