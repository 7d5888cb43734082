/-! which classes may be cast to which, which methods a call may reach -/
def cst_HamletWells_Hamlet : List Nat := [13]
theorem cst_HamletWells_Hamlet_ok : ∀ c, c ∈ cst_HamletWells_Hamlet → ∃ (ci : Nat) (r : vw_C), c = ci + 1 ∧ vwCl[ci]? = some r ∧ (r.1 = "HamletWells$Hamlet" ∨ Cond.castable r.1 "HamletWells$Hamlet" ∈ lw_tbl) := by
  intro c hc
  unfold cst_HamletWells_Hamlet at hc
  simp only [List.mem_cons, List.not_mem_nil, or_false] at hc
  subst hc
  · exact ⟨12, _, rfl, hcX7, Or.inl rfl⟩
def cst_java_lang_Object : List Nat := [1, 2, 3, 4, 5, 6, 7, 8, 9, 10, 11, 12, 13, 14, 15, 16, 17, 18, 19, 20, 21, 22, 23, 24, 25, 26, 27, 28, 29, 30, 31, 32, 33, 34, 35, 36, 37, 38, 39, 40, 41, 42, 43, 44, 45, 46, 47, 48, 49, 50, 51, 52, 53, 54]
theorem cst_java_lang_Object_ok : ∀ c, c ∈ cst_java_lang_Object → ∃ (ci : Nat) (r : vw_C), c = ci + 1 ∧ vwCl[ci]? = some r ∧ (r.1 = "java/lang/Object" ∨ Cond.castable r.1 "java/lang/Object" ∈ lw_tbl) := by
  intro c hc
  unfold cst_java_lang_Object at hc
  simp only [List.mem_cons, List.not_mem_nil, or_false] at hc
  rcases hc with rfl | rfl | rfl | rfl | rfl | rfl | rfl | rfl | rfl | rfl | rfl | rfl | rfl | rfl | rfl | rfl | rfl | rfl | rfl | rfl | rfl | rfl | rfl | rfl | rfl | rfl | rfl | rfl | rfl | rfl | rfl | rfl | rfl | rfl | rfl | rfl | rfl | rfl | rfl | rfl | rfl | rfl | rfl | rfl | rfl | rfl | rfl | rfl | rfl | rfl | rfl | rfl | rfl | rfl
  · exact ⟨0, _, rfl, hcX0, Or.inr q3500⟩
  · exact ⟨1, _, rfl, hcX1, Or.inr q3501⟩
  · exact ⟨2, _, rfl, hcX2, Or.inr q3502⟩
  · exact ⟨3, _, rfl, hcJ2, Or.inr q3503⟩
  · exact ⟨4, _, rfl, hcJ3, Or.inr q3504⟩
  · exact ⟨5, _, rfl, hcX3, Or.inr q3505⟩
  · exact ⟨6, _, rfl, hcX5, Or.inr q3506⟩
  · exact ⟨7, _, rfl, hcJ4, Or.inr q3507⟩
  · exact ⟨8, _, rfl, hcJ7, Or.inr q3555⟩
  · exact ⟨9, _, rfl, hcJ10, Or.inr q3525⟩
  · exact ⟨10, _, rfl, hcJ12, Or.inr q3526⟩
  · exact ⟨11, _, rfl, hcJ13, Or.inr q3499⟩
  · exact ⟨12, _, rfl, hcX7, Or.inr q3508⟩
  · exact ⟨13, _, rfl, hcX8, Or.inr q3509⟩
  · exact ⟨14, _, rfl, hcX9, Or.inr q3510⟩
  · exact ⟨15, _, rfl, hcX10, Or.inr q3554⟩
  · exact ⟨16, _, rfl, hcJ20, Or.inr q3521⟩
  · exact ⟨17, _, rfl, hcX11, Or.inr q3518⟩
  · exact ⟨18, _, rfl, hcX12, Or.inr q3519⟩
  · exact ⟨19, _, rfl, hcJ21, Or.inr q3520⟩
  · exact ⟨20, _, rfl, hcJ23, Or.inr q3523⟩
  · exact ⟨21, _, rfl, hcJ24, Or.inr q3524⟩
  · exact ⟨22, _, rfl, hcJ25, Or.inr q3536⟩
  · exact ⟨23, _, rfl, hcJ26, Or.inr q3529⟩
  · exact ⟨24, _, rfl, hcJ27, Or.inr q3527⟩
  · exact ⟨25, _, rfl, hcX13, Or.inr q3511⟩
  · exact ⟨26, _, rfl, hcX14, Or.inr q3512⟩
  · exact ⟨27, _, rfl, hcX15, Or.inr q3513⟩
  · exact ⟨28, _, rfl, hcX16, Or.inr q3514⟩
  · exact ⟨29, _, rfl, hcX17, Or.inr q3515⟩
  · exact ⟨30, _, rfl, hcX18, Or.inr q3516⟩
  · exact ⟨31, _, rfl, hcX19, Or.inr q3517⟩
  · exact ⟨32, _, rfl, hcX20, Or.inr q3528⟩
  · exact ⟨33, _, rfl, hcX21, Or.inr q3530⟩
  · exact ⟨34, _, rfl, hcX22, Or.inr q3531⟩
  · exact ⟨35, _, rfl, hcX23, Or.inr q3532⟩
  · exact ⟨36, _, rfl, hcX24, Or.inr q3533⟩
  · exact ⟨37, _, rfl, hcX25, Or.inr q3534⟩
  · exact ⟨38, _, rfl, hcJ32, Or.inr q3535⟩
  · exact ⟨39, _, rfl, hcX26, Or.inr q3538⟩
  · exact ⟨40, _, rfl, hcX27, Or.inr q3539⟩
  · exact ⟨41, _, rfl, hcX28, Or.inr q3540⟩
  · exact ⟨42, _, rfl, hcX29, Or.inr q3541⟩
  · exact ⟨43, _, rfl, hcX30, Or.inr q3542⟩
  · exact ⟨44, _, rfl, hcX31, Or.inr q3543⟩
  · exact ⟨45, _, rfl, hcX32, Or.inr q3544⟩
  · exact ⟨46, _, rfl, hcX33, Or.inr q3545⟩
  · exact ⟨47, _, rfl, hcX34, Or.inr q3546⟩
  · exact ⟨48, _, rfl, hcX36, Or.inr q3548⟩
  · exact ⟨49, _, rfl, hcX37, Or.inr q3549⟩
  · exact ⟨50, _, rfl, hcX38, Or.inr q3550⟩
  · exact ⟨51, _, rfl, hcX39, Or.inr q3551⟩
  · exact ⟨52, _, rfl, hcX40, Or.inr q3552⟩
  · exact ⟨53, _, rfl, hcX41, Or.inr q3553⟩
def cst_java_util_LinkedList : List Nat := [17]
theorem cst_java_util_LinkedList_ok : ∀ c, c ∈ cst_java_util_LinkedList → ∃ (ci : Nat) (r : vw_C), c = ci + 1 ∧ vwCl[ci]? = some r ∧ (r.1 = "java/util/LinkedList" ∨ Cond.castable r.1 "java/util/LinkedList" ∈ lw_tbl) := by
  intro c hc
  unfold cst_java_util_LinkedList at hc
  simp only [List.mem_cons, List.not_mem_nil, or_false] at hc
  subst hc
  · exact ⟨16, _, rfl, hcJ20, Or.inl rfl⟩
def cst_java_util_ArrayList : List Nat := [4]
theorem cst_java_util_ArrayList_ok : ∀ c, c ∈ cst_java_util_ArrayList → ∃ (ci : Nat) (r : vw_C), c = ci + 1 ∧ vwCl[ci]? = some r ∧ (r.1 = "java/util/ArrayList" ∨ Cond.castable r.1 "java/util/ArrayList" ∈ lw_tbl) := by
  intro c hc
  unfold cst_java_util_ArrayList at hc
  simp only [List.mem_cons, List.not_mem_nil, or_false] at hc
  subst hc
  · exact ⟨3, _, rfl, hcJ2, Or.inl rfl⟩
def cst_HamletWells_Standing : List Nat := [13, 14]
theorem cst_HamletWells_Standing_ok : ∀ c, c ∈ cst_HamletWells_Standing → ∃ (ci : Nat) (r : vw_C), c = ci + 1 ∧ vwCl[ci]? = some r ∧ (r.1 = "HamletWells$Standing" ∨ Cond.castable r.1 "HamletWells$Standing" ∈ lw_tbl) := by
  intro c hc
  unfold cst_HamletWells_Standing at hc
  simp only [List.mem_cons, List.not_mem_nil, or_false] at hc
  rcases hc with rfl | rfl
  · exact ⟨12, _, rfl, hcX7, Or.inr q3492⟩
  · exact ⟨13, _, rfl, hcX8, Or.inr q3493⟩
def cst_HamletWells_Site : List Nat := [14]
theorem cst_HamletWells_Site_ok : ∀ c, c ∈ cst_HamletWells_Site → ∃ (ci : Nat) (r : vw_C), c = ci + 1 ∧ vwCl[ci]? = some r ∧ (r.1 = "HamletWells$Site" ∨ Cond.castable r.1 "HamletWells$Site" ∈ lw_tbl) := by
  intro c hc
  unfold cst_HamletWells_Site at hc
  simp only [List.mem_cons, List.not_mem_nil, or_false] at hc
  subst hc
  · exact ⟨13, _, rfl, hcX8, Or.inl rfl⟩
def cst_java_lang_String : List Nat := [12]
theorem cst_java_lang_String_ok : ∀ c, c ∈ cst_java_lang_String → ∃ (ci : Nat) (r : vw_C), c = ci + 1 ∧ vwCl[ci]? = some r ∧ (r.1 = "java/lang/String" ∨ Cond.castable r.1 "java/lang/String" ∈ lw_tbl) := by
  intro c hc
  unfold cst_java_lang_String at hc
  simp only [List.mem_cons, List.not_mem_nil, or_false] at hc
  subst hc
  · exact ⟨11, _, rfl, hcJ13, Or.inl rfl⟩
def cst_java_lang_Throwable : List Nat := [9]
theorem cst_java_lang_Throwable_ok : ∀ c, c ∈ cst_java_lang_Throwable → ∃ (ci : Nat) (r : vw_C), c = ci + 1 ∧ vwCl[ci]? = some r ∧ (r.1 = "java/lang/Throwable" ∨ Cond.castable r.1 "java/lang/Throwable" ∈ lw_tbl) := by
  intro c hc
  unfold cst_java_lang_Throwable at hc
  simp only [List.mem_cons, List.not_mem_nil, or_false] at hc
  subst hc
  · exact ⟨8, _, rfl, hcJ7, Or.inl rfl⟩
def cst_HamletWells_Swap : List Nat := [35]
theorem cst_HamletWells_Swap_ok : ∀ c, c ∈ cst_HamletWells_Swap → ∃ (ci : Nat) (r : vw_C), c = ci + 1 ∧ vwCl[ci]? = some r ∧ (r.1 = "HamletWells$Swap" ∨ Cond.castable r.1 "HamletWells$Swap" ∈ lw_tbl) := by
  intro c hc
  unfold cst_HamletWells_Swap at hc
  simp only [List.mem_cons, List.not_mem_nil, or_false] at hc
  subst hc
  · exact ⟨34, _, rfl, hcX22, Or.inl rfl⟩
def cst_java_util_AbstractList : List Nat := []
theorem cst_java_util_AbstractList_ok : ∀ c, c ∈ cst_java_util_AbstractList → ∃ (ci : Nat) (r : vw_C), c = ci + 1 ∧ vwCl[ci]? = some r ∧ (r.1 = "java/util/AbstractList" ∨ Cond.castable r.1 "java/util/AbstractList" ∈ lw_tbl) := by
  intro c hc
  cases hc
def cst_java_lang_StringBuilder : List Nat := [11]
theorem cst_java_lang_StringBuilder_ok : ∀ c, c ∈ cst_java_lang_StringBuilder → ∃ (ci : Nat) (r : vw_C), c = ci + 1 ∧ vwCl[ci]? = some r ∧ (r.1 = "java/lang/StringBuilder" ∨ Cond.castable r.1 "java/lang/StringBuilder" ∈ lw_tbl) := by
  intro c hc
  unfold cst_java_lang_StringBuilder at hc
  simp only [List.mem_cons, List.not_mem_nil, or_false] at hc
  subst hc
  · exact ⟨10, _, rfl, hcJ12, Or.inl rfl⟩
def cst_HamletWells_Deed : List Nat := []
theorem cst_HamletWells_Deed_ok : ∀ c, c ∈ cst_HamletWells_Deed → ∃ (ci : Nat) (r : vw_C), c = ci + 1 ∧ vwCl[ci]? = some r ∧ (r.1 = "HamletWells$Deed" ∨ Cond.castable r.1 "HamletWells$Deed" ∈ lw_tbl) := by
  intro c hc
  cases hc
def cst_HamletWells_Province : List Nat := [2]
theorem cst_HamletWells_Province_ok : ∀ c, c ∈ cst_HamletWells_Province → ∃ (ci : Nat) (r : vw_C), c = ci + 1 ∧ vwCl[ci]? = some r ∧ (r.1 = "HamletWells$Province" ∨ Cond.castable r.1 "HamletWells$Province" ∈ lw_tbl) := by
  intro c hc
  unfold cst_HamletWells_Province at hc
  simp only [List.mem_cons, List.not_mem_nil, or_false] at hc
  subst hc
  · exact ⟨1, _, rfl, hcX1, Or.inl rfl⟩
def cst_HamletWells_Command : List Nat := [49, 50, 51, 52, 53]
theorem cst_HamletWells_Command_ok : ∀ c, c ∈ cst_HamletWells_Command → ∃ (ci : Nat) (r : vw_C), c = ci + 1 ∧ vwCl[ci]? = some r ∧ (r.1 = "HamletWells$Command" ∨ Cond.castable r.1 "HamletWells$Command" ∈ lw_tbl) := by
  intro c hc
  unfold cst_HamletWells_Command at hc
  simp only [List.mem_cons, List.not_mem_nil, or_false] at hc
  rcases hc with rfl | rfl | rfl | rfl | rfl
  · exact ⟨48, _, rfl, hcX36, Or.inr q3494⟩
  · exact ⟨49, _, rfl, hcX37, Or.inr q3495⟩
  · exact ⟨50, _, rfl, hcX38, Or.inr q3496⟩
  · exact ⟨51, _, rfl, hcX39, Or.inr q3497⟩
  · exact ⟨52, _, rfl, hcX40, Or.inr q3498⟩
def cst_HamletWells_Refused : List Nat := [15]
theorem cst_HamletWells_Refused_ok : ∀ c, c ∈ cst_HamletWells_Refused → ∃ (ci : Nat) (r : vw_C), c = ci + 1 ∧ vwCl[ci]? = some r ∧ (r.1 = "HamletWells$Refused" ∨ Cond.castable r.1 "HamletWells$Refused" ∈ lw_tbl) := by
  intro c hc
  unfold cst_HamletWells_Refused at hc
  simp only [List.mem_cons, List.not_mem_nil, or_false] at hc
  subst hc
  · exact ⟨14, _, rfl, hcX9, Or.inl rfl⟩
def xthr : List Nat := [15, 16, 48]
theorem xthr_ok {c : Nat} (h : c ∈ xthr) : ∃ (ci : Nat) (r : vw_C), c = ci + 1 ∧ vwCl[ci]? = some r ∧ xbo (ci + 1) = false := by
  unfold xthr at h
  simp only [List.mem_cons, List.not_mem_nil, or_false] at h
  rcases h with rfl | rfl | rfl
  · exact ⟨14, _, rfl, hcX9, rfl⟩
  · exact ⟨15, _, rfl, hcX10, rfl⟩
  · exact ⟨47, _, rfl, hcX34, rfl⟩
def dsp_Throwable_getMessage : List (Nat × xM) := [(10, mJ7_getMessage), (15, mJ7_getMessage), (16, mJ7_getMessage), (48, mJ7_getMessage)]
theorem dsp_Throwable_getMessage_10 : (10, mJ7_getMessage) ∈ dsp_Throwable_getMessage := by unfold dsp_Throwable_getMessage; simp
theorem dsp_Throwable_getMessage_15 : (15, mJ7_getMessage) ∈ dsp_Throwable_getMessage := by unfold dsp_Throwable_getMessage; simp
theorem dsp_Throwable_getMessage_16 : (16, mJ7_getMessage) ∈ dsp_Throwable_getMessage := by unfold dsp_Throwable_getMessage; simp
theorem dsp_Throwable_getMessage_48 : (48, mJ7_getMessage) ∈ dsp_Throwable_getMessage := by unfold dsp_Throwable_getMessage; simp
def dsp_Comparator_compare : List (Nat × xM) := [(38, mX25_compare), (40, mX26_compare)]
theorem dsp_Comparator_compare_38 : (38, mX25_compare) ∈ dsp_Comparator_compare := by unfold dsp_Comparator_compare; simp
theorem dsp_Comparator_compare_40 : (40, mX26_compare) ∈ dsp_Comparator_compare := by unfold dsp_Comparator_compare; simp
def dsp_AbstractList_listIterator : List (Nat × xM) := [(4, mJ2_listIterator), (17, mJ20_listIterator)]
theorem dsp_AbstractList_listIterator_4 : (4, mJ2_listIterator) ∈ dsp_AbstractList_listIterator := by unfold dsp_AbstractList_listIterator; simp
theorem dsp_AbstractList_listIterator_17 : (17, mJ20_listIterator) ∈ dsp_AbstractList_listIterator := by unfold dsp_AbstractList_listIterator; simp
def dsp_Iterator_next : List (Nat × xM) := [(8, mJ4_next), (22, mJ24_next)]
theorem dsp_Iterator_next_8 : (8, mJ4_next) ∈ dsp_Iterator_next := by unfold dsp_Iterator_next; simp
theorem dsp_Iterator_next_22 : (22, mJ24_next) ∈ dsp_Iterator_next := by unfold dsp_Iterator_next; simp
def dsp_Iterator_hasNext : List (Nat × xM) := [(8, mJ4_hasNext), (22, mJ24_hasNext)]
theorem dsp_Iterator_hasNext_8 : (8, mJ4_hasNext) ∈ dsp_Iterator_hasNext := by unfold dsp_Iterator_hasNext; simp
theorem dsp_Iterator_hasNext_22 : (22, mJ24_hasNext) ∈ dsp_Iterator_hasNext := by unfold dsp_Iterator_hasNext; simp
def dsp_HamletWells_Deed_done : List (Nat × xM) := [(7, mX4_done), (26, mX4_done), (27, mX4_done), (28, mX4_done), (29, mX4_done), (30, mX4_done), (31, mX4_done), (32, mX4_done), (54, mX4_done)]
theorem dsp_HamletWells_Deed_done_7 : (7, mX4_done) ∈ dsp_HamletWells_Deed_done := by unfold dsp_HamletWells_Deed_done; simp
theorem dsp_HamletWells_Deed_done_26 : (26, mX4_done) ∈ dsp_HamletWells_Deed_done := by unfold dsp_HamletWells_Deed_done; simp
theorem dsp_HamletWells_Deed_done_27 : (27, mX4_done) ∈ dsp_HamletWells_Deed_done := by unfold dsp_HamletWells_Deed_done; simp
theorem dsp_HamletWells_Deed_done_28 : (28, mX4_done) ∈ dsp_HamletWells_Deed_done := by unfold dsp_HamletWells_Deed_done; simp
theorem dsp_HamletWells_Deed_done_29 : (29, mX4_done) ∈ dsp_HamletWells_Deed_done := by unfold dsp_HamletWells_Deed_done; simp
theorem dsp_HamletWells_Deed_done_30 : (30, mX4_done) ∈ dsp_HamletWells_Deed_done := by unfold dsp_HamletWells_Deed_done; simp
theorem dsp_HamletWells_Deed_done_31 : (31, mX4_done) ∈ dsp_HamletWells_Deed_done := by unfold dsp_HamletWells_Deed_done; simp
theorem dsp_HamletWells_Deed_done_32 : (32, mX4_done) ∈ dsp_HamletWells_Deed_done := by unfold dsp_HamletWells_Deed_done; simp
theorem dsp_HamletWells_Deed_done_54 : (54, mX4_done) ∈ dsp_HamletWells_Deed_done := by unfold dsp_HamletWells_Deed_done; simp
def dsp_HamletWells_Deed_does : List (Nat × xM) := [(7, mX5_does), (26, mX13_does), (27, mX14_does), (28, mX15_does), (29, mX16_does), (30, mX17_does), (31, mX18_does), (32, mX19_does), (54, mX41_does)]
theorem dsp_HamletWells_Deed_does_7 : (7, mX5_does) ∈ dsp_HamletWells_Deed_does := by unfold dsp_HamletWells_Deed_does; simp
theorem dsp_HamletWells_Deed_does_26 : (26, mX13_does) ∈ dsp_HamletWells_Deed_does := by unfold dsp_HamletWells_Deed_does; simp
theorem dsp_HamletWells_Deed_does_27 : (27, mX14_does) ∈ dsp_HamletWells_Deed_does := by unfold dsp_HamletWells_Deed_does; simp
theorem dsp_HamletWells_Deed_does_28 : (28, mX15_does) ∈ dsp_HamletWells_Deed_does := by unfold dsp_HamletWells_Deed_does; simp
theorem dsp_HamletWells_Deed_does_29 : (29, mX16_does) ∈ dsp_HamletWells_Deed_does := by unfold dsp_HamletWells_Deed_does; simp
theorem dsp_HamletWells_Deed_does_30 : (30, mX17_does) ∈ dsp_HamletWells_Deed_does := by unfold dsp_HamletWells_Deed_does; simp
theorem dsp_HamletWells_Deed_does_31 : (31, mX18_does) ∈ dsp_HamletWells_Deed_does := by unfold dsp_HamletWells_Deed_does; simp
theorem dsp_HamletWells_Deed_does_32 : (32, mX19_does) ∈ dsp_HamletWells_Deed_does := by unfold dsp_HamletWells_Deed_does; simp
theorem dsp_HamletWells_Deed_does_54 : (54, mX41_does) ∈ dsp_HamletWells_Deed_does := by unfold dsp_HamletWells_Deed_does; simp
def dsp_HamletWells_Command_does : List (Nat × xM) := [(49, mX36_does), (50, mX37_does), (51, mX38_does), (52, mX39_does), (53, mX40_does)]
theorem dsp_HamletWells_Command_does_49 : (49, mX36_does) ∈ dsp_HamletWells_Command_does := by unfold dsp_HamletWells_Command_does; simp
theorem dsp_HamletWells_Command_does_50 : (50, mX37_does) ∈ dsp_HamletWells_Command_does := by unfold dsp_HamletWells_Command_does; simp
theorem dsp_HamletWells_Command_does_51 : (51, mX38_does) ∈ dsp_HamletWells_Command_does := by unfold dsp_HamletWells_Command_does; simp
theorem dsp_HamletWells_Command_does_52 : (52, mX39_does) ∈ dsp_HamletWells_Command_does := by unfold dsp_HamletWells_Command_does; simp
theorem dsp_HamletWells_Command_does_53 : (53, mX40_does) ∈ dsp_HamletWells_Command_does := by unfold dsp_HamletWells_Command_does; simp
def dsp_Iterable_iterator : List (Nat × xM) := [(3, mX2_iterator), (4, mJ2_iterator), (17, mJ19_iterator)]
theorem dsp_Iterable_iterator_3 : (3, mX2_iterator) ∈ dsp_Iterable_iterator := by unfold dsp_Iterable_iterator; simp
theorem dsp_Iterable_iterator_4 : (4, mJ2_iterator) ∈ dsp_Iterable_iterator := by unfold dsp_Iterable_iterator; simp
theorem dsp_Iterable_iterator_17 : (17, mJ19_iterator) ∈ dsp_Iterable_iterator := by unfold dsp_Iterable_iterator; simp
def dsp_HamletWells_Worth_of : List (Nat × xM) := [(19, mX12_of), (33, mX20_of), (37, mX24_of), (41, mX27_of), (42, mX28_of), (43, mX29_of), (44, mX30_of), (45, mX31_of), (46, mX32_of)]
theorem dsp_HamletWells_Worth_of_19 : (19, mX12_of) ∈ dsp_HamletWells_Worth_of := by unfold dsp_HamletWells_Worth_of; simp
theorem dsp_HamletWells_Worth_of_33 : (33, mX20_of) ∈ dsp_HamletWells_Worth_of := by unfold dsp_HamletWells_Worth_of; simp
theorem dsp_HamletWells_Worth_of_37 : (37, mX24_of) ∈ dsp_HamletWells_Worth_of := by unfold dsp_HamletWells_Worth_of; simp
theorem dsp_HamletWells_Worth_of_41 : (41, mX27_of) ∈ dsp_HamletWells_Worth_of := by unfold dsp_HamletWells_Worth_of; simp
theorem dsp_HamletWells_Worth_of_42 : (42, mX28_of) ∈ dsp_HamletWells_Worth_of := by unfold dsp_HamletWells_Worth_of; simp
theorem dsp_HamletWells_Worth_of_43 : (43, mX29_of) ∈ dsp_HamletWells_Worth_of := by unfold dsp_HamletWells_Worth_of; simp
theorem dsp_HamletWells_Worth_of_44 : (44, mX30_of) ∈ dsp_HamletWells_Worth_of := by unfold dsp_HamletWells_Worth_of; simp
theorem dsp_HamletWells_Worth_of_45 : (45, mX31_of) ∈ dsp_HamletWells_Worth_of := by unfold dsp_HamletWells_Worth_of; simp
theorem dsp_HamletWells_Worth_of_46 : (46, mX32_of) ∈ dsp_HamletWells_Worth_of := by unfold dsp_HamletWells_Worth_of; simp
def dsp_HamletWells_Asked_is : List (Nat × xM) := [(18, mX11_is), (34, mX21_is), (36, mX23_is)]
theorem dsp_HamletWells_Asked_is_18 : (18, mX11_is) ∈ dsp_HamletWells_Asked_is := by unfold dsp_HamletWells_Asked_is; simp
theorem dsp_HamletWells_Asked_is_34 : (34, mX21_is) ∈ dsp_HamletWells_Asked_is := by unfold dsp_HamletWells_Asked_is; simp
theorem dsp_HamletWells_Asked_is_36 : (36, mX23_is) ∈ dsp_HamletWells_Asked_is := by unfold dsp_HamletWells_Asked_is; simp
def dsp_HamletWells_Standing_isAt : List (Nat × xM) := [(13, mX6_isAt), (14, mX6_isAt)]
theorem dsp_HamletWells_Standing_isAt_13 : (13, mX6_isAt) ∈ dsp_HamletWells_Standing_isAt := by unfold dsp_HamletWells_Standing_isAt; simp
theorem dsp_HamletWells_Standing_isAt_14 : (14, mX6_isAt) ∈ dsp_HamletWells_Standing_isAt := by unfold dsp_HamletWells_Standing_isAt; simp
