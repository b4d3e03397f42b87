/-! SOUNDNESS of each method (by program): what the rows take -/
set_option maxRecDepth 100000
theorem jc_X0 : jcl[0]? = some (RX0, TX0, 8) := rfl
theorem dv_X0 : ([jR none, jR none, jR none, jR none, jI 0, jI 0, jR none, jR none] : List JVal).length = 8 ∧ ∀ j, j < 8 → defaultValue (tyX0 j) = vp_V (([jR none, jR none, jR none, jR none, jI 0, jI 0, jR none, jR none] : List JVal).map jV) j := ⟨rfl, fun j hj => by
  rcases (show j = 0 ∨ j = 1 ∨ j = 2 ∨ j = 3 ∨ j = 4 ∨ j = 5 ∨ j = 6 ∨ j = 7 by omega) with rfl | rfl | rfl | rfl | rfl | rfl | rfl | rfl <;> rfl⟩
theorem jc_X1 : jcl[1]? = some (RX1, TX1, 9) := rfl
theorem dv_X1 : ([jR none, jR none, jR none, jR none, jI 0, jI 0, jI 0, jI 0, jI 0] : List JVal).length = 9 ∧ ∀ j, j < 9 → defaultValue (tyX1 j) = vp_V (([jR none, jR none, jR none, jR none, jI 0, jI 0, jI 0, jI 0, jI 0] : List JVal).map jV) j := ⟨rfl, fun j hj => by
  rcases (show j = 0 ∨ j = 1 ∨ j = 2 ∨ j = 3 ∨ j = 4 ∨ j = 5 ∨ j = 6 ∨ j = 7 ∨ j = 8 by omega) with rfl | rfl | rfl | rfl | rfl | rfl | rfl | rfl | rfl <;> rfl⟩
theorem jc_X2 : jcl[2]? = some (RX2, TX2, 0) := rfl
def tyX2 : Nat → FieldType := fun _ => .int
theorem tyX2_ok : ∀ k, k < 0 → parseFieldDescriptor (TX2 k).2.2.1 = some (tyX2 k) := fun k h => absurd h (Nat.not_lt_zero k)
theorem in_X2 : ∀ w ∈ u_ws RX2 TX2 0, w ∈ lw_all := fun w h => by cases h
theorem dv_X2 : ([] : List JVal).length = 0 ∧ ∀ j, j < 0 → defaultValue (tyX2 j) = vp_V (([] : List JVal).map jV) j := ⟨rfl, fun j hj => absurd hj (Nat.not_lt_zero j)⟩
theorem jc_X3 : jcl[3]? = some (RX3, TX3, 18) := rfl
theorem dv_X3 : ([jI 0, jI 0, jI 0, jI 0, jI 0, jR none, jR none, jR none, jR none, jR none, jR none, jR none, jI 0, jI 0, jI 0, jI 0, jI 0, jI 0] : List JVal).length = 18 ∧ ∀ j, j < 18 → defaultValue (tyX3 j) = vp_V (([jI 0, jI 0, jI 0, jI 0, jI 0, jR none, jR none, jR none, jR none, jR none, jR none, jR none, jI 0, jI 0, jI 0, jI 0, jI 0, jI 0] : List JVal).map jV) j := ⟨rfl, fun j hj => by
  rcases (show j = 0 ∨ j = 1 ∨ j = 2 ∨ j = 3 ∨ j = 4 ∨ j = 5 ∨ j = 6 ∨ j = 7 ∨ j = 8 ∨ j = 9 ∨ j = 10 ∨ j = 11 ∨ j = 12 ∨ j = 13 ∨ j = 14 ∨ j = 15 ∨ j = 16 ∨ j = 17 by omega) with rfl | rfl | rfl | rfl | rfl | rfl | rfl | rfl | rfl | rfl | rfl | rfl | rfl | rfl | rfl | rfl | rfl | rfl <;> rfl⟩
theorem jc_X4 : jcl[4]? = some (RX4, TX4, 6) := rfl
theorem dv_X4 : ([jI 0, jI 0, jI 0, jI 0, jI 0, jI 0] : List JVal).length = 6 ∧ ∀ j, j < 6 → defaultValue (tyX4 j) = vp_V (([jI 0, jI 0, jI 0, jI 0, jI 0, jI 0] : List JVal).map jV) j := ⟨rfl, fun j hj => by
  rcases (show j = 0 ∨ j = 1 ∨ j = 2 ∨ j = 3 ∨ j = 4 ∨ j = 5 by omega) with rfl | rfl | rfl | rfl | rfl | rfl <;> rfl⟩
theorem jc_X5 : jcl[5]? = some (RX5, TX5, 8) := rfl
theorem dv_X5 : ([jR none, jR none, jR none, jR none, jR none, jI 0, jI 0, jI 0] : List JVal).length = 8 ∧ ∀ j, j < 8 → defaultValue (tyX5 j) = vp_V (([jR none, jR none, jR none, jR none, jR none, jI 0, jI 0, jI 0] : List JVal).map jV) j := ⟨rfl, fun j hj => by
  rcases (show j = 0 ∨ j = 1 ∨ j = 2 ∨ j = 3 ∨ j = 4 ∨ j = 5 ∨ j = 6 ∨ j = 7 by omega) with rfl | rfl | rfl | rfl | rfl | rfl | rfl | rfl <;> rfl⟩
theorem jc_X6 : jcl[6]? = some (RX6, TX6, 4) := rfl
theorem dv_X6 : ([jI 0, jI 0, jI 0, jI 0] : List JVal).length = 4 ∧ ∀ j, j < 4 → defaultValue (tyX6 j) = vp_V (([jI 0, jI 0, jI 0, jI 0] : List JVal).map jV) j := ⟨rfl, fun j hj => by
  rcases (show j = 0 ∨ j = 1 ∨ j = 2 ∨ j = 3 by omega) with rfl | rfl | rfl | rfl <;> rfl⟩
theorem jc_X7 : jcl[7]? = some (RX7, TX7, 4) := rfl
theorem dv_X7 : ([jI 0, jI 0, jI 0, jI 0] : List JVal).length = 4 ∧ ∀ j, j < 4 → defaultValue (tyX7 j) = vp_V (([jI 0, jI 0, jI 0, jI 0] : List JVal).map jV) j := ⟨rfl, fun j hj => by
  rcases (show j = 0 ∨ j = 1 ∨ j = 2 ∨ j = 3 by omega) with rfl | rfl | rfl | rfl <;> rfl⟩
theorem jc_X8 : jcl[8]? = some (RX8, TX8, 2) := rfl
theorem dv_X8 : ([jI 0, jR none] : List JVal).length = 2 ∧ ∀ j, j < 2 → defaultValue (tyX8 j) = vp_V (([jI 0, jR none] : List JVal).map jV) j := ⟨rfl, fun j hj => by
  rcases (show j = 0 ∨ j = 1 by omega) with rfl | rfl <;> rfl⟩
theorem jc_X9 : jcl[9]? = some (RX9, TX9, 7) := rfl
theorem dv_X9 : ([jR none, jR none, jR none, jR none, jR none, jI 0, jI 0] : List JVal).length = 7 ∧ ∀ j, j < 7 → defaultValue (tyX9 j) = vp_V (([jR none, jR none, jR none, jR none, jR none, jI 0, jI 0] : List JVal).map jV) j := ⟨rfl, fun j hj => by
  rcases (show j = 0 ∨ j = 1 ∨ j = 2 ∨ j = 3 ∨ j = 4 ∨ j = 5 ∨ j = 6 by omega) with rfl | rfl | rfl | rfl | rfl | rfl | rfl <;> rfl⟩
theorem jc_X10 : jcl[10]? = some (RX10, TX10, 4) := rfl
theorem dv_X10 : ([jI 0, jI 0, jI 0, jI 0] : List JVal).length = 4 ∧ ∀ j, j < 4 → defaultValue (tyX10 j) = vp_V (([jI 0, jI 0, jI 0, jI 0] : List JVal).map jV) j := ⟨rfl, fun j hj => by
  rcases (show j = 0 ∨ j = 1 ∨ j = 2 ∨ j = 3 by omega) with rfl | rfl | rfl | rfl <;> rfl⟩
theorem jc_J2 : jcl[11]? = some (RJ2, TJ2, 3) := rfl
theorem dv_J2 : ([jI 0, jR none, jI 0] : List JVal).length = 3 ∧ ∀ j, j < 3 → defaultValue (tyJ2 j) = vp_V (([jI 0, jR none, jI 0] : List JVal).map jV) j := ⟨rfl, fun j hj => by
  rcases (show j = 0 ∨ j = 1 ∨ j = 2 by omega) with rfl | rfl | rfl <;> rfl⟩
theorem jc_J4 : jcl[12]? = some (RJ4, TJ4, 4) := rfl
theorem dv_J4 : ([jR none, jI 0, jR none, jI 0] : List JVal).length = 4 ∧ ∀ j, j < 4 → defaultValue (tyJ4 j) = vp_V (([jR none, jI 0, jR none, jI 0] : List JVal).map jV) j := ⟨rfl, fun j hj => by
  rcases (show j = 0 ∨ j = 1 ∨ j = 2 ∨ j = 3 by omega) with rfl | rfl | rfl | rfl <;> rfl⟩
theorem jc_J6 : jcl[13]? = some (RJ6, TJ6, 9) := rfl
theorem dv_J6 : ([jR none, jR none, jR none, jR none, jI 0, jI 0, jR none, jR none, jR none] : List JVal).length = 9 ∧ ∀ j, j < 9 → defaultValue (tyJ6 j) = vp_V (([jR none, jR none, jR none, jR none, jI 0, jI 0, jR none, jR none, jR none] : List JVal).map jV) j := ⟨rfl, fun j hj => by
  rcases (show j = 0 ∨ j = 1 ∨ j = 2 ∨ j = 3 ∨ j = 4 ∨ j = 5 ∨ j = 6 ∨ j = 7 ∨ j = 8 by omega) with rfl | rfl | rfl | rfl | rfl | rfl | rfl | rfl | rfl <;> rfl⟩
theorem jc_J7 : jcl[14]? = some (RJ7, TJ7, 3) := rfl
theorem dv_J7 : ([jR none, jI 0, jI 0] : List JVal).length = 3 ∧ ∀ j, j < 3 → defaultValue (tyJ7 j) = vp_V (([jR none, jI 0, jI 0] : List JVal).map jV) j := ⟨rfl, fun j hj => by
  rcases (show j = 0 ∨ j = 1 ∨ j = 2 by omega) with rfl | rfl | rfl <;> rfl⟩
theorem jc_J9 : jcl[15]? = some (RJ9, TJ9, 4) := rfl
theorem dv_J9 : ([jR none, jI 0, jI 0, jI 0] : List JVal).length = 4 ∧ ∀ j, j < 4 → defaultValue (tyJ9 j) = vp_V (([jR none, jI 0, jI 0, jI 0] : List JVal).map jV) j := ⟨rfl, fun j hj => by
  rcases (show j = 0 ∨ j = 1 ∨ j = 2 ∨ j = 3 by omega) with rfl | rfl | rfl | rfl <;> rfl⟩
theorem jc_J10 : jcl[16]? = some (RJ10, TJ10, 4) := rfl
theorem dv_J10 : ([jR none, jI 0, jI 0, jI 0] : List JVal).length = 4 ∧ ∀ j, j < 4 → defaultValue (tyJ10 j) = vp_V (([jR none, jI 0, jI 0, jI 0] : List JVal).map jV) j := ⟨rfl, fun j hj => by
  rcases (show j = 0 ∨ j = 1 ∨ j = 2 ∨ j = 3 by omega) with rfl | rfl | rfl | rfl <;> rfl⟩
theorem jc_J12 : jcl[17]? = some (RJ12, TJ12, 4) := rfl
theorem dv_J12 : ([jI 0, jI 0, jI 0, jR none] : List JVal).length = 4 ∧ ∀ j, j < 4 → defaultValue (tyJ12 j) = vp_V (([jI 0, jI 0, jI 0, jR none] : List JVal).map jV) j := ⟨rfl, fun j hj => by
  rcases (show j = 0 ∨ j = 1 ∨ j = 2 ∨ j = 3 by omega) with rfl | rfl | rfl | rfl <;> rfl⟩
theorem jc_J15 : jcl[18]? = some (RJ15, TJ15, 5) := rfl
theorem dv_J15 : ([jR none, jR none, jR none, jR none, jR none] : List JVal).length = 5 ∧ ∀ j, j < 5 → defaultValue (tyJ15 j) = vp_V (([jR none, jR none, jR none, jR none, jR none] : List JVal).map jV) j := ⟨rfl, fun j hj => by
  rcases (show j = 0 ∨ j = 1 ∨ j = 2 ∨ j = 3 ∨ j = 4 by omega) with rfl | rfl | rfl | rfl | rfl <;> rfl⟩
theorem jc_J18 : jcl[19]? = some (RJ18, TJ18, 6) := rfl
theorem dv_J18 : ([jR none, jR none, jR none, jR none, jR none, jI 0] : List JVal).length = 6 ∧ ∀ j, j < 6 → defaultValue (tyJ18 j) = vp_V (([jR none, jR none, jR none, jR none, jR none, jI 0] : List JVal).map jV) j := ⟨rfl, fun j hj => by
  rcases (show j = 0 ∨ j = 1 ∨ j = 2 ∨ j = 3 ∨ j = 4 ∨ j = 5 by omega) with rfl | rfl | rfl | rfl | rfl | rfl <;> rfl⟩
theorem jc_J23 : jcl[20]? = some (RJ23, TJ23, 6) := rfl
theorem dv_J23 : ([jI 0, jI 0, jR none, jR none, jI 0, jR none] : List JVal).length = 6 ∧ ∀ j, j < 6 → defaultValue (tyJ23 j) = vp_V (([jI 0, jI 0, jR none, jR none, jI 0, jR none] : List JVal).map jV) j := ⟨rfl, fun j hj => by
  rcases (show j = 0 ∨ j = 1 ∨ j = 2 ∨ j = 3 ∨ j = 4 ∨ j = 5 by omega) with rfl | rfl | rfl | rfl | rfl | rfl <;> rfl⟩
theorem jc_J25 : jcl[21]? = some (RJ25, TJ25, 1) := rfl
theorem dv_J25 : ([jI 0] : List JVal).length = 1 ∧ ∀ j, j < 1 → defaultValue (tyJ25 j) = vp_V (([jI 0] : List JVal).map jV) j := ⟨rfl, fun j hj => by
  rcases (show j = 0 by omega) with rfl <;> rfl⟩
theorem jc_J29 : jcl[22]? = some (RJ29, TJ29, 1) := rfl
theorem dv_J29 : ([jR none] : List JVal).length = 1 ∧ ∀ j, j < 1 → defaultValue (tyJ29 j) = vp_V (([jR none] : List JVal).map jV) j := ⟨rfl, fun j hj => by
  rcases (show j = 0 by omega) with rfl <;> rfl⟩
theorem jc_J31 : jcl[23]? = some (RJ31, TJ31, 4) := rfl
theorem dv_J31 : ([jR none, jR none, jI 0, jR none] : List JVal).length = 4 ∧ ∀ j, j < 4 → defaultValue (tyJ31 j) = vp_V (([jR none, jR none, jI 0, jR none] : List JVal).map jV) j := ⟨rfl, fun j hj => by
  rcases (show j = 0 ∨ j = 1 ∨ j = 2 ∨ j = 3 by omega) with rfl | rfl | rfl | rfl <;> rfl⟩
theorem jc_J32 : jcl[24]? = some (RJ32, TJ32, 3) := rfl
theorem dv_J32 : ([jR none, jI 0, jI 0] : List JVal).length = 3 ∧ ∀ j, j < 3 → defaultValue (tyJ32 j) = vp_V (([jR none, jI 0, jI 0] : List JVal).map jV) j := ⟨rfl, fun j hj => by
  rcases (show j = 0 ∨ j = 1 ∨ j = 2 by omega) with rfl | rfl | rfl <;> rfl⟩
theorem jc_J33 : jcl[25]? = some (RJ33, TJ33, 6) := rfl
theorem dv_J33 : ([jR none, jR none, jR none, jR none, jR none, jI 0] : List JVal).length = 6 ∧ ∀ j, j < 6 → defaultValue (tyJ33 j) = vp_V (([jR none, jR none, jR none, jR none, jR none, jI 0] : List JVal).map jV) j := ⟨rfl, fun j hj => by
  rcases (show j = 0 ∨ j = 1 ∨ j = 2 ∨ j = 3 ∨ j = 4 ∨ j = 5 by omega) with rfl | rfl | rfl | rfl | rfl | rfl <;> rfl⟩
theorem jc_J34 : jcl[26]? = some (RJ34, TJ34, 4) := rfl
theorem dv_J34 : ([jI 0, jI 0, jI 0, jR none] : List JVal).length = 4 ∧ ∀ j, j < 4 → defaultValue (tyJ34 j) = vp_V (([jI 0, jI 0, jI 0, jR none] : List JVal).map jV) j := ⟨rfl, fun j hj => by
  rcases (show j = 0 ∨ j = 1 ∨ j = 2 ∨ j = 3 by omega) with rfl | rfl | rfl | rfl <;> rfl⟩
theorem jc_J36 : jcl[27]? = some (RJ36, TJ36, 4) := rfl
theorem dv_J36 : ([jI 0, jI 0, jR none, jR none] : List JVal).length = 4 ∧ ∀ j, j < 4 → defaultValue (tyJ36 j) = vp_V (([jI 0, jI 0, jR none, jR none] : List JVal).map jV) j := ⟨rfl, fun j hj => by
  rcases (show j = 0 ∨ j = 1 ∨ j = 2 ∨ j = 3 by omega) with rfl | rfl | rfl | rfl <;> rfl⟩
theorem jc_J37 : jcl[28]? = some (RJ37, TJ37, 3) := rfl
theorem dv_J37 : ([jR none, jR none, jR none] : List JVal).length = 3 ∧ ∀ j, j < 3 → defaultValue (tyJ37 j) = vp_V (([jR none, jR none, jR none] : List JVal).map jV) j := ⟨rfl, fun j hj => by
  rcases (show j = 0 ∨ j = 1 ∨ j = 2 by omega) with rfl | rfl | rfl <;> rfl⟩
theorem jc_J38 : jcl[29]? = some (RJ38, TJ38, 1) := rfl
theorem dv_J38 : ([jR none] : List JVal).length = 1 ∧ ∀ j, j < 1 → defaultValue (tyJ38 j) = vp_V (([jR none] : List JVal).map jV) j := ⟨rfl, fun j hj => by
  rcases (show j = 0 by omega) with rfl <;> rfl⟩
theorem jc_J40 : jcl[30]? = some (RJ40, TJ40, 5) := rfl
theorem dv_J40 : ([jI 0, jI 0, jI 0, jR none, jR none] : List JVal).length = 5 ∧ ∀ j, j < 5 → defaultValue (tyJ40 j) = vp_V (([jI 0, jI 0, jI 0, jR none, jR none] : List JVal).map jV) j := ⟨rfl, fun j hj => by
  rcases (show j = 0 ∨ j = 1 ∨ j = 2 ∨ j = 3 ∨ j = 4 by omega) with rfl | rfl | rfl | rfl | rfl <;> rfl⟩
theorem jc_J41 : jcl[31]? = some (RJ41, TJ41, 5) := rfl
theorem dv_J41 : ([jR none, jR none, jI 0, jI 0, jR none] : List JVal).length = 5 ∧ ∀ j, j < 5 → defaultValue (tyJ41 j) = vp_V (([jR none, jR none, jI 0, jI 0, jR none] : List JVal).map jV) j := ⟨rfl, fun j hj => by
  rcases (show j = 0 ∨ j = 1 ∨ j = 2 ∨ j = 3 ∨ j = 4 by omega) with rfl | rfl | rfl | rfl | rfl <;> rfl⟩
theorem jc_J42 : jcl[32]? = some (RJ42, TJ42, 4) := rfl
theorem dv_J42 : ([jR none, jR none, jI 0, jR none] : List JVal).length = 4 ∧ ∀ j, j < 4 → defaultValue (tyJ42 j) = vp_V (([jR none, jR none, jI 0, jR none] : List JVal).map jV) j := ⟨rfl, fun j hj => by
  rcases (show j = 0 ∨ j = 1 ∨ j = 2 ∨ j = 3 by omega) with rfl | rfl | rfl | rfl <;> rfl⟩
theorem jw160 : (Jvm.Cond.methodLinkNest "UnheardBells" (17 : Nat) ({ cls := "UnheardBells$Machine", name := "<init>", desc := "()V" } : Jvm.MethodName) "UnheardBells") ∈ jnw := List.mem_of_getElem? (i := 36) rfl
theorem jw182 : (Jvm.Cond.fieldLinkNest "java/util/ArrayList$Itr" (28 : Nat) "java/util/ArrayList" "size" "I" "java/util/ArrayList") ∈ jnw := List.mem_of_getElem? (i := 0) rfl
theorem jw203 : (Jvm.Cond.methodLinkNest "UnheardBells$Machine" (24 : Nat) ({ cls := "UnheardBells$InOrder", name := "<init>", desc := "()V" } : Jvm.MethodName) "UnheardBells") ∈ jnw := List.mem_of_getElem? (i := 37) rfl
theorem jw248 : (Jvm.Cond.fieldLinkNest "java/util/TreeMap$PrivateEntryIterator" (13 : Nat) "java/util/TreeMap" "modCount" "I" "java/util/TreeMap") ∈ jnw := List.mem_of_getElem? (i := 1) rfl
theorem jw291 : (Jvm.Cond.fieldLinkNest "UnheardBells" (153 : Nat) "UnheardBells$Machine" "ropes" "Ljava/util/ArrayList;" "UnheardBells") ∈ jnw := List.mem_of_getElem? (i := 2) rfl
theorem jw293 : (Jvm.Cond.fieldLinkNest "UnheardBells" (252 : Nat) "UnheardBells$Machine" "pulls" "Ljava/util/PriorityQueue;" "UnheardBells") ∈ jnw := List.mem_of_getElem? (i := 3) rfl
theorem jw296 : (Jvm.Cond.fieldLinkNest "UnheardBells" (171 : Nat) "UnheardBells$Machine" "answers" "Ljava/util/ArrayDeque;" "UnheardBells") ∈ jnw := List.mem_of_getElem? (i := 4) rfl
theorem jw298 : (Jvm.Cond.fieldLinkNest "UnheardBells" (259 : Nat) "UnheardBells$Machine" "hour" "I" "UnheardBells") ∈ jnw := List.mem_of_getElem? (i := 5) rfl
theorem jw300 : (Jvm.Cond.fieldLinkNest "UnheardBells" (262 : Nat) "UnheardBells$Machine" "day" "I" "UnheardBells") ∈ jnw := List.mem_of_getElem? (i := 6) rfl
theorem jw302 : (Jvm.Cond.fieldLinkNest "UnheardBells" (265 : Nat) "UnheardBells$Machine" "came" "I" "UnheardBells") ∈ jnw := List.mem_of_getElem? (i := 7) rfl
theorem jw305 : (Jvm.Cond.fieldLinkNest "UnheardBells" (272 : Nat) "UnheardBells$Machine" "taken" "I" "UnheardBells") ∈ jnw := List.mem_of_getElem? (i := 8) rfl
theorem jw370 : (Jvm.Cond.fieldLinkNest "UnheardBells$Reader" (19 : Nat) "UnheardBells" "text" "Ljava/lang/StringBuilder;" "UnheardBells") ∈ jnw := List.mem_of_getElem? (i := 9) rfl
theorem jw443 : (Jvm.Cond.declares ({ cls := "java/util/AbstractCollection", name := "size", desc := "()I" } : Jvm.MethodName)) ∈ jnw := List.mem_of_getElem? (i := 113) rfl
theorem jw929 : (Jvm.Cond.fieldLinkNest "UnheardBells$Machine" (145 : Nat) "UnheardBells$Rope" "parish" "I" "UnheardBells") ∈ jnw := List.mem_of_getElem? (i := 10) rfl
theorem jw931 : (Jvm.Cond.fieldLinkNest "UnheardBells$Machine" (148 : Nat) "UnheardBells$Rope" "isOn" "Z" "UnheardBells") ∈ jnw := List.mem_of_getElem? (i := 11) rfl
theorem jw933 : (Jvm.Cond.fieldLinkNest "UnheardBells$Machine" (155 : Nat) "UnheardBells$Rope" "rust" "I" "UnheardBells") ∈ jnw := List.mem_of_getElem? (i := 12) rfl
theorem jw935 : (Jvm.Cond.fieldLinkNest "UnheardBells$Machine" (287 : Nat) "UnheardBells$Rope" "answered" "I" "UnheardBells") ∈ jnw := List.mem_of_getElem? (i := 13) rfl
theorem jw936 : (Jvm.Cond.fieldLinkNest "UnheardBells" (292 : Nat) "UnheardBells$Rope" "answered" "I" "UnheardBells") ∈ jnw := List.mem_of_getElem? (i := 14) rfl
theorem jw938 : (Jvm.Cond.fieldLinkNest "UnheardBells$Machine" (224 : Nat) "UnheardBells$Rope" "missed" "I" "UnheardBells") ∈ jnw := List.mem_of_getElem? (i := 15) rfl
theorem jw939 : (Jvm.Cond.fieldLinkNest "UnheardBells" (295 : Nat) "UnheardBells$Rope" "missed" "I" "UnheardBells") ∈ jnw := List.mem_of_getElem? (i := 16) rfl
theorem jw941 : (Jvm.Cond.fieldLinkNest "UnheardBells$Machine" (215 : Nat) "UnheardBells$Rope" "doubled" "I" "UnheardBells") ∈ jnw := List.mem_of_getElem? (i := 17) rfl
theorem jw942 : (Jvm.Cond.fieldLinkNest "UnheardBells" (298 : Nat) "UnheardBells$Rope" "doubled" "I" "UnheardBells") ∈ jnw := List.mem_of_getElem? (i := 18) rfl
theorem jw1059 : (Jvm.Cond.castable "java/lang/Integer" "java/lang/Comparable") ∈ jnw := List.mem_of_getElem? (i := 57) rfl
theorem jw1541 : (Jvm.Cond.methodLinkNest "UnheardBells$Machine" (137 : Nat) ({ cls := "UnheardBells", name := "refuse", desc := "(ZII)V" } : Jvm.MethodName) "UnheardBells") ∈ jnw := List.mem_of_getElem? (i := 38) rfl
theorem jw1545 : (Jvm.Cond.castable "UnheardBells$Refused" "UnheardBells$Refused") ∈ jnw := List.mem_of_getElem? (i := 62) rfl
theorem jw1562 : (Jvm.Cond.fieldLinkNest "UnheardBells" (55 : Nat) "UnheardBells$Refused" "reason" "I" "UnheardBells") ∈ jnw := List.mem_of_getElem? (i := 19) rfl
theorem jw1564 : (Jvm.Cond.fieldLinkNest "UnheardBells" (60 : Nat) "UnheardBells$Refused" "detail" "I" "UnheardBells") ∈ jnw := List.mem_of_getElem? (i := 20) rfl
theorem jw1594 : (Jvm.Cond.methodLinkNest "UnheardBells$Machine" (133 : Nat) ({ cls := "UnheardBells", name := "isIn", desc := "(III)Z" } : Jvm.MethodName) "UnheardBells") ∈ jnw := List.mem_of_getElem? (i := 39) rfl
theorem jw1659 : (Jvm.Cond.fieldLinkNest "UnheardBells$Answer" (9 : Nat) "UnheardBells$Pull" "rope" "I" "UnheardBells") ∈ jnw := List.mem_of_getElem? (i := 21) rfl
theorem jw1660 : (Jvm.Cond.fieldLinkNest "UnheardBells$InOrder" (16 : Nat) "UnheardBells$Pull" "rope" "I" "UnheardBells") ∈ jnw := List.mem_of_getElem? (i := 22) rfl
theorem jw1661 : (Jvm.Cond.fieldLinkNest "UnheardBells$Machine" (176 : Nat) "UnheardBells$Pull" "rope" "I" "UnheardBells") ∈ jnw := List.mem_of_getElem? (i := 23) rfl
theorem jw1663 : (Jvm.Cond.fieldLinkNest "UnheardBells$Answer" (18 : Nat) "UnheardBells$Pull" "hour" "I" "UnheardBells") ∈ jnw := List.mem_of_getElem? (i := 24) rfl
theorem jw1664 : (Jvm.Cond.fieldLinkNest "UnheardBells$InOrder" (7 : Nat) "UnheardBells$Pull" "hour" "I" "UnheardBells") ∈ jnw := List.mem_of_getElem? (i := 25) rfl
theorem jw1665 : (Jvm.Cond.fieldLinkNest "UnheardBells$Machine" (204 : Nat) "UnheardBells$Pull" "hour" "I" "UnheardBells") ∈ jnw := List.mem_of_getElem? (i := 26) rfl
theorem jw1667 : (Jvm.Cond.fieldLinkNest "UnheardBells$Answer" (22 : Nat) "UnheardBells$Pull" "strength" "I" "UnheardBells") ∈ jnw := List.mem_of_getElem? (i := 27) rfl
theorem jw1668 : (Jvm.Cond.fieldLinkNest "UnheardBells$InOrder" (13 : Nat) "UnheardBells$Pull" "strength" "I" "UnheardBells") ∈ jnw := List.mem_of_getElem? (i := 28) rfl
theorem jw1669 : (Jvm.Cond.fieldLinkNest "UnheardBells$Machine" (218 : Nat) "UnheardBells$Pull" "strength" "I" "UnheardBells") ∈ jnw := List.mem_of_getElem? (i := 29) rfl
theorem jw1671 : (Jvm.Cond.fieldLinkNest "UnheardBells$InOrder" (19 : Nat) "UnheardBells$Pull" "came" "I" "UnheardBells") ∈ jnw := List.mem_of_getElem? (i := 30) rfl
theorem jw1984 : (Jvm.Cond.declares ({ cls := "java/util/AbstractList", name := "listIterator", desc := "(I)Ljava/util/ListIterator;" } : Jvm.MethodName)) ∈ jnw := List.mem_of_getElem? (i := 131) rfl
theorem jw2216 : (Jvm.Cond.methodLinkNest "UnheardBells" (207 : Nat) ({ cls := "UnheardBells$Reader", name := "<init>", desc := "(LUnheardBells;)V" } : Jvm.MethodName) "UnheardBells") ∈ jnw := List.mem_of_getElem? (i := 40) rfl
theorem jw2262 : (Jvm.Cond.castable "UnheardBells$Wrong" "UnheardBells$Wrong") ∈ jnw := List.mem_of_getElem? (i := 70) rfl
theorem jw2274 : (Jvm.Cond.fieldLinkNest "UnheardBells" (234 : Nat) "UnheardBells$Wrong" "at" "I" "UnheardBells") ∈ jnw := List.mem_of_getElem? (i := 31) rfl
theorem jw2286 : (Jvm.Cond.fieldLinkNest "UnheardBells$Reader" (57 : Nat) "UnheardBells$Command" "kind" "I" "UnheardBells") ∈ jnw := List.mem_of_getElem? (i := 32) rfl
theorem jw2288 : (Jvm.Cond.fieldLinkNest "UnheardBells$Reader" (79 : Nat) "UnheardBells$Command" "one" "I" "UnheardBells") ∈ jnw := List.mem_of_getElem? (i := 33) rfl
theorem jw2290 : (Jvm.Cond.fieldLinkNest "UnheardBells$Reader" (66 : Nat) "UnheardBells$Command" "two" "I" "UnheardBells") ∈ jnw := List.mem_of_getElem? (i := 34) rfl
theorem jw2292 : (Jvm.Cond.fieldLinkNest "UnheardBells$Reader" (72 : Nat) "UnheardBells$Command" "three" "I" "UnheardBells") ∈ jnw := List.mem_of_getElem? (i := 35) rfl
theorem jw2306 : (Jvm.Cond.methodLinkNest "UnheardBells$Reader" (41 : Nat) ({ cls := "UnheardBells", name := "isIn", desc := "(III)Z" } : Jvm.MethodName) "UnheardBells") ∈ jnw := List.mem_of_getElem? (i := 41) rfl
theorem jw2336 : (Jvm.Cond.methodLinkNest "UnheardBells$Command" (25 : Nat) ({ cls := "UnheardBells", name := "isParish", desc := "(I)Z" } : Jvm.MethodName) "UnheardBells") ∈ jnw := List.mem_of_getElem? (i := 42) rfl
theorem jw2348 : (Jvm.Cond.methodLinkNest "UnheardBells$Command" (38 : Nat) ({ cls := "UnheardBells", name := "isHour", desc := "(I)Z" } : Jvm.MethodName) "UnheardBells") ∈ jnw := List.mem_of_getElem? (i := 43) rfl
theorem jw2349 : (Jvm.Cond.methodLinkNest "UnheardBells$Command" (44 : Nat) ({ cls := "UnheardBells", name := "isStrength", desc := "(I)Z" } : Jvm.MethodName) "UnheardBells") ∈ jnw := List.mem_of_getElem? (i := 44) rfl
theorem jw2352 : (Jvm.Cond.methodLinkNest "UnheardBells$Command" (55 : Nat) ({ cls := "UnheardBells", name := "isMuch", desc := "(I)Z" } : Jvm.MethodName) "UnheardBells") ∈ jnw := List.mem_of_getElem? (i := 45) rfl
theorem pd_0 : parseFieldDescriptor "I" = some .int := by decide +kernel
theorem pd_1 : parseFieldDescriptor "[Ljava/lang/Object;" = some (.array (.object "java/lang/Object")) := by decide +kernel
theorem pd_2 : parseFieldDescriptor "Ljava/util/Comparator;" = some (.object "java/util/Comparator") := by decide +kernel
theorem pd_3 : parseFieldDescriptor "Ljava/util/ArrayList;" = some (.object "java/util/ArrayList") := by decide +kernel
theorem pd_4 : parseFieldDescriptor "Ljava/util/PriorityQueue;" = some (.object "java/util/PriorityQueue") := by decide +kernel
theorem pd_5 : parseFieldDescriptor "Ljava/util/TreeMap;" = some (.object "java/util/TreeMap") := by decide +kernel
theorem pd_6 : parseFieldDescriptor "Ljava/util/ArrayDeque;" = some (.object "java/util/ArrayDeque") := by decide +kernel
theorem pd_7 : parseFieldDescriptor "[B" = some (.array .byte) := by decide +kernel
theorem pd_8 : parseFieldDescriptor "B" = some .byte := by decide +kernel
theorem pd_9 : parseFieldDescriptor "[LUnheardBells$Count;" = some (.array (.object "UnheardBells$Count")) := by decide +kernel
theorem pd_10 : parseFieldDescriptor "LUnheardBells$Machine;" = some (.object "UnheardBells$Machine") := by decide +kernel
theorem pd_11 : parseFieldDescriptor "Ljava/lang/StringBuilder;" = some (.object "java/lang/StringBuilder") := by decide +kernel
theorem pd_12 : parseFieldDescriptor "Ljava/lang/String;" = some (.object "java/lang/String") := by decide +kernel
theorem pd_13 : parseFieldDescriptor "[I" = some (.array .int) := by decide +kernel
theorem pd_14 : parseFieldDescriptor "Z" = some .boolean := by decide +kernel
theorem pd_15 : parseFieldDescriptor "Ljava/lang/Object;" = some (.object "java/lang/Object") := by decide +kernel
theorem pd_16 : parseFieldDescriptor "Ljava/util/NavigableMap;" = some (.object "java/util/NavigableMap") := by decide +kernel
theorem pd_17 : parseFieldDescriptor "Ljava/util/TreeMap$KeySet;" = some (.object "java/util/TreeMap$KeySet") := by decide +kernel
theorem pd_18 : parseFieldDescriptor "Ljava/util/TreeMap$Entry;" = some (.object "java/util/TreeMap$Entry") := by decide +kernel
theorem pd_19 : parseFieldDescriptor "[J" = some (.array .long) := by decide +kernel
theorem pd_20 : parseFieldDescriptor "Ljava/util/LinkedList$Node;" = some (.object "java/util/LinkedList$Node") := by decide +kernel
theorem pd_21 : parseFieldDescriptor "Ljava/util/LinkedList;" = some (.object "java/util/LinkedList") := by decide +kernel
theorem pd_22 : parseFieldDescriptor "LUnheardBells;" = some (.object "UnheardBells") := by decide +kernel
theorem pd_23 : parseFieldDescriptor "Ljava/lang/Throwable;" = some (.object "java/lang/Throwable") := by decide +kernel
theorem pd_24 : parseFieldDescriptor "[Ljava/lang/StackTraceElement;" = some (.array (.object "java/lang/StackTraceElement")) := by decide +kernel
theorem pd_25 : parseFieldDescriptor "Ljava/util/List;" = some (.object "java/util/List") := by decide +kernel
theorem pd_26 : parseFieldDescriptor "Ljava/util/Collection;" = some (.object "java/util/Collection") := by decide +kernel
theorem mh_J0 : "java/util/AbstractCollection" ≠ "java/lang/invoke/MethodHandle" ∧ "java/util/AbstractCollection" ≠ "java/lang/invoke/VarHandle" := by decide
theorem mh_J1 : "java/util/AbstractList" ≠ "java/lang/invoke/MethodHandle" ∧ "java/util/AbstractList" ≠ "java/lang/invoke/VarHandle" := by decide
theorem mh_J10 : "java/lang/String" ≠ "java/lang/invoke/MethodHandle" ∧ "java/lang/String" ≠ "java/lang/invoke/VarHandle" := by decide
theorem mh_J12 : "java/util/ArrayList$Itr" ≠ "java/lang/invoke/MethodHandle" ∧ "java/util/ArrayList$Itr" ≠ "java/lang/invoke/VarHandle" := by decide
theorem mh_J13 : "java/util/Objects" ≠ "java/lang/invoke/MethodHandle" ∧ "java/util/Objects" ≠ "java/lang/invoke/VarHandle" := by decide
theorem mh_J14 : "jdk/internal/util/Preconditions" ≠ "java/lang/invoke/MethodHandle" ∧ "jdk/internal/util/Preconditions" ≠ "java/lang/invoke/VarHandle" := by decide
theorem mh_J15 : "java/lang/Throwable" ≠ "java/lang/invoke/MethodHandle" ∧ "java/lang/Throwable" ≠ "java/lang/invoke/VarHandle" := by decide
theorem mh_J16 : "java/lang/Exception" ≠ "java/lang/invoke/MethodHandle" ∧ "java/lang/Exception" ≠ "java/lang/invoke/VarHandle" := by decide
theorem mh_J19 : "jdk/internal/util/ArraysSupport" ≠ "java/lang/invoke/MethodHandle" ∧ "jdk/internal/util/ArraysSupport" ≠ "java/lang/invoke/VarHandle" := by decide
theorem mh_J2 : "java/util/ArrayList" ≠ "java/lang/invoke/MethodHandle" ∧ "java/util/ArrayList" ≠ "java/lang/invoke/VarHandle" := by decide
theorem mh_J20 : "java/lang/Math" ≠ "java/lang/invoke/MethodHandle" ∧ "java/lang/Math" ≠ "java/lang/invoke/VarHandle" := by decide
theorem mh_J21 : "java/util/Arrays" ≠ "java/lang/invoke/MethodHandle" ∧ "java/util/Arrays" ≠ "java/lang/invoke/VarHandle" := by decide
theorem mh_J22 : "java/lang/StringLatin1" ≠ "java/lang/invoke/MethodHandle" ∧ "java/lang/StringLatin1" ≠ "java/lang/invoke/VarHandle" := by decide
theorem mh_J23 : "java/util/PriorityQueue$Itr" ≠ "java/lang/invoke/MethodHandle" ∧ "java/util/PriorityQueue$Itr" ≠ "java/lang/invoke/VarHandle" := by decide
theorem mh_J24 : "java/lang/Number" ≠ "java/lang/invoke/MethodHandle" ∧ "java/lang/Number" ≠ "java/lang/invoke/VarHandle" := by decide
theorem mh_J25 : "java/lang/Integer" ≠ "java/lang/invoke/MethodHandle" ∧ "java/lang/Integer" ≠ "java/lang/invoke/VarHandle" := by decide
theorem mh_J27 : "java/lang/Long" ≠ "java/lang/invoke/MethodHandle" ∧ "java/lang/Long" ≠ "java/lang/invoke/VarHandle" := by decide
theorem mh_J28 : "java/util/AbstractSet" ≠ "java/lang/invoke/MethodHandle" ∧ "java/util/AbstractSet" ≠ "java/lang/invoke/VarHandle" := by decide
theorem mh_J29 : "java/util/TreeMap$KeySet" ≠ "java/lang/invoke/MethodHandle" ∧ "java/util/TreeMap$KeySet" ≠ "java/lang/invoke/VarHandle" := by decide
theorem mh_J3 : "java/util/AbstractQueue" ≠ "java/lang/invoke/MethodHandle" ∧ "java/util/AbstractQueue" ≠ "java/lang/invoke/VarHandle" := by decide
theorem mh_J30 : "java/util/TreeMap$PrivateEntryIterator" ≠ "java/lang/invoke/MethodHandle" ∧ "java/util/TreeMap$PrivateEntryIterator" ≠ "java/lang/invoke/VarHandle" := by decide
theorem mh_J31 : "java/util/TreeMap$KeyIterator" ≠ "java/lang/invoke/MethodHandle" ∧ "java/util/TreeMap$KeyIterator" ≠ "java/lang/invoke/VarHandle" := by decide
theorem mh_J32 : "java/util/BitSet" ≠ "java/lang/invoke/MethodHandle" ∧ "java/util/BitSet" ≠ "java/lang/invoke/VarHandle" := by decide
theorem mh_J33 : "java/util/TreeMap$Entry" ≠ "java/lang/invoke/MethodHandle" ∧ "java/util/TreeMap$Entry" ≠ "java/lang/invoke/VarHandle" := by decide
theorem mh_J34 : "java/util/ArrayDeque$DeqIterator" ≠ "java/lang/invoke/MethodHandle" ∧ "java/util/ArrayDeque$DeqIterator" ≠ "java/lang/invoke/VarHandle" := by decide
theorem mh_J35 : "java/util/AbstractSequentialList" ≠ "java/lang/invoke/MethodHandle" ∧ "java/util/AbstractSequentialList" ≠ "java/lang/invoke/VarHandle" := by decide
theorem mh_J36 : "java/util/LinkedList" ≠ "java/lang/invoke/MethodHandle" ∧ "java/util/LinkedList" ≠ "java/lang/invoke/VarHandle" := by decide
theorem mh_J37 : "java/util/LinkedList$Node" ≠ "java/lang/invoke/MethodHandle" ∧ "java/util/LinkedList$Node" ≠ "java/lang/invoke/VarHandle" := by decide
theorem mh_J38 : "java/util/TreeMap$Values" ≠ "java/lang/invoke/MethodHandle" ∧ "java/util/TreeMap$Values" ≠ "java/lang/invoke/VarHandle" := by decide
theorem mh_J4 : "java/util/PriorityQueue" ≠ "java/lang/invoke/MethodHandle" ∧ "java/util/PriorityQueue" ≠ "java/lang/invoke/VarHandle" := by decide
theorem mh_J41 : "java/util/LinkedList$ListItr" ≠ "java/lang/invoke/MethodHandle" ∧ "java/util/LinkedList$ListItr" ≠ "java/lang/invoke/VarHandle" := by decide
theorem mh_J42 : "java/util/TreeMap$ValueIterator" ≠ "java/lang/invoke/MethodHandle" ∧ "java/util/TreeMap$ValueIterator" ≠ "java/lang/invoke/VarHandle" := by decide
theorem mh_J5 : "java/util/AbstractMap" ≠ "java/lang/invoke/MethodHandle" ∧ "java/util/AbstractMap" ≠ "java/lang/invoke/VarHandle" := by decide
theorem mh_J6 : "java/util/TreeMap" ≠ "java/lang/invoke/MethodHandle" ∧ "java/util/TreeMap" ≠ "java/lang/invoke/VarHandle" := by decide
theorem mh_J7 : "java/util/ArrayDeque" ≠ "java/lang/invoke/MethodHandle" ∧ "java/util/ArrayDeque" ≠ "java/lang/invoke/VarHandle" := by decide
theorem mh_J8 : "java/lang/AbstractStringBuilder" ≠ "java/lang/invoke/MethodHandle" ∧ "java/lang/AbstractStringBuilder" ≠ "java/lang/invoke/VarHandle" := by decide
theorem mh_J9 : "java/lang/StringBuilder" ≠ "java/lang/invoke/MethodHandle" ∧ "java/lang/StringBuilder" ≠ "java/lang/invoke/VarHandle" := by decide
theorem mh_X0 : "UnheardBells" ≠ "java/lang/invoke/MethodHandle" ∧ "UnheardBells" ≠ "java/lang/invoke/VarHandle" := by decide
theorem mh_X1 : "UnheardBells$Machine" ≠ "java/lang/invoke/MethodHandle" ∧ "UnheardBells$Machine" ≠ "java/lang/invoke/VarHandle" := by decide
theorem mh_X10 : "UnheardBells$Command" ≠ "java/lang/invoke/MethodHandle" ∧ "UnheardBells$Command" ≠ "java/lang/invoke/VarHandle" := by decide
theorem mh_X2 : "UnheardBells$InOrder" ≠ "java/lang/invoke/MethodHandle" ∧ "UnheardBells$InOrder" ≠ "java/lang/invoke/VarHandle" := by decide
theorem mh_X3 : "UnheardBellsModel" ≠ "java/lang/invoke/MethodHandle" ∧ "UnheardBellsModel" ≠ "java/lang/invoke/VarHandle" := by decide
theorem mh_X4 : "UnheardBells$Rope" ≠ "java/lang/invoke/MethodHandle" ∧ "UnheardBells$Rope" ≠ "java/lang/invoke/VarHandle" := by decide
theorem mh_X5 : "UnheardBells$Refused" ≠ "java/lang/invoke/MethodHandle" ∧ "UnheardBells$Refused" ≠ "java/lang/invoke/VarHandle" := by decide
theorem mh_X6 : "UnheardBells$Pull" ≠ "java/lang/invoke/MethodHandle" ∧ "UnheardBells$Pull" ≠ "java/lang/invoke/VarHandle" := by decide
theorem mh_X7 : "UnheardBells$Answer" ≠ "java/lang/invoke/MethodHandle" ∧ "UnheardBells$Answer" ≠ "java/lang/invoke/VarHandle" := by decide
theorem mh_X8 : "UnheardBells$Reader" ≠ "java/lang/invoke/MethodHandle" ∧ "UnheardBells$Reader" ≠ "java/lang/invoke/VarHandle" := by decide
theorem mh_X9 : "UnheardBells$Wrong" ≠ "java/lang/invoke/MethodHandle" ∧ "UnheardBells$Wrong" ≠ "java/lang/invoke/VarHandle" := by decide
theorem mh_z18 : "java/util/Comparator" ≠ "java/lang/invoke/MethodHandle" ∧ "java/util/Comparator" ≠ "java/lang/invoke/VarHandle" := by decide
theorem mh_z27 : "java/lang/Comparable" ≠ "java/lang/invoke/MethodHandle" ∧ "java/lang/Comparable" ≠ "java/lang/invoke/VarHandle" := by decide
theorem mh_z30 : "java/util/Iterator" ≠ "java/lang/invoke/MethodHandle" ∧ "java/util/Iterator" ≠ "java/lang/invoke/VarHandle" := by decide
theorem mh_z31 : "java/util/Set" ≠ "java/lang/invoke/MethodHandle" ∧ "java/util/Set" ≠ "java/lang/invoke/VarHandle" := by decide
theorem mh_z52 : "java/util/Collection" ≠ "java/lang/invoke/MethodHandle" ∧ "java/util/Collection" ≠ "java/lang/invoke/VarHandle" := by decide
theorem ln_J0_init : (parseMethodDescriptor "()V").map (fun d => d.parameters.length) = some 0 := by decide +kernel
theorem ln_J1_init : (parseMethodDescriptor "()V").map (fun d => d.parameters.length) = some 0 := by decide +kernel
theorem ln_J2_init : (parseMethodDescriptor "(I)V").map (fun d => d.parameters.length) = some 1 := by decide +kernel
theorem ln_X2_init : (parseMethodDescriptor "()V").map (fun d => d.parameters.length) = some 0 := by decide +kernel
theorem ln_J3_init : (parseMethodDescriptor "()V").map (fun d => d.parameters.length) = some 0 := by decide +kernel
theorem ln_J4_init_2 : (parseMethodDescriptor "(ILjava/util/Comparator;)V").map (fun d => d.parameters.length) = some 2 := by decide +kernel
theorem ln_J4_init : (parseMethodDescriptor "(Ljava/util/Comparator;)V").map (fun d => d.parameters.length) = some 1 := by decide +kernel
theorem ln_J5_init : (parseMethodDescriptor "()V").map (fun d => d.parameters.length) = some 0 := by decide +kernel
theorem ln_J6_init : (parseMethodDescriptor "()V").map (fun d => d.parameters.length) = some 0 := by decide +kernel
theorem ln_J7_init : (parseMethodDescriptor "()V").map (fun d => d.parameters.length) = some 0 := by decide +kernel
theorem ln_X1_init : (parseMethodDescriptor "()V").map (fun d => d.parameters.length) = some 0 := by decide +kernel
theorem ln_J8_init : (parseMethodDescriptor "(I)V").map (fun d => d.parameters.length) = some 1 := by decide +kernel
theorem ln_J9_init : (parseMethodDescriptor "()V").map (fun d => d.parameters.length) = some 0 := by decide +kernel
theorem ln_X0_init : (parseMethodDescriptor "()V").map (fun d => d.parameters.length) = some 0 := by decide +kernel
theorem ln_X3_init : (parseMethodDescriptor "()V").map (fun d => d.parameters.length) = some 0 := by decide +kernel
theorem ln_J12_init : (parseMethodDescriptor "(Ljava/util/ArrayList;)V").map (fun d => d.parameters.length) = some 1 := by decide +kernel
theorem ln_J2_iterator : (parseMethodDescriptor "()Ljava/util/Iterator;").map (fun d => d.parameters.length) = some 0 := by decide +kernel
theorem ln_J12_hasNext : (parseMethodDescriptor "()Z").map (fun d => d.parameters.length) = some 0 := by decide +kernel
theorem ln_J12_checkForComodification : (parseMethodDescriptor "()V").map (fun d => d.parameters.length) = some 0 := by decide +kernel
theorem ln_J12_next : (parseMethodDescriptor "()Ljava/lang/Object;").map (fun d => d.parameters.length) = some 0 := by decide +kernel
theorem ln_X4_init : (parseMethodDescriptor "(I)V").map (fun d => d.parameters.length) = some 1 := by decide +kernel
theorem ln_X4_copy : (parseMethodDescriptor "()LUnheardBells$Rope;").map (fun d => d.parameters.length) = some 0 := by decide +kernel
theorem ln_J2_add_2 : (parseMethodDescriptor "(Ljava/lang/Object;[Ljava/lang/Object;I)V").map (fun d => d.parameters.length) = some 3 := by decide +kernel
theorem ln_J2_add : (parseMethodDescriptor "(Ljava/lang/Object;)Z").map (fun d => d.parameters.length) = some 1 := by decide +kernel
theorem ln_J23_init : (parseMethodDescriptor "(Ljava/util/PriorityQueue;)V").map (fun d => d.parameters.length) = some 1 := by decide +kernel
theorem ln_J4_iterator : (parseMethodDescriptor "()Ljava/util/Iterator;").map (fun d => d.parameters.length) = some 0 := by decide +kernel
theorem ln_J7_isEmpty : (parseMethodDescriptor "()Z").map (fun d => d.parameters.length) = some 0 := by decide +kernel
theorem ln_J23_hasNext : (parseMethodDescriptor "()Z").map (fun d => d.parameters.length) = some 0 := by decide +kernel
theorem ln_J7_elementAt : (parseMethodDescriptor "([Ljava/lang/Object;I)Ljava/lang/Object;").map (fun d => d.parameters.length) = some 2 := by decide +kernel
theorem ln_J7_inc : (parseMethodDescriptor "(II)I").map (fun d => d.parameters.length) = some 2 := by decide +kernel
theorem ln_J7_pollFirst : (parseMethodDescriptor "()Ljava/lang/Object;").map (fun d => d.parameters.length) = some 0 := by decide +kernel
theorem ln_J7_poll : (parseMethodDescriptor "()Ljava/lang/Object;").map (fun d => d.parameters.length) = some 0 := by decide +kernel
theorem ln_J23_next : (parseMethodDescriptor "()Ljava/lang/Object;").map (fun d => d.parameters.length) = some 0 := by decide +kernel
theorem ln_J20_max : (parseMethodDescriptor "(II)I").map (fun d => d.parameters.length) = some 2 := by decide +kernel
theorem ln_J19_newLength : (parseMethodDescriptor "(III)I").map (fun d => d.parameters.length) = some 3 := by decide +kernel
theorem ln_J20_min : (parseMethodDescriptor "(II)I").map (fun d => d.parameters.length) = some 2 := by decide +kernel
theorem ln_J21_copyOf_3 : (parseMethodDescriptor "([Ljava/lang/Object;ILjava/lang/Class;)[Ljava/lang/Object;").map (fun d => d.parameters.length) = some 3 := by decide +kernel
theorem ln_J21_copyOf_2 : (parseMethodDescriptor "([Ljava/lang/Object;I)[Ljava/lang/Object;").map (fun d => d.parameters.length) = some 2 := by decide +kernel
theorem ln_J4_grow : (parseMethodDescriptor "(I)V").map (fun d => d.parameters.length) = some 1 := by decide +kernel
theorem ln_X2_compare_2 : (parseMethodDescriptor "(LUnheardBells$Pull;LUnheardBells$Pull;)I").map (fun d => d.parameters.length) = some 2 := by decide +kernel
theorem ln_X2_compare : (parseMethodDescriptor "(Ljava/lang/Object;Ljava/lang/Object;)I").map (fun d => d.parameters.length) = some 2 := by decide +kernel
theorem ln_J4_siftUpUsingComparator : (parseMethodDescriptor "(ILjava/lang/Object;[Ljava/lang/Object;Ljava/util/Comparator;)V").map (fun d => d.parameters.length) = some 4 := by decide +kernel
theorem ln_J4_siftUp : (parseMethodDescriptor "(ILjava/lang/Object;)V").map (fun d => d.parameters.length) = some 2 := by decide +kernel
theorem ln_J4_offer : (parseMethodDescriptor "(Ljava/lang/Object;)Z").map (fun d => d.parameters.length) = some 1 := by decide +kernel
theorem ln_J4_add : (parseMethodDescriptor "(Ljava/lang/Object;)Z").map (fun d => d.parameters.length) = some 1 := by decide +kernel
theorem ln_J28_init : (parseMethodDescriptor "()V").map (fun d => d.parameters.length) = some 0 := by decide +kernel
theorem ln_J29_init : (parseMethodDescriptor "(Ljava/util/NavigableMap;)V").map (fun d => d.parameters.length) = some 1 := by decide +kernel
theorem ln_J6_navigableKeySet : (parseMethodDescriptor "()Ljava/util/NavigableSet;").map (fun d => d.parameters.length) = some 0 := by decide +kernel
theorem ln_J6_keySet : (parseMethodDescriptor "()Ljava/util/Set;").map (fun d => d.parameters.length) = some 0 := by decide +kernel
theorem ln_J6_getFirstEntry : (parseMethodDescriptor "()Ljava/util/TreeMap$Entry;").map (fun d => d.parameters.length) = some 0 := by decide +kernel
theorem ln_J30_init : (parseMethodDescriptor "(Ljava/util/TreeMap;Ljava/util/TreeMap$Entry;)V").map (fun d => d.parameters.length) = some 2 := by decide +kernel
theorem ln_J31_init : (parseMethodDescriptor "(Ljava/util/TreeMap;Ljava/util/TreeMap$Entry;)V").map (fun d => d.parameters.length) = some 2 := by decide +kernel
theorem ln_J6_keyIterator : (parseMethodDescriptor "()Ljava/util/Iterator;").map (fun d => d.parameters.length) = some 0 := by decide +kernel
theorem ln_J29_iterator : (parseMethodDescriptor "()Ljava/util/Iterator;").map (fun d => d.parameters.length) = some 0 := by decide +kernel
theorem ln_J30_hasNext : (parseMethodDescriptor "()Z").map (fun d => d.parameters.length) = some 0 := by decide +kernel
theorem ln_J6_successor : (parseMethodDescriptor "(Ljava/util/TreeMap$Entry;)Ljava/util/TreeMap$Entry;").map (fun d => d.parameters.length) = some 1 := by decide +kernel
theorem ln_J30_nextEntry : (parseMethodDescriptor "()Ljava/util/TreeMap$Entry;").map (fun d => d.parameters.length) = some 0 := by decide +kernel
theorem ln_J31_next : (parseMethodDescriptor "()Ljava/lang/Object;").map (fun d => d.parameters.length) = some 0 := by decide +kernel
theorem ln_J25_intValue : (parseMethodDescriptor "()I").map (fun d => d.parameters.length) = some 0 := by decide +kernel
theorem ln_J32_wordIndex : (parseMethodDescriptor "(I)I").map (fun d => d.parameters.length) = some 1 := by decide +kernel
theorem ln_J32_initWords : (parseMethodDescriptor "(I)V").map (fun d => d.parameters.length) = some 1 := by decide +kernel
theorem ln_J32_init : (parseMethodDescriptor "()V").map (fun d => d.parameters.length) = some 0 := by decide +kernel
theorem ln_J24_init : (parseMethodDescriptor "()V").map (fun d => d.parameters.length) = some 0 := by decide +kernel
theorem ln_J25_init : (parseMethodDescriptor "(I)V").map (fun d => d.parameters.length) = some 1 := by decide +kernel
theorem ln_J25_valueOf : (parseMethodDescriptor "(I)Ljava/lang/Integer;").map (fun d => d.parameters.length) = some 1 := by decide +kernel
theorem ln_J13_requireNonNull : (parseMethodDescriptor "(Ljava/lang/Object;)Ljava/lang/Object;").map (fun d => d.parameters.length) = some 1 := by decide +kernel
theorem ln_J25_compare : (parseMethodDescriptor "(II)I").map (fun d => d.parameters.length) = some 2 := by decide +kernel
theorem ln_J25_compareTo_2 : (parseMethodDescriptor "(Ljava/lang/Integer;)I").map (fun d => d.parameters.length) = some 1 := by decide +kernel
theorem ln_J25_compareTo : (parseMethodDescriptor "(Ljava/lang/Object;)I").map (fun d => d.parameters.length) = some 1 := by decide +kernel
theorem ln_J6_getEntry : (parseMethodDescriptor "(Ljava/lang/Object;)Ljava/util/TreeMap$Entry;").map (fun d => d.parameters.length) = some 1 := by decide +kernel
theorem ln_J6_get : (parseMethodDescriptor "(Ljava/lang/Object;)Ljava/lang/Object;").map (fun d => d.parameters.length) = some 1 := by decide +kernel
theorem ln_J32_ensureCapacity : (parseMethodDescriptor "(I)V").map (fun d => d.parameters.length) = some 1 := by decide +kernel
theorem ln_J32_checkInvariants : (parseMethodDescriptor "()V").map (fun d => d.parameters.length) = some 0 := by decide +kernel
theorem ln_J32_or : (parseMethodDescriptor "(Ljava/util/BitSet;)V").map (fun d => d.parameters.length) = some 1 := by decide +kernel
theorem ln_J6_compare : (parseMethodDescriptor "(Ljava/lang/Object;Ljava/lang/Object;)I").map (fun d => d.parameters.length) = some 2 := by decide +kernel
theorem ln_J33_init : (parseMethodDescriptor "(Ljava/lang/Object;Ljava/lang/Object;Ljava/util/TreeMap$Entry;)V").map (fun d => d.parameters.length) = some 3 := by decide +kernel
theorem ln_J6_addEntryToEmptyMap : (parseMethodDescriptor "(Ljava/lang/Object;Ljava/lang/Object;)V").map (fun d => d.parameters.length) = some 2 := by decide +kernel
theorem ln_J6_parentOf : (parseMethodDescriptor "(Ljava/util/TreeMap$Entry;)Ljava/util/TreeMap$Entry;").map (fun d => d.parameters.length) = some 1 := by decide +kernel
theorem ln_J6_leftOf : (parseMethodDescriptor "(Ljava/util/TreeMap$Entry;)Ljava/util/TreeMap$Entry;").map (fun d => d.parameters.length) = some 1 := by decide +kernel
theorem ln_J6_rightOf : (parseMethodDescriptor "(Ljava/util/TreeMap$Entry;)Ljava/util/TreeMap$Entry;").map (fun d => d.parameters.length) = some 1 := by decide +kernel
theorem ln_J6_colorOf : (parseMethodDescriptor "(Ljava/util/TreeMap$Entry;)Z").map (fun d => d.parameters.length) = some 1 := by decide +kernel
theorem ln_J6_setColor : (parseMethodDescriptor "(Ljava/util/TreeMap$Entry;Z)V").map (fun d => d.parameters.length) = some 2 := by decide +kernel
theorem ln_J6_rotateLeft : (parseMethodDescriptor "(Ljava/util/TreeMap$Entry;)V").map (fun d => d.parameters.length) = some 1 := by decide +kernel
theorem ln_J6_rotateRight : (parseMethodDescriptor "(Ljava/util/TreeMap$Entry;)V").map (fun d => d.parameters.length) = some 1 := by decide +kernel
theorem ln_J6_fixAfterInsertion : (parseMethodDescriptor "(Ljava/util/TreeMap$Entry;)V").map (fun d => d.parameters.length) = some 1 := by decide +kernel
theorem ln_J6_addEntry : (parseMethodDescriptor "(Ljava/lang/Object;Ljava/lang/Object;Ljava/util/TreeMap$Entry;Z)V").map (fun d => d.parameters.length) = some 4 := by decide +kernel
theorem ln_J6_put_2 : (parseMethodDescriptor "(Ljava/lang/Object;Ljava/lang/Object;Z)Ljava/lang/Object;").map (fun d => d.parameters.length) = some 3 := by decide +kernel
theorem ln_J6_put : (parseMethodDescriptor "(Ljava/lang/Object;Ljava/lang/Object;)Ljava/lang/Object;").map (fun d => d.parameters.length) = some 2 := by decide +kernel
theorem ln_J7_sub : (parseMethodDescriptor "(III)I").map (fun d => d.parameters.length) = some 3 := by decide +kernel
theorem ln_J7_size : (parseMethodDescriptor "()I").map (fun d => d.parameters.length) = some 0 := by decide +kernel
theorem ln_J34_init : (parseMethodDescriptor "(Ljava/util/ArrayDeque;)V").map (fun d => d.parameters.length) = some 1 := by decide +kernel
theorem ln_J7_iterator : (parseMethodDescriptor "()Ljava/util/Iterator;").map (fun d => d.parameters.length) = some 0 := by decide +kernel
theorem ln_J34_hasNext : (parseMethodDescriptor "()Z").map (fun d => d.parameters.length) = some 0 := by decide +kernel
theorem ln_J7_nonNullElementAt : (parseMethodDescriptor "([Ljava/lang/Object;I)Ljava/lang/Object;").map (fun d => d.parameters.length) = some 2 := by decide +kernel
theorem ln_J34_next : (parseMethodDescriptor "()Ljava/lang/Object;").map (fun d => d.parameters.length) = some 0 := by decide +kernel
theorem ln_J7_newCapacity : (parseMethodDescriptor "(II)I").map (fun d => d.parameters.length) = some 2 := by decide +kernel
theorem ln_J7_grow : (parseMethodDescriptor "(I)V").map (fun d => d.parameters.length) = some 1 := by decide +kernel
theorem ln_J7_addLast : (parseMethodDescriptor "(Ljava/lang/Object;)V").map (fun d => d.parameters.length) = some 1 := by decide +kernel
theorem ln_X1_copy : (parseMethodDescriptor "()LUnheardBells$Machine;").map (fun d => d.parameters.length) = some 0 := by decide +kernel
theorem ln_J7_circularClear : (parseMethodDescriptor "([Ljava/lang/Object;II)V").map (fun d => d.parameters.length) = some 3 := by decide +kernel
theorem ln_J7_clear : (parseMethodDescriptor "()V").map (fun d => d.parameters.length) = some 0 := by decide +kernel
theorem ln_J2_size : (parseMethodDescriptor "()I").map (fun d => d.parameters.length) = some 0 := by decide +kernel
theorem ln_X0_restore : (parseMethodDescriptor "()I").map (fun d => d.parameters.length) = some 0 := by decide +kernel
theorem ln_X3_lays : (parseMethodDescriptor "([I[I)V").map (fun d => d.parameters.length) = some 2 := by decide +kernel
theorem ln_X3_restore : (parseMethodDescriptor "()I").map (fun d => d.parameters.length) = some 0 := by decide +kernel
theorem ln_X0_save : (parseMethodDescriptor "()I").map (fun d => d.parameters.length) = some 0 := by decide +kernel
theorem ln_X3_save : (parseMethodDescriptor "()I").map (fun d => d.parameters.length) = some 0 := by decide +kernel
theorem ln_J7_dec : (parseMethodDescriptor "(II)I").map (fun d => d.parameters.length) = some 2 := by decide +kernel
theorem ln_J7_pollLast : (parseMethodDescriptor "()Ljava/lang/Object;").map (fun d => d.parameters.length) = some 0 := by decide +kernel
theorem ln_J7_removeLast : (parseMethodDescriptor "()Ljava/lang/Object;").map (fun d => d.parameters.length) = some 0 := by decide +kernel
theorem ln_X0_undo : (parseMethodDescriptor "()I").map (fun d => d.parameters.length) = some 0 := by decide +kernel
theorem ln_X3_undo : (parseMethodDescriptor "()I").map (fun d => d.parameters.length) = some 0 := by decide +kernel
theorem ln_X0_lambda_new_0 : (parseMethodDescriptor "(ILUnheardBells$Rope;)I").map (fun d => d.parameters.length) = some 2 := by decide +kernel
theorem ln_X1_all : (parseMethodDescriptor "(LUnheardBells$Count;)I").map (fun d => d.parameters.length) = some 1 := by decide +kernel
theorem ln_X0_answerShare : (parseMethodDescriptor "()F").map (fun d => d.parameters.length) = some 0 := by decide +kernel
theorem ln_X3_answerShare : (parseMethodDescriptor "()F").map (fun d => d.parameters.length) = some 0 := by decide +kernel
theorem ln_X1_rust : (parseMethodDescriptor "()I").map (fun d => d.parameters.length) = some 0 := by decide +kernel
theorem ln_X0_meanRust : (parseMethodDescriptor "()D").map (fun d => d.parameters.length) = some 0 := by decide +kernel
theorem ln_X3_at : (parseMethodDescriptor "(II)I").map (fun d => d.parameters.length) = some 2 := by decide +kernel
theorem ln_X3_rust : (parseMethodDescriptor "()I").map (fun d => d.parameters.length) = some 0 := by decide +kernel
theorem ln_X3_meanRust : (parseMethodDescriptor "()D").map (fun d => d.parameters.length) = some 0 := by decide +kernel
theorem ln_J4_size : (parseMethodDescriptor "()I").map (fun d => d.parameters.length) = some 0 := by decide +kernel
theorem ln_X1_counted : (parseMethodDescriptor "([LUnheardBells$Count;)I").map (fun d => d.parameters.length) = some 1 := by decide +kernel
theorem ln_J0_isEmpty : (parseMethodDescriptor "()Z").map (fun d => d.parameters.length) = some 0 := by decide +kernel
theorem ln_J4_siftDownUsingComparator : (parseMethodDescriptor "(ILjava/lang/Object;[Ljava/lang/Object;ILjava/util/Comparator;)V").map (fun d => d.parameters.length) = some 5 := by decide +kernel
theorem ln_J4_poll : (parseMethodDescriptor "()Ljava/lang/Object;").map (fun d => d.parameters.length) = some 0 := by decide +kernel
theorem ln_J14_checkIndex : (parseMethodDescriptor "(IILjava/util/function/BiFunction;)I").map (fun d => d.parameters.length) = some 3 := by decide +kernel
theorem ln_J13_checkIndex : (parseMethodDescriptor "(II)I").map (fun d => d.parameters.length) = some 2 := by decide +kernel
theorem ln_J2_elementData : (parseMethodDescriptor "(I)Ljava/lang/Object;").map (fun d => d.parameters.length) = some 1 := by decide +kernel
theorem ln_J2_get : (parseMethodDescriptor "(I)Ljava/lang/Object;").map (fun d => d.parameters.length) = some 1 := by decide +kernel
theorem ln_X1_answeredIn : (parseMethodDescriptor "(I)Ljava/util/BitSet;").map (fun d => d.parameters.length) = some 1 := by decide +kernel
theorem ln_J32_get : (parseMethodDescriptor "(I)Z").map (fun d => d.parameters.length) = some 1 := by decide +kernel
theorem ln_X4_wouldAnswer : (parseMethodDescriptor "(I)Z").map (fun d => d.parameters.length) = some 1 := by decide +kernel
theorem ln_X4_answers : (parseMethodDescriptor "()V").map (fun d => d.parameters.length) = some 0 := by decide +kernel
theorem ln_X7_init : (parseMethodDescriptor "(LUnheardBells$Pull;I)V").map (fun d => d.parameters.length) = some 2 := by decide +kernel
theorem ln_J7_addFirst : (parseMethodDescriptor "(Ljava/lang/Object;)V").map (fun d => d.parameters.length) = some 1 := by decide +kernel
theorem ln_J32_expandTo : (parseMethodDescriptor "(I)V").map (fun d => d.parameters.length) = some 1 := by decide +kernel
theorem ln_J32_set : (parseMethodDescriptor "(I)V").map (fun d => d.parameters.length) = some 1 := by decide +kernel
theorem ln_X1_remembers : (parseMethodDescriptor "(LUnheardBells$Pull;)V").map (fun d => d.parameters.length) = some 1 := by decide +kernel
theorem ln_X1_rings : (parseMethodDescriptor "()I").map (fun d => d.parameters.length) = some 0 := by decide +kernel
theorem ln_X1_forecast : (parseMethodDescriptor "()I").map (fun d => d.parameters.length) = some 0 := by decide +kernel
theorem ln_J35_init : (parseMethodDescriptor "()V").map (fun d => d.parameters.length) = some 0 := by decide +kernel
theorem ln_J36_init : (parseMethodDescriptor "()V").map (fun d => d.parameters.length) = some 0 := by decide +kernel
theorem ln_J37_init : (parseMethodDescriptor "(Ljava/util/LinkedList$Node;Ljava/lang/Object;Ljava/util/LinkedList$Node;)V").map (fun d => d.parameters.length) = some 3 := by decide +kernel
theorem ln_J36_linkLast : (parseMethodDescriptor "(Ljava/lang/Object;)V").map (fun d => d.parameters.length) = some 1 := by decide +kernel
theorem ln_J36_addLast : (parseMethodDescriptor "(Ljava/lang/Object;)V").map (fun d => d.parameters.length) = some 1 := by decide +kernel
theorem ln_X1_inOrder : (parseMethodDescriptor "()Ljava/util/LinkedList;").map (fun d => d.parameters.length) = some 0 := by decide +kernel
theorem ln_J36_isPositionIndex : (parseMethodDescriptor "(I)Z").map (fun d => d.parameters.length) = some 1 := by decide +kernel
theorem ln_J36_checkPositionIndex : (parseMethodDescriptor "(I)V").map (fun d => d.parameters.length) = some 1 := by decide +kernel
theorem ln_J36_node : (parseMethodDescriptor "(I)Ljava/util/LinkedList$Node;").map (fun d => d.parameters.length) = some 1 := by decide +kernel
theorem ln_J41_init : (parseMethodDescriptor "(Ljava/util/LinkedList;I)V").map (fun d => d.parameters.length) = some 2 := by decide +kernel
theorem ln_J36_listIterator : (parseMethodDescriptor "(I)Ljava/util/ListIterator;").map (fun d => d.parameters.length) = some 1 := by decide +kernel
theorem ln_J1_listIterator : (parseMethodDescriptor "()Ljava/util/ListIterator;").map (fun d => d.parameters.length) = some 0 := by decide +kernel
theorem ln_J35_iterator : (parseMethodDescriptor "()Ljava/util/Iterator;").map (fun d => d.parameters.length) = some 0 := by decide +kernel
theorem ln_J41_hasNext : (parseMethodDescriptor "()Z").map (fun d => d.parameters.length) = some 0 := by decide +kernel
theorem ln_J41_checkForComodification : (parseMethodDescriptor "()V").map (fun d => d.parameters.length) = some 0 := by decide +kernel
theorem ln_J41_next : (parseMethodDescriptor "()Ljava/lang/Object;").map (fun d => d.parameters.length) = some 0 := by decide +kernel
theorem ln_X1_forecastOf : (parseMethodDescriptor "(ILjava/util/LinkedList;)I").map (fun d => d.parameters.length) = some 2 := by decide +kernel
theorem ln_X1_forecastAgain : (parseMethodDescriptor "()I").map (fun d => d.parameters.length) = some 0 := by decide +kernel
theorem ln_X1_answeredOf : (parseMethodDescriptor "(II)I").map (fun d => d.parameters.length) = some 2 := by decide +kernel
theorem ln_X1_ropesOf : (parseMethodDescriptor "(I)I").map (fun d => d.parameters.length) = some 1 := by decide +kernel
theorem ln_X1_isMore : (parseMethodDescriptor "(IIII)Z").map (fun d => d.parameters.length) = some 4 := by decide +kernel
theorem ln_X1_guess : (parseMethodDescriptor "(I)I").map (fun d => d.parameters.length) = some 1 := by decide +kernel
theorem ln_J25_numberOfTrailingZeros : (parseMethodDescriptor "(I)I").map (fun d => d.parameters.length) = some 1 := by decide +kernel
theorem ln_J27_numberOfTrailingZeros : (parseMethodDescriptor "(J)I").map (fun d => d.parameters.length) = some 1 := by decide +kernel
theorem ln_J32_nextSetBit : (parseMethodDescriptor "(I)I").map (fun d => d.parameters.length) = some 1 := by decide +kernel
theorem ln_X1_guessAgain : (parseMethodDescriptor "(I)I").map (fun d => d.parameters.length) = some 1 := by decide +kernel
theorem ln_X1_isBalanced : (parseMethodDescriptor "([LUnheardBells$Count;)Z").map (fun d => d.parameters.length) = some 1 := by decide +kernel
theorem ln_X0_isBalanced : (parseMethodDescriptor "()I").map (fun d => d.parameters.length) = some 0 := by decide +kernel
theorem ln_X3_isBalanced : (parseMethodDescriptor "()I").map (fun d => d.parameters.length) = some 0 := by decide +kernel
theorem ln_J8_length : (parseMethodDescriptor "()I").map (fun d => d.parameters.length) = some 0 := by decide +kernel
theorem ln_J9_length : (parseMethodDescriptor "()I").map (fun d => d.parameters.length) = some 0 := by decide +kernel
theorem ln_X0_account : (parseMethodDescriptor "(I)I").map (fun d => d.parameters.length) = some 1 := by decide +kernel
theorem ln_X3_isIn : (parseMethodDescriptor "(III)Z").map (fun d => d.parameters.length) = some 3 := by decide +kernel
theorem ln_X3_account : (parseMethodDescriptor "(I)I").map (fun d => d.parameters.length) = some 1 := by decide +kernel
theorem ln_X0_reason : (parseMethodDescriptor "(Z)I").map (fun d => d.parameters.length) = some 1 := by decide +kernel
theorem ln_X3_reason : (parseMethodDescriptor "(Z)I").map (fun d => d.parameters.length) = some 1 := by decide +kernel
theorem ln_J10_coder : (parseMethodDescriptor "()B").map (fun d => d.parameters.length) = some 0 := by decide +kernel
theorem ln_J10_length : (parseMethodDescriptor "()I").map (fun d => d.parameters.length) = some 0 := by decide +kernel
theorem ln_X0_isIn : (parseMethodDescriptor "(III)Z").map (fun d => d.parameters.length) = some 3 := by decide +kernel
theorem ln_J10_isLatin1 : (parseMethodDescriptor "()Z").map (fun d => d.parameters.length) = some 0 := by decide +kernel
theorem ln_J10_checkIndex : (parseMethodDescriptor "(II)V").map (fun d => d.parameters.length) = some 2 := by decide +kernel
theorem ln_J22_charAt : (parseMethodDescriptor "([BI)C").map (fun d => d.parameters.length) = some 2 := by decide +kernel
theorem ln_J10_charAt : (parseMethodDescriptor "(I)C").map (fun d => d.parameters.length) = some 1 := by decide +kernel
theorem ln_X0_character : (parseMethodDescriptor "(I)I").map (fun d => d.parameters.length) = some 1 := by decide +kernel
theorem ln_X3_character : (parseMethodDescriptor "(I)I").map (fun d => d.parameters.length) = some 1 := by decide +kernel
theorem ln_J8_newCapacity : (parseMethodDescriptor "(I)I").map (fun d => d.parameters.length) = some 1 := by decide +kernel
theorem ln_J21_copyOf : (parseMethodDescriptor "([BI)[B").map (fun d => d.parameters.length) = some 2 := by decide +kernel
theorem ln_J8_ensureCapacityInternal : (parseMethodDescriptor "(I)V").map (fun d => d.parameters.length) = some 1 := by decide +kernel
theorem ln_J8_inflateIfNeededFor : (parseMethodDescriptor "(Ljava/lang/String;)V").map (fun d => d.parameters.length) = some 1 := by decide +kernel
theorem ln_J10_getBytes : (parseMethodDescriptor "([BIB)V").map (fun d => d.parameters.length) = some 3 := by decide +kernel
theorem ln_J8_putStringAt : (parseMethodDescriptor "(ILjava/lang/String;)V").map (fun d => d.parameters.length) = some 2 := by decide +kernel
theorem ln_J8_append : (parseMethodDescriptor "(Ljava/lang/String;)Ljava/lang/AbstractStringBuilder;").map (fun d => d.parameters.length) = some 1 := by decide +kernel
theorem ln_J9_append : (parseMethodDescriptor "(Ljava/lang/String;)Ljava/lang/StringBuilder;").map (fun d => d.parameters.length) = some 1 := by decide +kernel
theorem ln_J25_stringSize : (parseMethodDescriptor "(I)I").map (fun d => d.parameters.length) = some 1 := by decide +kernel
theorem ln_J8_isLatin1 : (parseMethodDescriptor "()Z").map (fun d => d.parameters.length) = some 0 := by decide +kernel
theorem ln_J25_getChars : (parseMethodDescriptor "(II[B)I").map (fun d => d.parameters.length) = some 3 := by decide +kernel
theorem ln_J8_append_3 : (parseMethodDescriptor "(I)Ljava/lang/AbstractStringBuilder;").map (fun d => d.parameters.length) = some 1 := by decide +kernel
theorem ln_J9_append_3 : (parseMethodDescriptor "(I)Ljava/lang/StringBuilder;").map (fun d => d.parameters.length) = some 1 := by decide +kernel
theorem ln_J22_canEncode : (parseMethodDescriptor "(C)Z").map (fun d => d.parameters.length) = some 1 := by decide +kernel
theorem ln_J8_append_2 : (parseMethodDescriptor "(C)Ljava/lang/AbstractStringBuilder;").map (fun d => d.parameters.length) = some 1 := by decide +kernel
theorem ln_J9_append_2 : (parseMethodDescriptor "(C)Ljava/lang/StringBuilder;").map (fun d => d.parameters.length) = some 1 := by decide +kernel
theorem ln_J8_getValue : (parseMethodDescriptor "()[B").map (fun d => d.parameters.length) = some 0 := by decide +kernel
theorem ln_J21_copyOfRangeByte : (parseMethodDescriptor "([BII)[B").map (fun d => d.parameters.length) = some 3 := by decide +kernel
theorem ln_J21_copyOfRange : (parseMethodDescriptor "([BII)[B").map (fun d => d.parameters.length) = some 3 := by decide +kernel
theorem ln_J10_init_2 : (parseMethodDescriptor "(Ljava/lang/AbstractStringBuilder;Ljava/lang/Void;)V").map (fun d => d.parameters.length) = some 2 := by decide +kernel
theorem ln_J10_init : (parseMethodDescriptor "(Ljava/lang/StringBuilder;)V").map (fun d => d.parameters.length) = some 1 := by decide +kernel
theorem ln_J9_toString : (parseMethodDescriptor "()Ljava/lang/String;").map (fun d => d.parameters.length) = some 0 := by decide +kernel
theorem ln_X1_dayText : (parseMethodDescriptor "()Ljava/lang/String;").map (fun d => d.parameters.length) = some 0 := by decide +kernel
theorem ln_X0_tellDay : (parseMethodDescriptor "()I").map (fun d => d.parameters.length) = some 0 := by decide +kernel
theorem ln_X3_writes : (parseMethodDescriptor "(I)V").map (fun d => d.parameters.length) = some 1 := by decide +kernel
theorem ln_X3_writesNumber : (parseMethodDescriptor "(I)V").map (fun d => d.parameters.length) = some 1 := by decide +kernel
theorem ln_X3_ropesOf : (parseMethodDescriptor "(II)I").map (fun d => d.parameters.length) = some 2 := by decide +kernel
theorem ln_X3_guessed : (parseMethodDescriptor "(I)I").map (fun d => d.parameters.length) = some 1 := by decide +kernel
theorem ln_X3_tellDay : (parseMethodDescriptor "()I").map (fun d => d.parameters.length) = some 0 := by decide +kernel
theorem ln_X1_isRope : (parseMethodDescriptor "(I)Z").map (fun d => d.parameters.length) = some 1 := by decide +kernel
theorem ln_X1_text : (parseMethodDescriptor "(I)Ljava/lang/String;").map (fun d => d.parameters.length) = some 1 := by decide +kernel
theorem ln_X0_tell : (parseMethodDescriptor "(I)I").map (fun d => d.parameters.length) = some 1 := by decide +kernel
theorem ln_X3_isRope : (parseMethodDescriptor "(I)Z").map (fun d => d.parameters.length) = some 1 := by decide +kernel
theorem ln_X3_pulled : (parseMethodDescriptor "(II)I").map (fun d => d.parameters.length) = some 2 := by decide +kernel
theorem ln_X3_tell : (parseMethodDescriptor "(I)I").map (fun d => d.parameters.length) = some 1 := by decide +kernel
theorem ln_X8_init : (parseMethodDescriptor "(LUnheardBells;)V").map (fun d => d.parameters.length) = some 1 := by decide +kernel
theorem ln_J8_charAt : (parseMethodDescriptor "(I)C").map (fun d => d.parameters.length) = some 1 := by decide +kernel
theorem ln_J9_charAt : (parseMethodDescriptor "(I)C").map (fun d => d.parameters.length) = some 1 := by decide +kernel
theorem ln_X8_here : (parseMethodDescriptor "()I").map (fun d => d.parameters.length) = some 0 := by decide +kernel
theorem ln_X8_isKind : (parseMethodDescriptor "(I)Z").map (fun d => d.parameters.length) = some 1 := by decide +kernel
theorem ln_J15_init_3 : (parseMethodDescriptor "(Ljava/lang/String;Ljava/lang/Throwable;ZZ)V").map (fun d => d.parameters.length) = some 4 := by decide +kernel
theorem ln_J16_init_2 : (parseMethodDescriptor "(Ljava/lang/String;Ljava/lang/Throwable;ZZ)V").map (fun d => d.parameters.length) = some 4 := by decide +kernel
theorem ln_X9_init : (parseMethodDescriptor "(I)V").map (fun d => d.parameters.length) = some 1 := by decide +kernel
theorem ln_X8_needs : (parseMethodDescriptor "(Z)V").map (fun d => d.parameters.length) = some 1 := by decide +kernel
theorem ln_X10_init : (parseMethodDescriptor "(I)V").map (fun d => d.parameters.length) = some 1 := by decide +kernel
theorem ln_X8_number : (parseMethodDescriptor "(I)I").map (fun d => d.parameters.length) = some 1 := by decide +kernel
theorem ln_X8_takes : (parseMethodDescriptor "(I)Z").map (fun d => d.parameters.length) = some 1 := by decide +kernel
theorem ln_X8_numberBehind : (parseMethodDescriptor "(II)I").map (fun d => d.parameters.length) = some 2 := by decide +kernel
theorem ln_X8_isOn : (parseMethodDescriptor "()I").map (fun d => d.parameters.length) = some 0 := by decide +kernel
theorem ln_X8_rest : (parseMethodDescriptor "(LUnheardBells$Command;)V").map (fun d => d.parameters.length) = some 1 := by decide +kernel
theorem ln_X8_command : (parseMethodDescriptor "()LUnheardBells$Command;").map (fun d => d.parameters.length) = some 0 := by decide +kernel
theorem ln_X8_commands : (parseMethodDescriptor "()Ljava/util/LinkedList;").map (fun d => d.parameters.length) = some 0 := by decide +kernel
theorem ln_J36_size : (parseMethodDescriptor "()I").map (fun d => d.parameters.length) = some 0 := by decide +kernel
theorem ln_J36_unlinkFirst : (parseMethodDescriptor "(Ljava/util/LinkedList$Node;)Ljava/lang/Object;").map (fun d => d.parameters.length) = some 1 := by decide +kernel
theorem ln_J36_removeFirst : (parseMethodDescriptor "()Ljava/lang/Object;").map (fun d => d.parameters.length) = some 0 := by decide +kernel
theorem ln_X0_isMuch : (parseMethodDescriptor "(I)Z").map (fun d => d.parameters.length) = some 1 := by decide +kernel
theorem ln_X5_init : (parseMethodDescriptor "(II)V").map (fun d => d.parameters.length) = some 2 := by decide +kernel
theorem ln_X0_refuse : (parseMethodDescriptor "(ZII)V").map (fun d => d.parameters.length) = some 3 := by decide +kernel
theorem ln_X1_oils : (parseMethodDescriptor "(II)I").map (fun d => d.parameters.length) = some 2 := by decide +kernel
theorem ln_X0_isParish : (parseMethodDescriptor "(I)Z").map (fun d => d.parameters.length) = some 1 := by decide +kernel
theorem ln_X1_moves : (parseMethodDescriptor "(II)I").map (fun d => d.parameters.length) = some 2 := by decide +kernel
theorem ln_X1_sensors : (parseMethodDescriptor "()I").map (fun d => d.parameters.length) = some 0 := by decide +kernel
theorem ln_X1_puts : (parseMethodDescriptor "(IZ)I").map (fun d => d.parameters.length) = some 2 := by decide +kernel
theorem ln_X0_isHour : (parseMethodDescriptor "(I)Z").map (fun d => d.parameters.length) = some 1 := by decide +kernel
theorem ln_X0_isStrength : (parseMethodDescriptor "(I)Z").map (fun d => d.parameters.length) = some 1 := by decide +kernel
theorem ln_X6_init : (parseMethodDescriptor "(IIII)V").map (fun d => d.parameters.length) = some 4 := by decide +kernel
theorem ln_X1_waits : (parseMethodDescriptor "(III)I").map (fun d => d.parameters.length) = some 3 := by decide +kernel
theorem ln_X1_waitingOf : (parseMethodDescriptor "(I)I").map (fun d => d.parameters.length) = some 1 := by decide +kernel
theorem ln_J4_clear : (parseMethodDescriptor "()V").map (fun d => d.parameters.length) = some 0 := by decide +kernel
theorem ln_X1_cancels : (parseMethodDescriptor "(I)I").map (fun d => d.parameters.length) = some 1 := by decide +kernel
theorem ln_X10_isOfRope : (parseMethodDescriptor "(LUnheardBells$Machine;)Z").map (fun d => d.parameters.length) = some 1 := by decide +kernel
theorem ln_X1_brings : (parseMethodDescriptor "(I)I").map (fun d => d.parameters.length) = some 1 := by decide +kernel
theorem ln_X1_ringsNext : (parseMethodDescriptor "()I").map (fun d => d.parameters.length) = some 0 := by decide +kernel
theorem ln_J4_peek : (parseMethodDescriptor "()Ljava/lang/Object;").map (fun d => d.parameters.length) = some 0 := by decide +kernel
theorem ln_X1_ringsHour : (parseMethodDescriptor "()I").map (fun d => d.parameters.length) = some 0 := by decide +kernel
theorem ln_J38_init : (parseMethodDescriptor "(Ljava/util/TreeMap;)V").map (fun d => d.parameters.length) = some 1 := by decide +kernel
theorem ln_J6_values : (parseMethodDescriptor "()Ljava/util/Collection;").map (fun d => d.parameters.length) = some 0 := by decide +kernel
theorem ln_J42_init : (parseMethodDescriptor "(Ljava/util/TreeMap;Ljava/util/TreeMap$Entry;)V").map (fun d => d.parameters.length) = some 2 := by decide +kernel
theorem ln_J38_iterator : (parseMethodDescriptor "()Ljava/util/Iterator;").map (fun d => d.parameters.length) = some 0 := by decide +kernel
theorem ln_J42_next : (parseMethodDescriptor "()Ljava/lang/Object;").map (fun d => d.parameters.length) = some 0 := by decide +kernel
theorem ln_X1_answeredToday : (parseMethodDescriptor "()Ljava/util/BitSet;").map (fun d => d.parameters.length) = some 0 := by decide +kernel
theorem ln_X4_rests : (parseMethodDescriptor "()V").map (fun d => d.parameters.length) = some 0 := by decide +kernel
theorem ln_J6_clear : (parseMethodDescriptor "()V").map (fun d => d.parameters.length) = some 0 := by decide +kernel
theorem ln_X1_ends : (parseMethodDescriptor "()I").map (fun d => d.parameters.length) = some 0 := by decide +kernel
theorem ln_X10_isDone : (parseMethodDescriptor "(LUnheardBells$Machine;)Z").map (fun d => d.parameters.length) = some 1 := by decide +kernel
theorem ln_X10_isCarriedOut : (parseMethodDescriptor "(LUnheardBells$Machine;)Z").map (fun d => d.parameters.length) = some 1 := by decide +kernel
theorem ln_X0_refused : (parseMethodDescriptor "(LUnheardBells$Refused;)I").map (fun d => d.parameters.length) = some 1 := by decide +kernel
theorem ln_J21_rangeCheck : (parseMethodDescriptor "(III)V").map (fun d => d.parameters.length) = some 3 := by decide +kernel
theorem ln_J21_fill : (parseMethodDescriptor "([BIIB)V").map (fun d => d.parameters.length) = some 4 := by decide +kernel
theorem ln_J22_fillNull : (parseMethodDescriptor "([BII)V").map (fun d => d.parameters.length) = some 3 := by decide +kernel
theorem ln_J8_setLength : (parseMethodDescriptor "(I)V").map (fun d => d.parameters.length) = some 1 := by decide +kernel
theorem ln_J9_setLength : (parseMethodDescriptor "(I)V").map (fun d => d.parameters.length) = some 1 := by decide +kernel
theorem ln_J7_removeFirst : (parseMethodDescriptor "()Ljava/lang/Object;").map (fun d => d.parameters.length) = some 0 := by decide +kernel
theorem ln_X0_changed : (parseMethodDescriptor "(LUnheardBells$Machine;I)I").map (fun d => d.parameters.length) = some 2 := by decide +kernel
theorem ln_X0_run : (parseMethodDescriptor "()I").map (fun d => d.parameters.length) = some 0 := by decide +kernel
theorem ln_X3_begins : (parseMethodDescriptor "()V").map (fun d => d.parameters.length) = some 0 := by decide +kernel
theorem ln_X3_sign : (parseMethodDescriptor "()I").map (fun d => d.parameters.length) = some 0 := by decide +kernel
theorem ln_X3_isKnown : (parseMethodDescriptor "(I)Z").map (fun d => d.parameters.length) = some 1 := by decide +kernel
theorem ln_X3_digits : (parseMethodDescriptor "(I)I").map (fun d => d.parameters.length) = some 1 := by decide +kernel
theorem ln_X3_mark : (parseMethodDescriptor "(I)V").map (fun d => d.parameters.length) = some 1 := by decide +kernel
theorem ln_X3_behind : (parseMethodDescriptor "(II)I").map (fun d => d.parameters.length) = some 2 := by decide +kernel
theorem ln_X3_plus : (parseMethodDescriptor "()I").map (fun d => d.parameters.length) = some 0 := by decide +kernel
theorem ln_X3_fail : (parseMethodDescriptor "(I)I").map (fun d => d.parameters.length) = some 1 := by decide +kernel
theorem ln_X3_isParish : (parseMethodDescriptor "(I)Z").map (fun d => d.parameters.length) = some 1 := by decide +kernel
theorem ln_X3_refuses : (parseMethodDescriptor "(II)I").map (fun d => d.parameters.length) = some 2 := by decide +kernel
theorem ln_X3_sets : (parseMethodDescriptor "(II)I").map (fun d => d.parameters.length) = some 2 := by decide +kernel
theorem ln_X3_moves : (parseMethodDescriptor "(II)I").map (fun d => d.parameters.length) = some 2 := by decide +kernel
theorem ln_X3_switches : (parseMethodDescriptor "(II)I").map (fun d => d.parameters.length) = some 2 := by decide +kernel
theorem ln_X3_comes : (parseMethodDescriptor "(I)I").map (fun d => d.parameters.length) = some 1 := by decide +kernel
theorem ln_X3_isAhead : (parseMethodDescriptor "(IIII)Z").map (fun d => d.parameters.length) = some 4 := by decide +kernel
theorem ln_X3_waits : (parseMethodDescriptor "(III)I").map (fun d => d.parameters.length) = some 3 := by decide +kernel
theorem ln_X3_oils : (parseMethodDescriptor "(II)I").map (fun d => d.parameters.length) = some 2 := by decide +kernel
theorem ln_X3_goes : (parseMethodDescriptor "(I)V").map (fun d => d.parameters.length) = some 1 := by decide +kernel
theorem ln_X3_isHeard : (parseMethodDescriptor "(II)Z").map (fun d => d.parameters.length) = some 2 := by decide +kernel
theorem ln_X3_answers : (parseMethodDescriptor "(III)V").map (fun d => d.parameters.length) = some 3 := by decide +kernel
theorem ln_X3_ringsNext : (parseMethodDescriptor "()I").map (fun d => d.parameters.length) = some 0 := by decide +kernel
theorem ln_X3_rings : (parseMethodDescriptor "()I").map (fun d => d.parameters.length) = some 0 := by decide +kernel
theorem ln_X3_hours : (parseMethodDescriptor "()I").map (fun d => d.parameters.length) = some 0 := by decide +kernel
theorem ln_X3_endsDay : (parseMethodDescriptor "()I").map (fun d => d.parameters.length) = some 0 := by decide +kernel
theorem ln_X3_waitingOf : (parseMethodDescriptor "(I)I").map (fun d => d.parameters.length) = some 1 := by decide +kernel
theorem ln_X3_cancels : (parseMethodDescriptor "(I)I").map (fun d => d.parameters.length) = some 1 := by decide +kernel
theorem ln_X3_does : (parseMethodDescriptor "(IIII)I").map (fun d => d.parameters.length) = some 4 := by decide +kernel
theorem ln_X3_order : (parseMethodDescriptor "()V").map (fun d => d.parameters.length) = some 0 := by decide +kernel
theorem ln_X3_orders : (parseMethodDescriptor "()I").map (fun d => d.parameters.length) = some 0 := by decide +kernel
theorem ln_X3_ends : (parseMethodDescriptor "(I)I").map (fun d => d.parameters.length) = some 1 := by decide +kernel
theorem ln_X3_run : (parseMethodDescriptor "()I").map (fun d => d.parameters.length) = some 0 := by decide +kernel
theorem ln_X0_append : (parseMethodDescriptor "(I)I").map (fun d => d.parameters.length) = some 1 := by decide +kernel
theorem ln_X3_append : (parseMethodDescriptor "(I)I").map (fun d => d.parameters.length) = some 1 := by decide +kernel
theorem ln_X1_answersOf : (parseMethodDescriptor "(I)I").map (fun d => d.parameters.length) = some 1 := by decide +kernel
theorem ln_X1_isAhead : (parseMethodDescriptor "(II)Z").map (fun d => d.parameters.length) = some 2 := by decide +kernel
theorem ln_X1_ranked : (parseMethodDescriptor "(I)I").map (fun d => d.parameters.length) = some 1 := by decide +kernel
theorem ln_X0_ranked : (parseMethodDescriptor "(I)I").map (fun d => d.parameters.length) = some 1 := by decide +kernel
theorem ln_X3_sum : (parseMethodDescriptor "(II)I").map (fun d => d.parameters.length) = some 2 := by decide +kernel
theorem ln_X3_ranked : (parseMethodDescriptor "(I)I").map (fun d => d.parameters.length) = some 1 := by decide +kernel
theorem ln_X1_isRustier : (parseMethodDescriptor "(II)Z").map (fun d => d.parameters.length) = some 2 := by decide +kernel
theorem ln_X1_rustiest : (parseMethodDescriptor "(I)I").map (fun d => d.parameters.length) = some 1 := by decide +kernel
theorem ln_X0_rustiest : (parseMethodDescriptor "(I)I").map (fun d => d.parameters.length) = some 1 := by decide +kernel
theorem ln_X3_rustiest : (parseMethodDescriptor "(I)I").map (fun d => d.parameters.length) = some 1 := by decide +kernel
theorem ln_J27_bitCount : (parseMethodDescriptor "(J)I").map (fun d => d.parameters.length) = some 1 := by decide +kernel
theorem ln_J32_cardinality : (parseMethodDescriptor "()I").map (fun d => d.parameters.length) = some 0 := by decide +kernel
theorem ln_X1_busiest : (parseMethodDescriptor "()I").map (fun d => d.parameters.length) = some 0 := by decide +kernel
theorem ln_X0_busiest : (parseMethodDescriptor "()I").map (fun d => d.parameters.length) = some 0 := by decide +kernel
theorem ln_X3_bits : (parseMethodDescriptor "(I)I").map (fun d => d.parameters.length) = some 1 := by decide +kernel
theorem ln_X3_busiest : (parseMethodDescriptor "()I").map (fun d => d.parameters.length) = some 0 := by decide +kernel
theorem ln_X1_waitingIn : (parseMethodDescriptor "(I)I").map (fun d => d.parameters.length) = some 1 := by decide +kernel
theorem ln_X1_guessed : (parseMethodDescriptor "(I)I").map (fun d => d.parameters.length) = some 1 := by decide +kernel
theorem ln_X1_rustOf : (parseMethodDescriptor "(I)I").map (fun d => d.parameters.length) = some 1 := by decide +kernel
theorem ln_X1_ofParish : (parseMethodDescriptor "(II)I").map (fun d => d.parameters.length) = some 2 := by decide +kernel
theorem ln_X0_parishOf : (parseMethodDescriptor "(II)I").map (fun d => d.parameters.length) = some 2 := by decide +kernel
theorem ln_X3_hoursOf : (parseMethodDescriptor "(I)I").map (fun d => d.parameters.length) = some 1 := by decide +kernel
theorem ln_X3_parishOf : (parseMethodDescriptor "(II)I").map (fun d => d.parameters.length) = some 2 := by decide +kernel
theorem ln_X0_guessAgain : (parseMethodDescriptor "(I)I").map (fun d => d.parameters.length) = some 1 := by decide +kernel
theorem ln_X3_isHour : (parseMethodDescriptor "(I)Z").map (fun d => d.parameters.length) = some 1 := by decide +kernel
theorem ln_X3_guess : (parseMethodDescriptor "(I)I").map (fun d => d.parameters.length) = some 1 := by decide +kernel
theorem ln_X3_guessAgain : (parseMethodDescriptor "(I)I").map (fun d => d.parameters.length) = some 1 := by decide +kernel
theorem ln_X0_guess : (parseMethodDescriptor "(I)I").map (fun d => d.parameters.length) = some 1 := by decide +kernel
theorem ln_X1_setOf : (parseMethodDescriptor "(I)I").map (fun d => d.parameters.length) = some 1 := by decide +kernel
theorem ln_X0_answered : (parseMethodDescriptor "(I)I").map (fun d => d.parameters.length) = some 1 := by decide +kernel
theorem ln_X3_answered : (parseMethodDescriptor "(I)I").map (fun d => d.parameters.length) = some 1 := by decide +kernel
theorem ln_X7_of : (parseMethodDescriptor "(I)I").map (fun d => d.parameters.length) = some 1 := by decide +kernel
theorem ln_X1_ofAnswer : (parseMethodDescriptor "(II)I").map (fun d => d.parameters.length) = some 2 := by decide +kernel
theorem ln_X0_answerOf : (parseMethodDescriptor "(II)I").map (fun d => d.parameters.length) = some 2 := by decide +kernel
theorem ln_X3_answerOf : (parseMethodDescriptor "(II)I").map (fun d => d.parameters.length) = some 2 := by decide +kernel
theorem ln_X0_forecastAgain : (parseMethodDescriptor "()I").map (fun d => d.parameters.length) = some 0 := by decide +kernel
theorem ln_X3_forecast : (parseMethodDescriptor "()I").map (fun d => d.parameters.length) = some 0 := by decide +kernel
theorem ln_X3_forecastAgain : (parseMethodDescriptor "()I").map (fun d => d.parameters.length) = some 0 := by decide +kernel
theorem ln_X0_forecast : (parseMethodDescriptor "()I").map (fun d => d.parameters.length) = some 0 := by decide +kernel
theorem ln_X0_would : (parseMethodDescriptor "(II)I").map (fun d => d.parameters.length) = some 2 := by decide +kernel
theorem ln_X3_would : (parseMethodDescriptor "(II)I").map (fun d => d.parameters.length) = some 2 := by decide +kernel
theorem ln_J36_isElementIndex : (parseMethodDescriptor "(I)Z").map (fun d => d.parameters.length) = some 1 := by decide +kernel
theorem ln_J36_checkElementIndex : (parseMethodDescriptor "(I)V").map (fun d => d.parameters.length) = some 1 := by decide +kernel
theorem ln_J36_get : (parseMethodDescriptor "(I)Ljava/lang/Object;").map (fun d => d.parameters.length) = some 1 := by decide +kernel
theorem ln_X6_of : (parseMethodDescriptor "(I)I").map (fun d => d.parameters.length) = some 1 := by decide +kernel
theorem ln_X0_waiting : (parseMethodDescriptor "(II)I").map (fun d => d.parameters.length) = some 2 := by decide +kernel
theorem ln_X3_waiting : (parseMethodDescriptor "(II)I").map (fun d => d.parameters.length) = some 2 := by decide +kernel
theorem ln_X0_end : (parseMethodDescriptor "()I").map (fun d => d.parameters.length) = some 0 := by decide +kernel
theorem ln_X3_end : (parseMethodDescriptor "()I").map (fun d => d.parameters.length) = some 0 := by decide +kernel
theorem ln_X0_hour : (parseMethodDescriptor "()I").map (fun d => d.parameters.length) = some 0 := by decide +kernel
theorem ln_X3_hour : (parseMethodDescriptor "()I").map (fun d => d.parameters.length) = some 0 := by decide +kernel
theorem ln_X0_ring : (parseMethodDescriptor "()I").map (fun d => d.parameters.length) = some 0 := by decide +kernel
theorem ln_X3_ring : (parseMethodDescriptor "()I").map (fun d => d.parameters.length) = some 0 := by decide +kernel
theorem ln_X0_cancel : (parseMethodDescriptor "(I)I").map (fun d => d.parameters.length) = some 1 := by decide +kernel
theorem ln_X3_cancel : (parseMethodDescriptor "(I)I").map (fun d => d.parameters.length) = some 1 := by decide +kernel
theorem ln_X0_pull : (parseMethodDescriptor "(III)I").map (fun d => d.parameters.length) = some 3 := by decide +kernel
theorem ln_X3_pull : (parseMethodDescriptor "(III)I").map (fun d => d.parameters.length) = some 3 := by decide +kernel
theorem ln_X1_ofRope : (parseMethodDescriptor "(II)I").map (fun d => d.parameters.length) = some 2 := by decide +kernel
theorem ln_X0_ropeOf : (parseMethodDescriptor "(II)I").map (fun d => d.parameters.length) = some 2 := by decide +kernel
theorem ln_X3_ropeOf : (parseMethodDescriptor "(II)I").map (fun d => d.parameters.length) = some 2 := by decide +kernel
theorem ln_X0_oil : (parseMethodDescriptor "(II)I").map (fun d => d.parameters.length) = some 2 := by decide +kernel
theorem ln_X3_oil : (parseMethodDescriptor "(II)I").map (fun d => d.parameters.length) = some 2 := by decide +kernel
theorem ln_X0_sensor : (parseMethodDescriptor "(II)I").map (fun d => d.parameters.length) = some 2 := by decide +kernel
theorem ln_X3_sensor : (parseMethodDescriptor "(II)I").map (fun d => d.parameters.length) = some 2 := by decide +kernel
theorem ln_X0_move : (parseMethodDescriptor "(II)I").map (fun d => d.parameters.length) = some 2 := by decide +kernel
theorem ln_X3_move : (parseMethodDescriptor "(II)I").map (fun d => d.parameters.length) = some 2 := by decide +kernel
theorem ln_X0_rope : (parseMethodDescriptor "(I)I").map (fun d => d.parameters.length) = some 1 := by decide +kernel
theorem ln_X3_rope : (parseMethodDescriptor "(I)I").map (fun d => d.parameters.length) = some 1 := by decide +kernel
theorem ln_L_law : (parseMethodDescriptor "([I)Z").map (fun d => d.parameters.length) = some 1 := by decide +kernel
theorem ln_x0 : (parseMethodDescriptor "(Ljava/lang/Object;Ljava/lang/Object;)I").map (fun d => d.parameters.length) = some 2 := by decide +kernel
theorem ln_x1 : (parseMethodDescriptor "()Ljava/util/TreeMap$Entry;").map (fun d => d.parameters.length) = some 0 := by decide +kernel
theorem ln_x2 : (parseMethodDescriptor "(Ljava/lang/Object;)I").map (fun d => d.parameters.length) = some 1 := by decide +kernel
theorem ln_x3 : (parseMethodDescriptor "()Z").map (fun d => d.parameters.length) = some 0 := by decide +kernel
theorem ln_x4 : (parseMethodDescriptor "()Ljava/lang/Object;").map (fun d => d.parameters.length) = some 0 := by decide +kernel
theorem ln_x5 : (parseMethodDescriptor "()Ljava/util/Iterator;").map (fun d => d.parameters.length) = some 0 := by decide +kernel
theorem ln_x6 : (parseMethodDescriptor "()I").map (fun d => d.parameters.length) = some 0 := by decide +kernel
theorem ln_x7 : (parseMethodDescriptor "()Z").map (fun d => d.parameters.length) = some 0 := by decide +kernel
theorem ln_x8 : (parseMethodDescriptor "(I)Ljava/util/ListIterator;").map (fun d => d.parameters.length) = some 1 := by decide +kernel
theorem ln_x9 : (parseMethodDescriptor "()Ljava/util/ListIterator;").map (fun d => d.parameters.length) = some 0 := by decide +kernel
theorem ln_x10 : (parseMethodDescriptor "()Ljava/util/Iterator;").map (fun d => d.parameters.length) = some 0 := by decide +kernel
theorem ln_x14 : (parseMethodDescriptor "()Z").map (fun d => d.parameters.length) = some 0 := by decide +kernel
theorem ln_x15 : (parseMethodDescriptor "()Ljava/util/TreeMap$Entry;").map (fun d => d.parameters.length) = some 0 := by decide +kernel
theorem ln_x16 : (parseMethodDescriptor "()Ljava/util/Iterator;").map (fun d => d.parameters.length) = some 0 := by decide +kernel
def i_J0_init__J2 : JI := (⟨"java/util/AbstractCollection", "<init>", "()V"⟩, cJ0_init, 1, (Option.none : Option Jvm.ClassFile.FieldType), none, 1)
def i_J1_init__J2 : JI := (⟨"java/util/AbstractList", "<init>", "()V"⟩, cJ1_init, 1, (Option.none : Option Jvm.ClassFile.FieldType), none, 2)
def i_J2_init : JI := (⟨"java/util/ArrayList", "<init>", "(I)V"⟩, cJ2_init, 2, (Option.none : Option Jvm.ClassFile.FieldType), none, 3)
def i_X2_init : JI := (⟨"UnheardBells$InOrder", "<init>", "()V"⟩, cX2_init, 1, (Option.none : Option Jvm.ClassFile.FieldType), none, 1)
def i_J0_init__J4 : JI := (⟨"java/util/AbstractCollection", "<init>", "()V"⟩, cJ0_init, 1, (Option.none : Option Jvm.ClassFile.FieldType), none, 1)
def i_J3_init__J4 : JI := (⟨"java/util/AbstractQueue", "<init>", "()V"⟩, cJ3_init, 1, (Option.none : Option Jvm.ClassFile.FieldType), none, 2)
def i_J4_init_2 : JI := (⟨"java/util/PriorityQueue", "<init>", "(ILjava/util/Comparator;)V"⟩, cJ4_init_2, 3, (Option.none : Option Jvm.ClassFile.FieldType), none, 3)
def i_J4_init : JI := (⟨"java/util/PriorityQueue", "<init>", "(Ljava/util/Comparator;)V"⟩, cJ4_init, 2, (Option.none : Option Jvm.ClassFile.FieldType), none, 4)
def i_J5_init__J6 : JI := (⟨"java/util/AbstractMap", "<init>", "()V"⟩, cJ5_init, 1, (Option.none : Option Jvm.ClassFile.FieldType), none, 1)
def i_J6_init : JI := (⟨"java/util/TreeMap", "<init>", "()V"⟩, cJ6_init, 1, (Option.none : Option Jvm.ClassFile.FieldType), none, 2)
def i_J0_init__J7 : JI := (⟨"java/util/AbstractCollection", "<init>", "()V"⟩, cJ0_init, 1, (Option.none : Option Jvm.ClassFile.FieldType), none, 1)
def i_J7_init : JI := (⟨"java/util/ArrayDeque", "<init>", "()V"⟩, cJ7_init, 1, (Option.none : Option Jvm.ClassFile.FieldType), none, 2)
def i_X1_init : JI := (⟨"UnheardBells$Machine", "<init>", "()V"⟩, cX1_init, 1, (Option.none : Option Jvm.ClassFile.FieldType), none, 5)
def i_J8_init__J9 : JI := (⟨"java/lang/AbstractStringBuilder", "<init>", "(I)V"⟩, cJ8_init, 2, (Option.none : Option Jvm.ClassFile.FieldType), none, 1)
def i_J9_init : JI := (⟨"java/lang/StringBuilder", "<init>", "()V"⟩, cJ9_init, 1, (Option.none : Option Jvm.ClassFile.FieldType), none, 2)
def i_X0_init : JI := (⟨"UnheardBells", "<init>", "()V"⟩, cX0_init, 3, (Option.none : Option Jvm.ClassFile.FieldType), none, 20)
def i_X3_init : JI := (⟨"UnheardBellsModel", "<init>", "()V"⟩, cX3_init, 1, (Option.none : Option Jvm.ClassFile.FieldType), none, 1)
def i_J12_init : JI := (⟨"java/util/ArrayList$Itr", "<init>", "(Ljava/util/ArrayList;)V"⟩, cJ12_init, 2, (Option.none : Option Jvm.ClassFile.FieldType), none, 1)
def i_J2_iterator : JI := (⟨"java/util/ArrayList", "iterator", "()Ljava/util/Iterator;"⟩, cJ2_iterator, 1, (Option.some (Jvm.ClassFile.FieldType.object "java/util/Iterator")), none, 2)
def i_J12_hasNext : JI := (⟨"java/util/ArrayList$Itr", "hasNext", "()Z"⟩, cJ12_hasNext, 1, (Option.some Jvm.ClassFile.FieldType.boolean), none, 0)
def i_J12_checkForComodification : JI := (⟨"java/util/ArrayList$Itr", "checkForComodification", "()V"⟩, cJ12_checkForComodification, 1, (Option.none : Option Jvm.ClassFile.FieldType), none, 0)
def i_J12_next : JI := (⟨"java/util/ArrayList$Itr", "next", "()Ljava/lang/Object;"⟩, cJ12_next, 3, (Option.some (Jvm.ClassFile.FieldType.object "java/lang/Object")), none, 1)
def i_X4_init : JI := (⟨"UnheardBells$Rope", "<init>", "(I)V"⟩, cX4_init, 2, (Option.none : Option Jvm.ClassFile.FieldType), none, 1)
def i_X4_copy : JI := (⟨"UnheardBells$Rope", "copy", "()LUnheardBells$Rope;"⟩, cX4_copy, 2, (Option.some (Jvm.ClassFile.FieldType.object "UnheardBells$Rope")), none, 2)
def i_J2_add_2 : JI := (⟨"java/util/ArrayList", "add", "(Ljava/lang/Object;[Ljava/lang/Object;I)V"⟩, cJ2_add_2, 4, (Option.none : Option Jvm.ClassFile.FieldType), none, 0)
def i_J2_add : JI := (⟨"java/util/ArrayList", "add", "(Ljava/lang/Object;)Z"⟩, cJ2_add, 2, (Option.some Jvm.ClassFile.FieldType.boolean), none, 1)
def i_J23_init : JI := (⟨"java/util/PriorityQueue$Itr", "<init>", "(Ljava/util/PriorityQueue;)V"⟩, cJ23_init, 2, (Option.none : Option Jvm.ClassFile.FieldType), none, 1)
def i_J4_iterator : JI := (⟨"java/util/PriorityQueue", "iterator", "()Ljava/util/Iterator;"⟩, cJ4_iterator, 1, (Option.some (Jvm.ClassFile.FieldType.object "java/util/Iterator")), none, 2)
def i_J7_isEmpty : JI := (⟨"java/util/ArrayDeque", "isEmpty", "()Z"⟩, cJ7_isEmpty, 1, (Option.some Jvm.ClassFile.FieldType.boolean), none, 0)
def i_J23_hasNext : JI := (⟨"java/util/PriorityQueue$Itr", "hasNext", "()Z"⟩, cJ23_hasNext, 1, (Option.some Jvm.ClassFile.FieldType.boolean), none, 1)
def i_J7_elementAt : JI := (⟨"java/util/ArrayDeque", "elementAt", "([Ljava/lang/Object;I)Ljava/lang/Object;"⟩, cJ7_elementAt, 2, (Option.some (Jvm.ClassFile.FieldType.object "java/lang/Object")), none, 0)
def i_J7_inc : JI := (⟨"java/util/ArrayDeque", "inc", "(II)I"⟩, cJ7_inc, 2, (Option.some Jvm.ClassFile.FieldType.int), none, 0)
def i_J7_pollFirst : JI := (⟨"java/util/ArrayDeque", "pollFirst", "()Ljava/lang/Object;"⟩, cJ7_pollFirst, 4, (Option.some (Jvm.ClassFile.FieldType.object "java/lang/Object")), none, 1)
def i_J7_poll : JI := (⟨"java/util/ArrayDeque", "poll", "()Ljava/lang/Object;"⟩, cJ7_poll, 1, (Option.some (Jvm.ClassFile.FieldType.object "java/lang/Object")), none, 2)
def i_J23_next : JI := (⟨"java/util/PriorityQueue$Itr", "next", "()Ljava/lang/Object;"⟩, cJ23_next, 1, (Option.some (Jvm.ClassFile.FieldType.object "java/lang/Object")), none, 3)
def i_J20_max : JI := (⟨"java/lang/Math", "max", "(II)I"⟩, cJ20_max, 2, (Option.some Jvm.ClassFile.FieldType.int), none, 0)
def i_J19_newLength : JI := (⟨"jdk/internal/util/ArraysSupport", "newLength", "(III)I"⟩, cJ19_newLength, 4, (Option.some Jvm.ClassFile.FieldType.int), none, 1)
def i_J20_min : JI := (⟨"java/lang/Math", "min", "(II)I"⟩, cJ20_min, 2, (Option.some Jvm.ClassFile.FieldType.int), none, 0)
def i_J21_copyOf_3 : JI := (⟨"java/util/Arrays", "copyOf", "([Ljava/lang/Object;ILjava/lang/Class;)[Ljava/lang/Object;"⟩, cJ21_copyOf_3, 4, (Option.some (Jvm.ClassFile.FieldType.array (Jvm.ClassFile.FieldType.object "java/lang/Object"))), none, 1)
def i_J21_copyOf_2 : JI := (⟨"java/util/Arrays", "copyOf", "([Ljava/lang/Object;I)[Ljava/lang/Object;"⟩, cJ21_copyOf_2, 2, (Option.some (Jvm.ClassFile.FieldType.array (Jvm.ClassFile.FieldType.object "java/lang/Object"))), none, 2)
def i_J4_grow : JI := (⟨"java/util/PriorityQueue", "grow", "(I)V"⟩, cJ4_grow, 4, (Option.none : Option Jvm.ClassFile.FieldType), none, 3)
def i_X2_compare_2 : JI := (⟨"UnheardBells$InOrder", "compare", "(LUnheardBells$Pull;LUnheardBells$Pull;)I"⟩, cX2_compare_2, 3, (Option.some Jvm.ClassFile.FieldType.int), none, 0)
def i_X2_compare : JI := (⟨"UnheardBells$InOrder", "compare", "(Ljava/lang/Object;Ljava/lang/Object;)I"⟩, cX2_compare, 3, (Option.some Jvm.ClassFile.FieldType.int), none, 1)
def i_J4_siftUpUsingComparator : JI := (⟨"java/util/PriorityQueue", "siftUpUsingComparator", "(ILjava/lang/Object;[Ljava/lang/Object;Ljava/util/Comparator;)V"⟩, cJ4_siftUpUsingComparator, 6, (Option.none : Option Jvm.ClassFile.FieldType), none, 2)
def i_J4_siftUp : JI := (⟨"java/util/PriorityQueue", "siftUp", "(ILjava/lang/Object;)V"⟩, cJ4_siftUp, 3, (Option.none : Option Jvm.ClassFile.FieldType), none, 3)
def i_J4_offer : JI := (⟨"java/util/PriorityQueue", "offer", "(Ljava/lang/Object;)Z"⟩, cJ4_offer, 3, (Option.some Jvm.ClassFile.FieldType.boolean), none, 4)
def i_J4_add : JI := (⟨"java/util/PriorityQueue", "add", "(Ljava/lang/Object;)Z"⟩, cJ4_add, 2, (Option.some Jvm.ClassFile.FieldType.boolean), none, 5)
def i_J0_init__J29 : JI := (⟨"java/util/AbstractCollection", "<init>", "()V"⟩, cJ0_init, 1, (Option.none : Option Jvm.ClassFile.FieldType), none, 1)
def i_J28_init__J29 : JI := (⟨"java/util/AbstractSet", "<init>", "()V"⟩, cJ28_init, 1, (Option.none : Option Jvm.ClassFile.FieldType), none, 2)
def i_J29_init : JI := (⟨"java/util/TreeMap$KeySet", "<init>", "(Ljava/util/NavigableMap;)V"⟩, cJ29_init, 2, (Option.none : Option Jvm.ClassFile.FieldType), none, 3)
def i_J6_navigableKeySet : JI := (⟨"java/util/TreeMap", "navigableKeySet", "()Ljava/util/NavigableSet;"⟩, cJ6_navigableKeySet, 2, (Option.some (Jvm.ClassFile.FieldType.object "java/util/NavigableSet")), none, 4)
def i_J6_keySet : JI := (⟨"java/util/TreeMap", "keySet", "()Ljava/util/Set;"⟩, cJ6_keySet, 1, (Option.some (Jvm.ClassFile.FieldType.object "java/util/Set")), none, 5)
def i_J6_getFirstEntry : JI := (⟨"java/util/TreeMap", "getFirstEntry", "()Ljava/util/TreeMap$Entry;"⟩, cJ6_getFirstEntry, 2, (Option.some (Jvm.ClassFile.FieldType.object "java/util/TreeMap$Entry")), none, 0)
def i_J30_init__J31 : JI := (⟨"java/util/TreeMap$PrivateEntryIterator", "<init>", "(Ljava/util/TreeMap;Ljava/util/TreeMap$Entry;)V"⟩, cJ30_init, 3, (Option.none : Option Jvm.ClassFile.FieldType), none, 1)
def i_J31_init : JI := (⟨"java/util/TreeMap$KeyIterator", "<init>", "(Ljava/util/TreeMap;Ljava/util/TreeMap$Entry;)V"⟩, cJ31_init, 3, (Option.none : Option Jvm.ClassFile.FieldType), none, 2)
def i_J6_keyIterator : JI := (⟨"java/util/TreeMap", "keyIterator", "()Ljava/util/Iterator;"⟩, cJ6_keyIterator, 1, (Option.some (Jvm.ClassFile.FieldType.object "java/util/Iterator")), none, 3)
def i_J29_iterator : JI := (⟨"java/util/TreeMap$KeySet", "iterator", "()Ljava/util/Iterator;"⟩, cJ29_iterator, 1, (Option.some (Jvm.ClassFile.FieldType.object "java/util/Iterator")), none, 4)
def i_J30_hasNext__J31 : JI := (⟨"java/util/TreeMap$PrivateEntryIterator", "hasNext", "()Z"⟩, cJ30_hasNext, 1, (Option.some Jvm.ClassFile.FieldType.boolean), none, 0)
def i_J6_successor : JI := (⟨"java/util/TreeMap", "successor", "(Ljava/util/TreeMap$Entry;)Ljava/util/TreeMap$Entry;"⟩, cJ6_successor, 3, (Option.some (Jvm.ClassFile.FieldType.object "java/util/TreeMap$Entry")), none, 0)
def i_J30_nextEntry__J31 : JI := (⟨"java/util/TreeMap$PrivateEntryIterator", "nextEntry", "()Ljava/util/TreeMap$Entry;"⟩, cJ30_nextEntry, 2, (Option.some (Jvm.ClassFile.FieldType.object "java/util/TreeMap$Entry")), none, 1)
def i_J31_next : JI := (⟨"java/util/TreeMap$KeyIterator", "next", "()Ljava/lang/Object;"⟩, cJ31_next, 1, (Option.some (Jvm.ClassFile.FieldType.object "java/lang/Object")), none, 2)
def i_J25_intValue : JI := (⟨"java/lang/Integer", "intValue", "()I"⟩, cJ25_intValue, 1, (Option.some Jvm.ClassFile.FieldType.int), none, 0)
def i_J32_wordIndex : JI := (⟨"java/util/BitSet", "wordIndex", "(I)I"⟩, cJ32_wordIndex, 1, (Option.some Jvm.ClassFile.FieldType.int), none, 0)
def i_J32_initWords : JI := (⟨"java/util/BitSet", "initWords", "(I)V"⟩, cJ32_initWords, 2, (Option.none : Option Jvm.ClassFile.FieldType), none, 1)
def i_J32_init : JI := (⟨"java/util/BitSet", "<init>", "()V"⟩, cJ32_init, 1, (Option.none : Option Jvm.ClassFile.FieldType), none, 2)
def i_J24_init__J25 : JI := (⟨"java/lang/Number", "<init>", "()V"⟩, cJ24_init, 1, (Option.none : Option Jvm.ClassFile.FieldType), none, 1)
def i_J25_init : JI := (⟨"java/lang/Integer", "<init>", "(I)V"⟩, cJ25_init, 2, (Option.none : Option Jvm.ClassFile.FieldType), none, 2)
def i_J25_valueOf : JI := (⟨"java/lang/Integer", "valueOf", "(I)Ljava/lang/Integer;"⟩, cJ25_valueOf, 1, (Option.some (Jvm.ClassFile.FieldType.object "java/lang/Integer")), none, 3)
def i_J13_requireNonNull : JI := (⟨"java/util/Objects", "requireNonNull", "(Ljava/lang/Object;)Ljava/lang/Object;"⟩, cJ13_requireNonNull, 1, (Option.some (Jvm.ClassFile.FieldType.object "java/lang/Object")), none, 0)
def i_J25_compare : JI := (⟨"java/lang/Integer", "compare", "(II)I"⟩, cJ25_compare, 2, (Option.some Jvm.ClassFile.FieldType.int), none, 0)
def i_J25_compareTo_2 : JI := (⟨"java/lang/Integer", "compareTo", "(Ljava/lang/Integer;)I"⟩, cJ25_compareTo_2, 2, (Option.some Jvm.ClassFile.FieldType.int), none, 1)
def i_J25_compareTo : JI := (⟨"java/lang/Integer", "compareTo", "(Ljava/lang/Object;)I"⟩, cJ25_compareTo, 2, (Option.some Jvm.ClassFile.FieldType.int), none, 2)
def i_J6_getEntry : JI := (⟨"java/util/TreeMap", "getEntry", "(Ljava/lang/Object;)Ljava/util/TreeMap$Entry;"⟩, cJ6_getEntry, 5, (Option.some (Jvm.ClassFile.FieldType.object "java/util/TreeMap$Entry")), none, 3)
def i_J6_get : JI := (⟨"java/util/TreeMap", "get", "(Ljava/lang/Object;)Ljava/lang/Object;"⟩, cJ6_get, 3, (Option.some (Jvm.ClassFile.FieldType.object "java/lang/Object")), none, 4)
def i_J32_ensureCapacity : JI := (⟨"java/util/BitSet", "ensureCapacity", "(I)V"⟩, cJ32_ensureCapacity, 3, (Option.none : Option Jvm.ClassFile.FieldType), none, 0)
def i_J32_checkInvariants : JI := (⟨"java/util/BitSet", "checkInvariants", "()V"⟩, cJ32_checkInvariants, 1, (Option.none : Option Jvm.ClassFile.FieldType), none, 0)
def i_J32_or : JI := (⟨"java/util/BitSet", "or", "(Ljava/util/BitSet;)V"⟩, cJ32_or, 4, (Option.none : Option Jvm.ClassFile.FieldType), none, 1)
def i_J6_compare : JI := (⟨"java/util/TreeMap", "compare", "(Ljava/lang/Object;Ljava/lang/Object;)I"⟩, cJ6_compare, 3, (Option.some Jvm.ClassFile.FieldType.int), none, 3)
def i_J33_init : JI := (⟨"java/util/TreeMap$Entry", "<init>", "(Ljava/lang/Object;Ljava/lang/Object;Ljava/util/TreeMap$Entry;)V"⟩, cJ33_init, 4, (Option.none : Option Jvm.ClassFile.FieldType), none, 1)
def i_J6_addEntryToEmptyMap : JI := (⟨"java/util/TreeMap", "addEntryToEmptyMap", "(Ljava/lang/Object;Ljava/lang/Object;)V"⟩, cJ6_addEntryToEmptyMap, 3, (Option.none : Option Jvm.ClassFile.FieldType), none, 4)
def i_J6_parentOf : JI := (⟨"java/util/TreeMap", "parentOf", "(Ljava/util/TreeMap$Entry;)Ljava/util/TreeMap$Entry;"⟩, cJ6_parentOf, 1, (Option.some (Jvm.ClassFile.FieldType.object "java/util/TreeMap$Entry")), none, 0)
def i_J6_leftOf : JI := (⟨"java/util/TreeMap", "leftOf", "(Ljava/util/TreeMap$Entry;)Ljava/util/TreeMap$Entry;"⟩, cJ6_leftOf, 1, (Option.some (Jvm.ClassFile.FieldType.object "java/util/TreeMap$Entry")), none, 0)
def i_J6_rightOf : JI := (⟨"java/util/TreeMap", "rightOf", "(Ljava/util/TreeMap$Entry;)Ljava/util/TreeMap$Entry;"⟩, cJ6_rightOf, 1, (Option.some (Jvm.ClassFile.FieldType.object "java/util/TreeMap$Entry")), none, 0)
def i_J6_colorOf : JI := (⟨"java/util/TreeMap", "colorOf", "(Ljava/util/TreeMap$Entry;)Z"⟩, cJ6_colorOf, 1, (Option.some Jvm.ClassFile.FieldType.boolean), none, 0)
def i_J6_setColor : JI := (⟨"java/util/TreeMap", "setColor", "(Ljava/util/TreeMap$Entry;Z)V"⟩, cJ6_setColor, 2, (Option.none : Option Jvm.ClassFile.FieldType), none, 0)
def i_J6_rotateLeft : JI := (⟨"java/util/TreeMap", "rotateLeft", "(Ljava/util/TreeMap$Entry;)V"⟩, cJ6_rotateLeft, 3, (Option.none : Option Jvm.ClassFile.FieldType), none, 0)
def i_J6_rotateRight : JI := (⟨"java/util/TreeMap", "rotateRight", "(Ljava/util/TreeMap$Entry;)V"⟩, cJ6_rotateRight, 3, (Option.none : Option Jvm.ClassFile.FieldType), none, 0)
def i_J6_fixAfterInsertion : JI := (⟨"java/util/TreeMap", "fixAfterInsertion", "(Ljava/util/TreeMap$Entry;)V"⟩, cJ6_fixAfterInsertion, 3, (Option.none : Option Jvm.ClassFile.FieldType), none, 1)
def i_J6_addEntry : JI := (⟨"java/util/TreeMap", "addEntry", "(Ljava/lang/Object;Ljava/lang/Object;Ljava/util/TreeMap$Entry;Z)V"⟩, cJ6_addEntry, 6, (Option.none : Option Jvm.ClassFile.FieldType), none, 2)
def i_J6_put_2 : JI := (⟨"java/util/TreeMap", "put", "(Ljava/lang/Object;Ljava/lang/Object;Z)Ljava/lang/Object;"⟩, cJ6_put_2, 10, (Option.some (Jvm.ClassFile.FieldType.object "java/lang/Object")), none, 5)
def i_J6_put : JI := (⟨"java/util/TreeMap", "put", "(Ljava/lang/Object;Ljava/lang/Object;)Ljava/lang/Object;"⟩, cJ6_put, 3, (Option.some (Jvm.ClassFile.FieldType.object "java/lang/Object")), none, 6)
def i_J7_sub : JI := (⟨"java/util/ArrayDeque", "sub", "(III)I"⟩, cJ7_sub, 3, (Option.some Jvm.ClassFile.FieldType.int), none, 0)
def i_J7_size : JI := (⟨"java/util/ArrayDeque", "size", "()I"⟩, cJ7_size, 1, (Option.some Jvm.ClassFile.FieldType.int), none, 1)
def i_J34_init : JI := (⟨"java/util/ArrayDeque$DeqIterator", "<init>", "(Ljava/util/ArrayDeque;)V"⟩, cJ34_init, 2, (Option.none : Option Jvm.ClassFile.FieldType), none, 2)
def i_J7_iterator : JI := (⟨"java/util/ArrayDeque", "iterator", "()Ljava/util/Iterator;"⟩, cJ7_iterator, 1, (Option.some (Jvm.ClassFile.FieldType.object "java/util/Iterator")), none, 3)
def i_J34_hasNext : JI := (⟨"java/util/ArrayDeque$DeqIterator", "hasNext", "()Z"⟩, cJ34_hasNext, 1, (Option.some Jvm.ClassFile.FieldType.boolean), none, 0)
def i_J7_nonNullElementAt : JI := (⟨"java/util/ArrayDeque", "nonNullElementAt", "([Ljava/lang/Object;I)Ljava/lang/Object;"⟩, cJ7_nonNullElementAt, 3, (Option.some (Jvm.ClassFile.FieldType.object "java/lang/Object")), none, 0)
def i_J34_next : JI := (⟨"java/util/ArrayDeque$DeqIterator", "next", "()Ljava/lang/Object;"⟩, cJ34_next, 3, (Option.some (Jvm.ClassFile.FieldType.object "java/lang/Object")), none, 1)
def i_J7_newCapacity : JI := (⟨"java/util/ArrayDeque", "newCapacity", "(II)I"⟩, cJ7_newCapacity, 5, (Option.some Jvm.ClassFile.FieldType.int), none, 0)
def i_J7_grow : JI := (⟨"java/util/ArrayDeque", "grow", "(I)V"⟩, cJ7_grow, 9, (Option.none : Option Jvm.ClassFile.FieldType), none, 3)
def i_J7_addLast : JI := (⟨"java/util/ArrayDeque", "addLast", "(Ljava/lang/Object;)V"⟩, cJ7_addLast, 3, (Option.none : Option Jvm.ClassFile.FieldType), none, 4)
def i_X1_copy : JI := (⟨"UnheardBells$Machine", "copy", "()LUnheardBells$Machine;"⟩, cX1_copy, 6, (Option.some (Jvm.ClassFile.FieldType.object "UnheardBells$Machine")), none, 7)
def i_J7_circularClear : JI := (⟨"java/util/ArrayDeque", "circularClear", "([Ljava/lang/Object;II)V"⟩, cJ7_circularClear, 4, (Option.none : Option Jvm.ClassFile.FieldType), none, 0)
def i_J7_clear : JI := (⟨"java/util/ArrayDeque", "clear", "()V"⟩, cJ7_clear, 1, (Option.none : Option Jvm.ClassFile.FieldType), none, 1)
def i_J2_size : JI := (⟨"java/util/ArrayList", "size", "()I"⟩, cJ2_size, 1, (Option.some Jvm.ClassFile.FieldType.int), none, 0)
def i_X0_restore : JI := (⟨"UnheardBells", "restore", "()I"⟩, cX0_restore, 1, (Option.some Jvm.ClassFile.FieldType.int), none, 8)
def i_X3_lays : JI := (⟨"UnheardBellsModel", "lays", "([I[I)V"⟩, cX3_lays, 3, (Option.none : Option Jvm.ClassFile.FieldType), none, 0)
def i_X3_restore : JI := (⟨"UnheardBellsModel", "restore", "()I"⟩, cX3_restore, 1, (Option.some Jvm.ClassFile.FieldType.int), none, 1)
def i_X0_save : JI := (⟨"UnheardBells", "save", "()I"⟩, cX0_save, 1, (Option.some Jvm.ClassFile.FieldType.int), none, 8)
def i_X3_save : JI := (⟨"UnheardBellsModel", "save", "()I"⟩, cX3_save, 1, (Option.some Jvm.ClassFile.FieldType.int), none, 1)
def i_J7_dec : JI := (⟨"java/util/ArrayDeque", "dec", "(II)I"⟩, cJ7_dec, 2, (Option.some Jvm.ClassFile.FieldType.int), none, 0)
def i_J7_pollLast : JI := (⟨"java/util/ArrayDeque", "pollLast", "()Ljava/lang/Object;"⟩, cJ7_pollLast, 4, (Option.some (Jvm.ClassFile.FieldType.object "java/lang/Object")), none, 1)
def i_J7_removeLast : JI := (⟨"java/util/ArrayDeque", "removeLast", "()Ljava/lang/Object;"⟩, cJ7_removeLast, 2, (Option.some (Jvm.ClassFile.FieldType.object "java/lang/Object")), none, 2)
def i_X0_undo : JI := (⟨"UnheardBells", "undo", "()I"⟩, cX0_undo, 1, (Option.some Jvm.ClassFile.FieldType.int), none, 3)
def i_X3_undo : JI := (⟨"UnheardBellsModel", "undo", "()I"⟩, cX3_undo, 2, (Option.some Jvm.ClassFile.FieldType.int), none, 0)
def i_X0_lambda_new_0 : JI := (⟨"UnheardBells", "lambda$new$0", "(ILUnheardBells$Rope;)I"⟩, cX0_lambda_new_0, 2, (Option.some Jvm.ClassFile.FieldType.int), none, 0)
def i_X1_all : JI := (⟨"UnheardBells$Machine", "all", "(LUnheardBells$Count;)I"⟩, cX1_all, 5, (Option.some Jvm.ClassFile.FieldType.int), none, 5)
def i_X0_answerShare : JI := (⟨"UnheardBells", "answerShare", "()F"⟩, cX0_answerShare, 3, (Option.some Jvm.ClassFile.FieldType.float), none, 6)
def i_X3_answerShare : JI := (⟨"UnheardBellsModel", "answerShare", "()F"⟩, cX3_answerShare, 2, (Option.some Jvm.ClassFile.FieldType.float), none, 0)
def i_X1_rust : JI := (⟨"UnheardBells$Machine", "rust", "()I"⟩, cX1_rust, 4, (Option.some Jvm.ClassFile.FieldType.int), none, 3)
def i_X0_meanRust : JI := (⟨"UnheardBells", "meanRust", "()D"⟩, cX0_meanRust, 2, (Option.some Jvm.ClassFile.FieldType.double), none, 4)
def i_X3_at : JI := (⟨"UnheardBellsModel", "at", "(II)I"⟩, cX3_at, 2, (Option.some Jvm.ClassFile.FieldType.int), none, 0)
def i_X3_rust : JI := (⟨"UnheardBellsModel", "rust", "()I"⟩, cX3_rust, 3, (Option.some Jvm.ClassFile.FieldType.int), none, 1)
def i_X3_meanRust : JI := (⟨"UnheardBellsModel", "meanRust", "()D"⟩, cX3_meanRust, 1, (Option.some Jvm.ClassFile.FieldType.double), none, 2)
def i_J4_size : JI := (⟨"java/util/PriorityQueue", "size", "()I"⟩, cJ4_size, 1, (Option.some Jvm.ClassFile.FieldType.int), none, 0)
def i_X1_counted : JI := (⟨"UnheardBells$Machine", "counted", "([LUnheardBells$Count;)I"⟩, cX1_counted, 7, (Option.some Jvm.ClassFile.FieldType.int), none, 6)
def i_J0_isEmpty__J4 : JI := (⟨"java/util/AbstractCollection", "isEmpty", "()Z"⟩, cJ0_isEmpty, 1, (Option.some Jvm.ClassFile.FieldType.boolean), none, 1)
def i_J4_siftDownUsingComparator : JI := (⟨"java/util/PriorityQueue", "siftDownUsingComparator", "(ILjava/lang/Object;[Ljava/lang/Object;ILjava/util/Comparator;)V"⟩, cJ4_siftDownUsingComparator, 9, (Option.none : Option Jvm.ClassFile.FieldType), none, 2)
def i_J4_poll : JI := (⟨"java/util/PriorityQueue", "poll", "()Ljava/lang/Object;"⟩, cJ4_poll, 6, (Option.some (Jvm.ClassFile.FieldType.object "java/lang/Object")), none, 3)
def i_J14_checkIndex : JI := (⟨"jdk/internal/util/Preconditions", "checkIndex", "(IILjava/util/function/BiFunction;)I"⟩, cJ14_checkIndex, 3, (Option.some Jvm.ClassFile.FieldType.int), none, 0)
def i_J13_checkIndex : JI := (⟨"java/util/Objects", "checkIndex", "(II)I"⟩, cJ13_checkIndex, 2, (Option.some Jvm.ClassFile.FieldType.int), none, 1)
def i_J2_elementData : JI := (⟨"java/util/ArrayList", "elementData", "(I)Ljava/lang/Object;"⟩, cJ2_elementData, 2, (Option.some (Jvm.ClassFile.FieldType.object "java/lang/Object")), none, 0)
def i_J2_get : JI := (⟨"java/util/ArrayList", "get", "(I)Ljava/lang/Object;"⟩, cJ2_get, 2, (Option.some (Jvm.ClassFile.FieldType.object "java/lang/Object")), none, 2)
def i_X1_answeredIn : JI := (⟨"UnheardBells$Machine", "answeredIn", "(I)Ljava/util/BitSet;"⟩, cX1_answeredIn, 3, (Option.some (Jvm.ClassFile.FieldType.object "java/util/BitSet")), none, 5)
def i_J32_get : JI := (⟨"java/util/BitSet", "get", "(I)Z"⟩, cJ32_get, 3, (Option.some Jvm.ClassFile.FieldType.boolean), none, 1)
def i_X4_wouldAnswer : JI := (⟨"UnheardBells$Rope", "wouldAnswer", "(I)Z"⟩, cX4_wouldAnswer, 2, (Option.some Jvm.ClassFile.FieldType.boolean), none, 0)
def i_X4_answers : JI := (⟨"UnheardBells$Rope", "answers", "()V"⟩, cX4_answers, 1, (Option.none : Option Jvm.ClassFile.FieldType), none, 1)
def i_X7_init : JI := (⟨"UnheardBells$Answer", "<init>", "(LUnheardBells$Pull;I)V"⟩, cX7_init, 3, (Option.none : Option Jvm.ClassFile.FieldType), none, 1)
def i_J7_addFirst : JI := (⟨"java/util/ArrayDeque", "addFirst", "(Ljava/lang/Object;)V"⟩, cJ7_addFirst, 3, (Option.none : Option Jvm.ClassFile.FieldType), none, 4)
def i_J32_expandTo : JI := (⟨"java/util/BitSet", "expandTo", "(I)V"⟩, cJ32_expandTo, 3, (Option.none : Option Jvm.ClassFile.FieldType), none, 1)
def i_J32_set : JI := (⟨"java/util/BitSet", "set", "(I)V"⟩, cJ32_set, 3, (Option.none : Option Jvm.ClassFile.FieldType), none, 2)
def i_X1_remembers : JI := (⟨"UnheardBells$Machine", "remembers", "(LUnheardBells$Pull;)V"⟩, cX1_remembers, 4, (Option.none : Option Jvm.ClassFile.FieldType), none, 7)
def i_X1_rings : JI := (⟨"UnheardBells$Machine", "rings", "()I"⟩, cX1_rings, 3, (Option.some Jvm.ClassFile.FieldType.int), none, 8)
def i_X1_forecast : JI := (⟨"UnheardBells$Machine", "forecast", "()I"⟩, cX1_forecast, 3, (Option.some Jvm.ClassFile.FieldType.int), none, 9)
def i_J0_init__J36 : JI := (⟨"java/util/AbstractCollection", "<init>", "()V"⟩, cJ0_init, 1, (Option.none : Option Jvm.ClassFile.FieldType), none, 1)
def i_J1_init__J36 : JI := (⟨"java/util/AbstractList", "<init>", "()V"⟩, cJ1_init, 1, (Option.none : Option Jvm.ClassFile.FieldType), none, 2)
def i_J35_init__J36 : JI := (⟨"java/util/AbstractSequentialList", "<init>", "()V"⟩, cJ35_init, 1, (Option.none : Option Jvm.ClassFile.FieldType), none, 3)
def i_J36_init : JI := (⟨"java/util/LinkedList", "<init>", "()V"⟩, cJ36_init, 1, (Option.none : Option Jvm.ClassFile.FieldType), none, 4)
def i_J37_init : JI := (⟨"java/util/LinkedList$Node", "<init>", "(Ljava/util/LinkedList$Node;Ljava/lang/Object;Ljava/util/LinkedList$Node;)V"⟩, cJ37_init, 4, (Option.none : Option Jvm.ClassFile.FieldType), none, 1)
def i_J36_linkLast : JI := (⟨"java/util/LinkedList", "linkLast", "(Ljava/lang/Object;)V"⟩, cJ36_linkLast, 4, (Option.none : Option Jvm.ClassFile.FieldType), none, 2)
def i_J36_addLast : JI := (⟨"java/util/LinkedList", "addLast", "(Ljava/lang/Object;)V"⟩, cJ36_addLast, 2, (Option.none : Option Jvm.ClassFile.FieldType), none, 3)
def i_X1_inOrder : JI := (⟨"UnheardBells$Machine", "inOrder", "()Ljava/util/LinkedList;"⟩, cX1_inOrder, 4, (Option.some (Jvm.ClassFile.FieldType.object "java/util/LinkedList")), none, 6)
def i_J36_isPositionIndex : JI := (⟨"java/util/LinkedList", "isPositionIndex", "(I)Z"⟩, cJ36_isPositionIndex, 2, (Option.some Jvm.ClassFile.FieldType.boolean), none, 0)
def i_J36_checkPositionIndex : JI := (⟨"java/util/LinkedList", "checkPositionIndex", "(I)V"⟩, cJ36_checkPositionIndex, 2, (Option.none : Option Jvm.ClassFile.FieldType), none, 1)
def i_J36_node : JI := (⟨"java/util/LinkedList", "node", "(I)Ljava/util/LinkedList$Node;"⟩, cJ36_node, 4, (Option.some (Jvm.ClassFile.FieldType.object "java/util/LinkedList$Node")), none, 0)
def i_J41_init : JI := (⟨"java/util/LinkedList$ListItr", "<init>", "(Ljava/util/LinkedList;I)V"⟩, cJ41_init, 3, (Option.none : Option Jvm.ClassFile.FieldType), none, 1)
def i_J36_listIterator : JI := (⟨"java/util/LinkedList", "listIterator", "(I)Ljava/util/ListIterator;"⟩, cJ36_listIterator, 2, (Option.some (Jvm.ClassFile.FieldType.object "java/util/ListIterator")), none, 2)
def i_J1_listIterator__J36 : JI := (⟨"java/util/AbstractList", "listIterator", "()Ljava/util/ListIterator;"⟩, cJ1_listIterator, 1, (Option.some (Jvm.ClassFile.FieldType.object "java/util/ListIterator")), none, 3)
def i_J35_iterator__J36 : JI := (⟨"java/util/AbstractSequentialList", "iterator", "()Ljava/util/Iterator;"⟩, cJ35_iterator, 1, (Option.some (Jvm.ClassFile.FieldType.object "java/util/Iterator")), none, 4)
def i_J41_hasNext : JI := (⟨"java/util/LinkedList$ListItr", "hasNext", "()Z"⟩, cJ41_hasNext, 1, (Option.some Jvm.ClassFile.FieldType.boolean), none, 0)
def i_J41_checkForComodification : JI := (⟨"java/util/LinkedList$ListItr", "checkForComodification", "()V"⟩, cJ41_checkForComodification, 1, (Option.none : Option Jvm.ClassFile.FieldType), none, 0)
def i_J41_next : JI := (⟨"java/util/LinkedList$ListItr", "next", "()Ljava/lang/Object;"⟩, cJ41_next, 1, (Option.some (Jvm.ClassFile.FieldType.object "java/lang/Object")), none, 1)
def i_X1_forecastOf : JI := (⟨"UnheardBells$Machine", "forecastOf", "(ILjava/util/LinkedList;)I"⟩, cX1_forecastOf, 10, (Option.some Jvm.ClassFile.FieldType.int), none, 6)
def i_X1_forecastAgain : JI := (⟨"UnheardBells$Machine", "forecastAgain", "()I"⟩, cX1_forecastAgain, 4, (Option.some Jvm.ClassFile.FieldType.int), none, 7)
def i_X1_answeredOf : JI := (⟨"UnheardBells$Machine", "answeredOf", "(II)I"⟩, cX1_answeredOf, 5, (Option.some Jvm.ClassFile.FieldType.int), none, 6)
def i_X1_ropesOf : JI := (⟨"UnheardBells$Machine", "ropesOf", "(I)I"⟩, cX1_ropesOf, 5, (Option.some Jvm.ClassFile.FieldType.int), none, 3)
def i_X1_isMore : JI := (⟨"UnheardBells$Machine", "isMore", "(IIII)Z"⟩, cX1_isMore, 5, (Option.some Jvm.ClassFile.FieldType.boolean), none, 0)
def i_X1_guess : JI := (⟨"UnheardBells$Machine", "guess", "(I)I"⟩, cX1_guess, 6, (Option.some Jvm.ClassFile.FieldType.int), none, 7)
def i_J25_numberOfTrailingZeros : JI := (⟨"java/lang/Integer", "numberOfTrailingZeros", "(I)I"⟩, cJ25_numberOfTrailingZeros, 2, (Option.some Jvm.ClassFile.FieldType.int), none, 0)
def i_J27_numberOfTrailingZeros : JI := (⟨"java/lang/Long", "numberOfTrailingZeros", "(J)I"⟩, cJ27_numberOfTrailingZeros, 3, (Option.some Jvm.ClassFile.FieldType.int), none, 1)
def i_J32_nextSetBit : JI := (⟨"java/util/BitSet", "nextSetBit", "(I)I"⟩, cJ32_nextSetBit, 5, (Option.some Jvm.ClassFile.FieldType.int), none, 2)
def i_X1_guessAgain : JI := (⟨"UnheardBells$Machine", "guessAgain", "(I)I"⟩, cX1_guessAgain, 8, (Option.some Jvm.ClassFile.FieldType.int), none, 6)
def i_X1_isBalanced : JI := (⟨"UnheardBells$Machine", "isBalanced", "([LUnheardBells$Count;)Z"⟩, cX1_isBalanced, 4, (Option.some Jvm.ClassFile.FieldType.boolean), none, 10)
def i_X0_isBalanced : JI := (⟨"UnheardBells", "isBalanced", "()I"⟩, cX0_isBalanced, 1, (Option.some Jvm.ClassFile.FieldType.int), none, 11)
def i_X3_isBalanced : JI := (⟨"UnheardBellsModel", "isBalanced", "()I"⟩, cX3_isBalanced, 1, (Option.some Jvm.ClassFile.FieldType.int), none, 0)
def i_J8_length__J9 : JI := (⟨"java/lang/AbstractStringBuilder", "length", "()I"⟩, cJ8_length, 1, (Option.some Jvm.ClassFile.FieldType.int), none, 0)
def i_J9_length : JI := (⟨"java/lang/StringBuilder", "length", "()I"⟩, cJ9_length, 1, (Option.some Jvm.ClassFile.FieldType.int), none, 1)
def i_X0_account : JI := (⟨"UnheardBells", "account", "(I)I"⟩, cX0_account, 2, (Option.some Jvm.ClassFile.FieldType.int), none, 6)
def i_X3_isIn : JI := (⟨"UnheardBellsModel", "isIn", "(III)Z"⟩, cX3_isIn, 3, (Option.some Jvm.ClassFile.FieldType.boolean), none, 0)
def i_X3_account : JI := (⟨"UnheardBellsModel", "account", "(I)I"⟩, cX3_account, 2, (Option.some Jvm.ClassFile.FieldType.int), none, 2)
def i_X0_reason : JI := (⟨"UnheardBells", "reason", "(Z)I"⟩, cX0_reason, 2, (Option.some Jvm.ClassFile.FieldType.int), none, 0)
def i_X3_reason : JI := (⟨"UnheardBellsModel", "reason", "(Z)I"⟩, cX3_reason, 2, (Option.some Jvm.ClassFile.FieldType.int), none, 0)
def i_J10_coder : JI := (⟨"java/lang/String", "coder", "()B"⟩, cJ10_coder, 1, (Option.some Jvm.ClassFile.FieldType.byte), none, 0)
def i_J10_length : JI := (⟨"java/lang/String", "length", "()I"⟩, cJ10_length, 1, (Option.some Jvm.ClassFile.FieldType.int), none, 1)
def i_X0_isIn : JI := (⟨"UnheardBells", "isIn", "(III)Z"⟩, cX0_isIn, 3, (Option.some Jvm.ClassFile.FieldType.boolean), none, 0)
def i_J10_isLatin1 : JI := (⟨"java/lang/String", "isLatin1", "()Z"⟩, cJ10_isLatin1, 1, (Option.some Jvm.ClassFile.FieldType.boolean), none, 0)
def i_J10_checkIndex : JI := (⟨"java/lang/String", "checkIndex", "(II)V"⟩, cJ10_checkIndex, 2, (Option.none : Option Jvm.ClassFile.FieldType), none, 1)
def i_J22_charAt : JI := (⟨"java/lang/StringLatin1", "charAt", "([BI)C"⟩, cJ22_charAt, 2, (Option.some Jvm.ClassFile.FieldType.char), none, 2)
def i_J10_charAt : JI := (⟨"java/lang/String", "charAt", "(I)C"⟩, cJ10_charAt, 2, (Option.some Jvm.ClassFile.FieldType.char), none, 3)
def i_X0_character : JI := (⟨"UnheardBells", "character", "(I)I"⟩, cX0_character, 2, (Option.some Jvm.ClassFile.FieldType.int), none, 4)
def i_X3_character : JI := (⟨"UnheardBellsModel", "character", "(I)I"⟩, cX3_character, 2, (Option.some Jvm.ClassFile.FieldType.int), none, 1)
def i_J8_newCapacity__J9 : JI := (⟨"java/lang/AbstractStringBuilder", "newCapacity", "(I)I"⟩, cJ8_newCapacity, 6, (Option.some Jvm.ClassFile.FieldType.int), none, 2)
def i_J21_copyOf : JI := (⟨"java/util/Arrays", "copyOf", "([BI)[B"⟩, cJ21_copyOf, 3, (Option.some (Jvm.ClassFile.FieldType.array Jvm.ClassFile.FieldType.byte)), none, 1)
def i_J8_ensureCapacityInternal__J9 : JI := (⟨"java/lang/AbstractStringBuilder", "ensureCapacityInternal", "(I)V"⟩, cJ8_ensureCapacityInternal, 3, (Option.none : Option Jvm.ClassFile.FieldType), none, 3)
def i_J8_inflateIfNeededFor__J9 : JI := (⟨"java/lang/AbstractStringBuilder", "inflateIfNeededFor", "(Ljava/lang/String;)V"⟩, cJ8_inflateIfNeededFor, 2, (Option.none : Option Jvm.ClassFile.FieldType), none, 1)
def i_J10_getBytes : JI := (⟨"java/lang/String", "getBytes", "([BIB)V"⟩, cJ10_getBytes, 4, (Option.none : Option Jvm.ClassFile.FieldType), none, 1)
def i_J8_putStringAt__J9 : JI := (⟨"java/lang/AbstractStringBuilder", "putStringAt", "(ILjava/lang/String;)V"⟩, cJ8_putStringAt, 3, (Option.none : Option Jvm.ClassFile.FieldType), none, 2)
def i_J8_append__J9 : JI := (⟨"java/lang/AbstractStringBuilder", "append", "(Ljava/lang/String;)Ljava/lang/AbstractStringBuilder;"⟩, cJ8_append, 3, (Option.some (Jvm.ClassFile.FieldType.object "java/lang/AbstractStringBuilder")), none, 4)
def i_J9_append : JI := (⟨"java/lang/StringBuilder", "append", "(Ljava/lang/String;)Ljava/lang/StringBuilder;"⟩, cJ9_append, 2, (Option.some (Jvm.ClassFile.FieldType.object "java/lang/StringBuilder")), none, 5)
def i_J25_stringSize : JI := (⟨"java/lang/Integer", "stringSize", "(I)I"⟩, cJ25_stringSize, 4, (Option.some Jvm.ClassFile.FieldType.int), none, 0)
def i_J8_isLatin1__J9 : JI := (⟨"java/lang/AbstractStringBuilder", "isLatin1", "()Z"⟩, cJ8_isLatin1, 1, (Option.some Jvm.ClassFile.FieldType.boolean), none, 0)
def i_J25_getChars : JI := (⟨"java/lang/Integer", "getChars", "(II[B)I"⟩, cJ25_getChars, 7, (Option.some Jvm.ClassFile.FieldType.int), none, 0)
def i_J8_append_3__J9 : JI := (⟨"java/lang/AbstractStringBuilder", "append", "(I)Ljava/lang/AbstractStringBuilder;"⟩, cJ8_append_3, 4, (Option.some (Jvm.ClassFile.FieldType.object "java/lang/AbstractStringBuilder")), none, 4)
def i_J9_append_3 : JI := (⟨"java/lang/StringBuilder", "append", "(I)Ljava/lang/StringBuilder;"⟩, cJ9_append_3, 2, (Option.some (Jvm.ClassFile.FieldType.object "java/lang/StringBuilder")), none, 5)
def i_J22_canEncode : JI := (⟨"java/lang/StringLatin1", "canEncode", "(C)Z"⟩, cJ22_canEncode, 1, (Option.some Jvm.ClassFile.FieldType.boolean), none, 0)
def i_J8_append_2__J9 : JI := (⟨"java/lang/AbstractStringBuilder", "append", "(C)Ljava/lang/AbstractStringBuilder;"⟩, cJ8_append_2, 2, (Option.some (Jvm.ClassFile.FieldType.object "java/lang/AbstractStringBuilder")), none, 4)
def i_J9_append_2 : JI := (⟨"java/lang/StringBuilder", "append", "(C)Ljava/lang/StringBuilder;"⟩, cJ9_append_2, 2, (Option.some (Jvm.ClassFile.FieldType.object "java/lang/StringBuilder")), none, 5)
def i_J8_getValue__J9 : JI := (⟨"java/lang/AbstractStringBuilder", "getValue", "()[B"⟩, cJ8_getValue, 1, (Option.some (Jvm.ClassFile.FieldType.array Jvm.ClassFile.FieldType.byte)), none, 0)
def i_J21_copyOfRangeByte : JI := (⟨"java/util/Arrays", "copyOfRangeByte", "([BII)[B"⟩, cJ21_copyOfRangeByte, 5, (Option.some (Jvm.ClassFile.FieldType.array Jvm.ClassFile.FieldType.byte)), none, 0)
def i_J21_copyOfRange : JI := (⟨"java/util/Arrays", "copyOfRange", "([BII)[B"⟩, cJ21_copyOfRange, 3, (Option.some (Jvm.ClassFile.FieldType.array Jvm.ClassFile.FieldType.byte)), none, 1)
def i_J10_init_2 : JI := (⟨"java/lang/String", "<init>", "(Ljava/lang/AbstractStringBuilder;Ljava/lang/Void;)V"⟩, cJ10_init_2, 5, (Option.none : Option Jvm.ClassFile.FieldType), none, 2)
def i_J10_init : JI := (⟨"java/lang/String", "<init>", "(Ljava/lang/StringBuilder;)V"⟩, cJ10_init, 2, (Option.none : Option Jvm.ClassFile.FieldType), none, 3)
def i_J9_toString : JI := (⟨"java/lang/StringBuilder", "toString", "()Ljava/lang/String;"⟩, cJ9_toString, 1, (Option.some (Jvm.ClassFile.FieldType.object "java/lang/String")), none, 4)
def i_X1_dayText : JI := (⟨"UnheardBells$Machine", "dayText", "()Ljava/lang/String;"⟩, cX1_dayText, 4, (Option.some (Jvm.ClassFile.FieldType.object "java/lang/String")), none, 8)
def i_X0_tellDay : JI := (⟨"UnheardBells", "tellDay", "()I"⟩, cX0_tellDay, 1, (Option.some Jvm.ClassFile.FieldType.int), none, 9)
def i_X3_writes : JI := (⟨"UnheardBellsModel", "writes", "(I)V"⟩, cX3_writes, 2, (Option.none : Option Jvm.ClassFile.FieldType), none, 0)
def i_X3_writesNumber : JI := (⟨"UnheardBellsModel", "writesNumber", "(I)V"⟩, cX3_writesNumber, 2, (Option.none : Option Jvm.ClassFile.FieldType), none, 1)
def i_X3_ropesOf : JI := (⟨"UnheardBellsModel", "ropesOf", "(II)I"⟩, cX3_ropesOf, 5, (Option.some Jvm.ClassFile.FieldType.int), none, 1)
def i_X3_guessed : JI := (⟨"UnheardBellsModel", "guessed", "(I)I"⟩, cX3_guessed, 10, (Option.some Jvm.ClassFile.FieldType.int), none, 2)
def i_X3_tellDay : JI := (⟨"UnheardBellsModel", "tellDay", "()I"⟩, cX3_tellDay, 2, (Option.some Jvm.ClassFile.FieldType.int), none, 3)
def i_X1_isRope : JI := (⟨"UnheardBells$Machine", "isRope", "(I)Z"⟩, cX1_isRope, 2, (Option.some Jvm.ClassFile.FieldType.boolean), none, 1)
def i_X1_text : JI := (⟨"UnheardBells$Machine", "text", "(I)Ljava/lang/String;"⟩, cX1_text, 6, (Option.some (Jvm.ClassFile.FieldType.object "java/lang/String")), none, 7)
def i_X0_tell : JI := (⟨"UnheardBells", "tell", "(I)I"⟩, cX0_tell, 2, (Option.some Jvm.ClassFile.FieldType.int), none, 8)
def i_X3_isRope : JI := (⟨"UnheardBellsModel", "isRope", "(I)Z"⟩, cX3_isRope, 2, (Option.some Jvm.ClassFile.FieldType.boolean), none, 1)
def i_X3_pulled : JI := (⟨"UnheardBellsModel", "pulled", "(II)I"⟩, cX3_pulled, 3, (Option.some Jvm.ClassFile.FieldType.int), none, 0)
def i_X3_tell : JI := (⟨"UnheardBellsModel", "tell", "(I)I"⟩, cX3_tell, 3, (Option.some Jvm.ClassFile.FieldType.int), none, 2)
def i_X8_init : JI := (⟨"UnheardBells$Reader", "<init>", "(LUnheardBells;)V"⟩, cX8_init, 2, (Option.none : Option Jvm.ClassFile.FieldType), none, 1)
def i_J8_charAt__J9 : JI := (⟨"java/lang/AbstractStringBuilder", "charAt", "(I)C"⟩, cJ8_charAt, 5, (Option.some Jvm.ClassFile.FieldType.char), none, 2)
def i_J9_charAt : JI := (⟨"java/lang/StringBuilder", "charAt", "(I)C"⟩, cJ9_charAt, 2, (Option.some Jvm.ClassFile.FieldType.char), none, 3)
def i_X8_here : JI := (⟨"UnheardBells$Reader", "here", "()I"⟩, cX8_here, 1, (Option.some Jvm.ClassFile.FieldType.int), none, 4)
def i_X8_isKind : JI := (⟨"UnheardBells$Reader", "isKind", "(I)Z"⟩, cX8_isKind, 2, (Option.some Jvm.ClassFile.FieldType.boolean), none, 0)
def i_J15_init_3__X9 : JI := (⟨"java/lang/Throwable", "<init>", "(Ljava/lang/String;Ljava/lang/Throwable;ZZ)V"⟩, cJ15_init_3, 5, (Option.none : Option Jvm.ClassFile.FieldType), none, 1)
def i_J16_init_2__X9 : JI := (⟨"java/lang/Exception", "<init>", "(Ljava/lang/String;Ljava/lang/Throwable;ZZ)V"⟩, cJ16_init_2, 5, (Option.none : Option Jvm.ClassFile.FieldType), none, 2)
def i_X9_init : JI := (⟨"UnheardBells$Wrong", "<init>", "(I)V"⟩, cX9_init, 2, (Option.none : Option Jvm.ClassFile.FieldType), none, 3)
def i_X8_needs : JI := (⟨"UnheardBells$Reader", "needs", "(Z)V"⟩, cX8_needs, 2, (Option.none : Option Jvm.ClassFile.FieldType), none, 4)
def i_X10_init : JI := (⟨"UnheardBells$Command", "<init>", "(I)V"⟩, cX10_init, 2, (Option.none : Option Jvm.ClassFile.FieldType), none, 1)
def i_X8_number : JI := (⟨"UnheardBells$Reader", "number", "(I)I"⟩, cX8_number, 4, (Option.some Jvm.ClassFile.FieldType.int), none, 5)
def i_X8_takes : JI := (⟨"UnheardBells$Reader", "takes", "(I)Z"⟩, cX8_takes, 3, (Option.some Jvm.ClassFile.FieldType.boolean), none, 5)
def i_X8_numberBehind : JI := (⟨"UnheardBells$Reader", "numberBehind", "(II)I"⟩, cX8_numberBehind, 3, (Option.some Jvm.ClassFile.FieldType.int), none, 6)
def i_X8_isOn : JI := (⟨"UnheardBells$Reader", "isOn", "()I"⟩, cX8_isOn, 2, (Option.some Jvm.ClassFile.FieldType.int), none, 6)
def i_X8_rest : JI := (⟨"UnheardBells$Reader", "rest", "(LUnheardBells$Command;)V"⟩, cX8_rest, 2, (Option.none : Option Jvm.ClassFile.FieldType), none, 7)
def i_X8_command : JI := (⟨"UnheardBells$Reader", "command", "()LUnheardBells$Command;"⟩, cX8_command, 3, (Option.some (Jvm.ClassFile.FieldType.object "UnheardBells$Command")), none, 8)
def i_X8_commands : JI := (⟨"UnheardBells$Reader", "commands", "()Ljava/util/LinkedList;"⟩, cX8_commands, 2, (Option.some (Jvm.ClassFile.FieldType.object "java/util/LinkedList")), none, 9)
def i_J36_size : JI := (⟨"java/util/LinkedList", "size", "()I"⟩, cJ36_size, 1, (Option.some Jvm.ClassFile.FieldType.int), none, 0)
def i_J0_isEmpty__J36 : JI := (⟨"java/util/AbstractCollection", "isEmpty", "()Z"⟩, cJ0_isEmpty, 1, (Option.some Jvm.ClassFile.FieldType.boolean), none, 1)
def i_J36_unlinkFirst : JI := (⟨"java/util/LinkedList", "unlinkFirst", "(Ljava/util/LinkedList$Node;)Ljava/lang/Object;"⟩, cJ36_unlinkFirst, 4, (Option.some (Jvm.ClassFile.FieldType.object "java/lang/Object")), none, 0)
def i_J36_removeFirst : JI := (⟨"java/util/LinkedList", "removeFirst", "()Ljava/lang/Object;"⟩, cJ36_removeFirst, 2, (Option.some (Jvm.ClassFile.FieldType.object "java/lang/Object")), none, 1)
def i_X0_isMuch : JI := (⟨"UnheardBells", "isMuch", "(I)Z"⟩, cX0_isMuch, 1, (Option.some Jvm.ClassFile.FieldType.boolean), none, 1)
def i_J15_init_3__X5 : JI := (⟨"java/lang/Throwable", "<init>", "(Ljava/lang/String;Ljava/lang/Throwable;ZZ)V"⟩, cJ15_init_3, 5, (Option.none : Option Jvm.ClassFile.FieldType), none, 1)
def i_J16_init_2__X5 : JI := (⟨"java/lang/Exception", "<init>", "(Ljava/lang/String;Ljava/lang/Throwable;ZZ)V"⟩, cJ16_init_2, 5, (Option.none : Option Jvm.ClassFile.FieldType), none, 2)
def i_X5_init : JI := (⟨"UnheardBells$Refused", "<init>", "(II)V"⟩, cX5_init, 3, (Option.none : Option Jvm.ClassFile.FieldType), none, 3)
def i_X0_refuse : JI := (⟨"UnheardBells", "refuse", "(ZII)V"⟩, cX0_refuse, 3, (Option.none : Option Jvm.ClassFile.FieldType), none, 4)
def i_X1_oils : JI := (⟨"UnheardBells$Machine", "oils", "(II)I"⟩, cX1_oils, 4, (Option.some Jvm.ClassFile.FieldType.int), none, 5)
def i_X0_isParish : JI := (⟨"UnheardBells", "isParish", "(I)Z"⟩, cX0_isParish, 1, (Option.some Jvm.ClassFile.FieldType.boolean), none, 1)
def i_X1_moves : JI := (⟨"UnheardBells$Machine", "moves", "(II)I"⟩, cX1_moves, 5, (Option.some Jvm.ClassFile.FieldType.int), none, 5)
def i_X1_sensors : JI := (⟨"UnheardBells$Machine", "sensors", "()I"⟩, cX1_sensors, 4, (Option.some Jvm.ClassFile.FieldType.int), none, 3)
def i_X1_puts : JI := (⟨"UnheardBells$Machine", "puts", "(IZ)I"⟩, cX1_puts, 4, (Option.some Jvm.ClassFile.FieldType.int), none, 5)
def i_X0_isHour : JI := (⟨"UnheardBells", "isHour", "(I)Z"⟩, cX0_isHour, 1, (Option.some Jvm.ClassFile.FieldType.boolean), none, 1)
def i_X0_isStrength : JI := (⟨"UnheardBells", "isStrength", "(I)Z"⟩, cX0_isStrength, 1, (Option.some Jvm.ClassFile.FieldType.boolean), none, 1)
def i_X6_init : JI := (⟨"UnheardBells$Pull", "<init>", "(IIII)V"⟩, cX6_init, 5, (Option.none : Option Jvm.ClassFile.FieldType), none, 1)
def i_X1_waits : JI := (⟨"UnheardBells$Machine", "waits", "(III)I"⟩, cX1_waits, 9, (Option.some Jvm.ClassFile.FieldType.int), none, 6)
def i_X1_waitingOf : JI := (⟨"UnheardBells$Machine", "waitingOf", "(I)I"⟩, cX1_waitingOf, 5, (Option.some Jvm.ClassFile.FieldType.int), none, 4)
def i_J4_clear : JI := (⟨"java/util/PriorityQueue", "clear", "()V"⟩, cJ4_clear, 4, (Option.none : Option Jvm.ClassFile.FieldType), none, 0)
def i_X1_cancels : JI := (⟨"UnheardBells$Machine", "cancels", "(I)I"⟩, cX1_cancels, 4, (Option.some Jvm.ClassFile.FieldType.int), none, 7)
def i_X10_isOfRope : JI := (⟨"UnheardBells$Command", "isOfRope", "(LUnheardBells$Machine;)Z"⟩, cX10_isOfRope, 2, (Option.some Jvm.ClassFile.FieldType.boolean), none, 8)
def i_X1_brings : JI := (⟨"UnheardBells$Machine", "brings", "(I)I"⟩, cX1_brings, 2, (Option.some Jvm.ClassFile.FieldType.int), none, 5)
def i_X1_ringsNext : JI := (⟨"UnheardBells$Machine", "ringsNext", "()I"⟩, cX1_ringsNext, 1, (Option.some Jvm.ClassFile.FieldType.int), none, 9)
def i_J4_peek : JI := (⟨"java/util/PriorityQueue", "peek", "()Ljava/lang/Object;"⟩, cJ4_peek, 1, (Option.some (Jvm.ClassFile.FieldType.object "java/lang/Object")), none, 0)
def i_X1_ringsHour : JI := (⟨"UnheardBells$Machine", "ringsHour", "()I"⟩, cX1_ringsHour, 3, (Option.some Jvm.ClassFile.FieldType.int), none, 9)
def i_J0_init__J38 : JI := (⟨"java/util/AbstractCollection", "<init>", "()V"⟩, cJ0_init, 1, (Option.none : Option Jvm.ClassFile.FieldType), none, 1)
def i_J38_init : JI := (⟨"java/util/TreeMap$Values", "<init>", "(Ljava/util/TreeMap;)V"⟩, cJ38_init, 2, (Option.none : Option Jvm.ClassFile.FieldType), none, 2)
def i_J6_values : JI := (⟨"java/util/TreeMap", "values", "()Ljava/util/Collection;"⟩, cJ6_values, 2, (Option.some (Jvm.ClassFile.FieldType.object "java/util/Collection")), none, 3)
def i_J30_init__J42 : JI := (⟨"java/util/TreeMap$PrivateEntryIterator", "<init>", "(Ljava/util/TreeMap;Ljava/util/TreeMap$Entry;)V"⟩, cJ30_init, 3, (Option.none : Option Jvm.ClassFile.FieldType), none, 1)
def i_J42_init : JI := (⟨"java/util/TreeMap$ValueIterator", "<init>", "(Ljava/util/TreeMap;Ljava/util/TreeMap$Entry;)V"⟩, cJ42_init, 3, (Option.none : Option Jvm.ClassFile.FieldType), none, 2)
def i_J38_iterator : JI := (⟨"java/util/TreeMap$Values", "iterator", "()Ljava/util/Iterator;"⟩, cJ38_iterator, 1, (Option.some (Jvm.ClassFile.FieldType.object "java/util/Iterator")), none, 3)
def i_J30_hasNext__J42 : JI := (⟨"java/util/TreeMap$PrivateEntryIterator", "hasNext", "()Z"⟩, cJ30_hasNext, 1, (Option.some Jvm.ClassFile.FieldType.boolean), none, 0)
def i_J30_nextEntry__J42 : JI := (⟨"java/util/TreeMap$PrivateEntryIterator", "nextEntry", "()Ljava/util/TreeMap$Entry;"⟩, cJ30_nextEntry, 2, (Option.some (Jvm.ClassFile.FieldType.object "java/util/TreeMap$Entry")), none, 1)
def i_J42_next : JI := (⟨"java/util/TreeMap$ValueIterator", "next", "()Ljava/lang/Object;"⟩, cJ42_next, 1, (Option.some (Jvm.ClassFile.FieldType.object "java/lang/Object")), none, 2)
def i_X1_answeredToday : JI := (⟨"UnheardBells$Machine", "answeredToday", "()Ljava/util/BitSet;"⟩, cX1_answeredToday, 4, (Option.some (Jvm.ClassFile.FieldType.object "java/util/BitSet")), none, 4)
def i_X4_rests : JI := (⟨"UnheardBells$Rope", "rests", "()V"⟩, cX4_rests, 1, (Option.none : Option Jvm.ClassFile.FieldType), none, 1)
def i_J6_clear : JI := (⟨"java/util/TreeMap", "clear", "()V"⟩, cJ6_clear, 1, (Option.none : Option Jvm.ClassFile.FieldType), none, 0)
def i_X1_ends : JI := (⟨"UnheardBells$Machine", "ends", "()I"⟩, cX1_ends, 4, (Option.some Jvm.ClassFile.FieldType.int), none, 5)
def i_X10_isDone : JI := (⟨"UnheardBells$Command", "isDone", "(LUnheardBells$Machine;)Z"⟩, cX10_isDone, 2, (Option.some Jvm.ClassFile.FieldType.boolean), none, 10)
def i_X10_isCarriedOut : JI := (⟨"UnheardBells$Command", "isCarriedOut", "(LUnheardBells$Machine;)Z"⟩, cX10_isCarriedOut, 3, (Option.some Jvm.ClassFile.FieldType.boolean), (some [(0, 5, 6, 81)]), 11)
def i_X0_refused : JI := (⟨"UnheardBells", "refused", "(LUnheardBells$Refused;)I"⟩, cX0_refused, 2, (Option.some Jvm.ClassFile.FieldType.int), none, 0)
def i_J21_rangeCheck : JI := (⟨"java/util/Arrays", "rangeCheck", "(III)V"⟩, cJ21_rangeCheck, 3, (Option.none : Option Jvm.ClassFile.FieldType), none, 0)
def i_J21_fill : JI := (⟨"java/util/Arrays", "fill", "([BIIB)V"⟩, cJ21_fill, 5, (Option.none : Option Jvm.ClassFile.FieldType), none, 1)
def i_J22_fillNull : JI := (⟨"java/lang/StringLatin1", "fillNull", "([BII)V"⟩, cJ22_fillNull, 3, (Option.none : Option Jvm.ClassFile.FieldType), none, 2)
def i_J8_setLength__J9 : JI := (⟨"java/lang/AbstractStringBuilder", "setLength", "(I)V"⟩, cJ8_setLength, 2, (Option.none : Option Jvm.ClassFile.FieldType), none, 4)
def i_J9_setLength : JI := (⟨"java/lang/StringBuilder", "setLength", "(I)V"⟩, cJ9_setLength, 2, (Option.none : Option Jvm.ClassFile.FieldType), none, 5)
def i_J7_removeFirst : JI := (⟨"java/util/ArrayDeque", "removeFirst", "()Ljava/lang/Object;"⟩, cJ7_removeFirst, 2, (Option.some (Jvm.ClassFile.FieldType.object "java/lang/Object")), none, 2)
def i_X0_changed : JI := (⟨"UnheardBells", "changed", "(LUnheardBells$Machine;I)I"⟩, cX0_changed, 3, (Option.some Jvm.ClassFile.FieldType.int), none, 5)
def i_X0_run : JI := (⟨"UnheardBells", "run", "()I"⟩, cX0_run, 7, (Option.some Jvm.ClassFile.FieldType.int), (some [(0, 80, 91, 232), (0, 80, 111, 50), (0, 80, 128, 0), (91, 101, 128, 0), (111, 118, 128, 0), (128, 130, 128, 0)]), 12)
def i_X3_begins : JI := (⟨"UnheardBellsModel", "begins", "()V"⟩, cX3_begins, 1, (Option.none : Option Jvm.ClassFile.FieldType), none, 1)
def i_X3_sign : JI := (⟨"UnheardBellsModel", "sign", "()I"⟩, cX3_sign, 1, (Option.some Jvm.ClassFile.FieldType.int), none, 0)
def i_X3_isKnown : JI := (⟨"UnheardBellsModel", "isKnown", "(I)Z"⟩, cX3_isKnown, 1, (Option.some Jvm.ClassFile.FieldType.boolean), none, 0)
def i_X3_digits : JI := (⟨"UnheardBellsModel", "digits", "(I)I"⟩, cX3_digits, 4, (Option.some Jvm.ClassFile.FieldType.int), none, 1)
def i_X3_mark : JI := (⟨"UnheardBellsModel", "mark", "(I)V"⟩, cX3_mark, 2, (Option.none : Option Jvm.ClassFile.FieldType), none, 1)
def i_X3_behind : JI := (⟨"UnheardBellsModel", "behind", "(II)I"⟩, cX3_behind, 3, (Option.some Jvm.ClassFile.FieldType.int), none, 2)
def i_X3_plus : JI := (⟨"UnheardBellsModel", "plus", "()I"⟩, cX3_plus, 2, (Option.some Jvm.ClassFile.FieldType.int), none, 2)
def i_X3_fail : JI := (⟨"UnheardBellsModel", "fail", "(I)I"⟩, cX3_fail, 2, (Option.some Jvm.ClassFile.FieldType.int), none, 0)
def i_X3_isParish : JI := (⟨"UnheardBellsModel", "isParish", "(I)Z"⟩, cX3_isParish, 1, (Option.some Jvm.ClassFile.FieldType.boolean), none, 1)
def i_X3_refuses : JI := (⟨"UnheardBellsModel", "refuses", "(II)I"⟩, cX3_refuses, 3, (Option.some Jvm.ClassFile.FieldType.int), none, 1)
def i_X3_sets : JI := (⟨"UnheardBellsModel", "sets", "(II)I"⟩, cX3_sets, 4, (Option.some Jvm.ClassFile.FieldType.int), none, 2)
def i_X3_moves : JI := (⟨"UnheardBellsModel", "moves", "(II)I"⟩, cX3_moves, 3, (Option.some Jvm.ClassFile.FieldType.int), none, 3)
def i_X3_switches : JI := (⟨"UnheardBellsModel", "switches", "(II)I"⟩, cX3_switches, 6, (Option.some Jvm.ClassFile.FieldType.int), none, 3)
def i_X3_comes : JI := (⟨"UnheardBellsModel", "comes", "(I)I"⟩, cX3_comes, 3, (Option.some Jvm.ClassFile.FieldType.int), none, 2)
def i_X3_isAhead : JI := (⟨"UnheardBellsModel", "isAhead", "(IIII)Z"⟩, cX3_isAhead, 6, (Option.some Jvm.ClassFile.FieldType.boolean), none, 1)
def i_X3_waits : JI := (⟨"UnheardBellsModel", "waits", "(III)I"⟩, cX3_waits, 6, (Option.some Jvm.ClassFile.FieldType.int), none, 2)
def i_X3_oils : JI := (⟨"UnheardBellsModel", "oils", "(II)I"⟩, cX3_oils, 4, (Option.some Jvm.ClassFile.FieldType.int), none, 2)
def i_X3_goes : JI := (⟨"UnheardBellsModel", "goes", "(I)V"⟩, cX3_goes, 3, (Option.none : Option Jvm.ClassFile.FieldType), none, 0)
def i_X3_isHeard : JI := (⟨"UnheardBellsModel", "isHeard", "(II)Z"⟩, cX3_isHeard, 3, (Option.some Jvm.ClassFile.FieldType.boolean), none, 1)
def i_X3_answers : JI := (⟨"UnheardBellsModel", "answers", "(III)V"⟩, cX3_answers, 5, (Option.none : Option Jvm.ClassFile.FieldType), none, 1)
def i_X3_ringsNext : JI := (⟨"UnheardBellsModel", "ringsNext", "()I"⟩, cX3_ringsNext, 4, (Option.some Jvm.ClassFile.FieldType.int), none, 2)
def i_X3_rings : JI := (⟨"UnheardBellsModel", "rings", "()I"⟩, cX3_rings, 1, (Option.some Jvm.ClassFile.FieldType.int), none, 3)
def i_X3_hours : JI := (⟨"UnheardBellsModel", "hours", "()I"⟩, cX3_hours, 3, (Option.some Jvm.ClassFile.FieldType.int), none, 3)
def i_X3_endsDay : JI := (⟨"UnheardBellsModel", "endsDay", "()I"⟩, cX3_endsDay, 4, (Option.some Jvm.ClassFile.FieldType.int), none, 1)
def i_X3_waitingOf : JI := (⟨"UnheardBellsModel", "waitingOf", "(I)I"⟩, cX3_waitingOf, 4, (Option.some Jvm.ClassFile.FieldType.int), none, 1)
def i_X3_cancels : JI := (⟨"UnheardBellsModel", "cancels", "(I)I"⟩, cX3_cancels, 4, (Option.some Jvm.ClassFile.FieldType.int), none, 2)
def i_X3_does : JI := (⟨"UnheardBellsModel", "does", "(IIII)I"⟩, cX3_does, 5, (Option.some Jvm.ClassFile.FieldType.int), none, 4)
def i_X3_order : JI := (⟨"UnheardBellsModel", "order", "()V"⟩, cX3_order, 7, (Option.none : Option Jvm.ClassFile.FieldType), none, 5)
def i_X3_orders : JI := (⟨"UnheardBellsModel", "orders", "()I"⟩, cX3_orders, 2, (Option.some Jvm.ClassFile.FieldType.int), none, 6)
def i_X3_ends : JI := (⟨"UnheardBellsModel", "ends", "(I)I"⟩, cX3_ends, 3, (Option.some Jvm.ClassFile.FieldType.int), none, 1)
def i_X3_run : JI := (⟨"UnheardBellsModel", "run", "()I"⟩, cX3_run, 2, (Option.some Jvm.ClassFile.FieldType.int), none, 7)
def i_X0_append : JI := (⟨"UnheardBells", "append", "(I)I"⟩, cX0_append, 2, (Option.some Jvm.ClassFile.FieldType.int), none, 6)
def i_X3_append : JI := (⟨"UnheardBellsModel", "append", "(I)I"⟩, cX3_append, 2, (Option.some Jvm.ClassFile.FieldType.int), none, 1)
def i_X1_answersOf : JI := (⟨"UnheardBells$Machine", "answersOf", "(I)I"⟩, cX1_answersOf, 5, (Option.some Jvm.ClassFile.FieldType.int), none, 3)
def i_X1_isAhead : JI := (⟨"UnheardBells$Machine", "isAhead", "(II)Z"⟩, cX1_isAhead, 5, (Option.some Jvm.ClassFile.FieldType.boolean), none, 4)
def i_X1_ranked : JI := (⟨"UnheardBells$Machine", "ranked", "(I)I"⟩, cX1_ranked, 5, (Option.some Jvm.ClassFile.FieldType.int), none, 5)
def i_X0_ranked : JI := (⟨"UnheardBells", "ranked", "(I)I"⟩, cX0_ranked, 2, (Option.some Jvm.ClassFile.FieldType.int), none, 6)
def i_X3_sum : JI := (⟨"UnheardBellsModel", "sum", "(II)I"⟩, cX3_sum, 5, (Option.some Jvm.ClassFile.FieldType.int), none, 2)
def i_X3_ranked : JI := (⟨"UnheardBellsModel", "ranked", "(I)I"⟩, cX3_ranked, 6, (Option.some Jvm.ClassFile.FieldType.int), none, 3)
def i_X1_isRustier : JI := (⟨"UnheardBells$Machine", "isRustier", "(II)Z"⟩, cX1_isRustier, 5, (Option.some Jvm.ClassFile.FieldType.boolean), none, 3)
def i_X1_rustiest : JI := (⟨"UnheardBells$Machine", "rustiest", "(I)I"⟩, cX1_rustiest, 5, (Option.some Jvm.ClassFile.FieldType.int), none, 4)
def i_X0_rustiest : JI := (⟨"UnheardBells", "rustiest", "(I)I"⟩, cX0_rustiest, 2, (Option.some Jvm.ClassFile.FieldType.int), none, 5)
def i_X3_rustiest : JI := (⟨"UnheardBellsModel", "rustiest", "(I)I"⟩, cX3_rustiest, 6, (Option.some Jvm.ClassFile.FieldType.int), none, 1)
def i_J27_bitCount : JI := (⟨"java/lang/Long", "bitCount", "(J)I"⟩, cJ27_bitCount, 2, (Option.some Jvm.ClassFile.FieldType.int), none, 0)
def i_J32_cardinality : JI := (⟨"java/util/BitSet", "cardinality", "()I"⟩, cJ32_cardinality, 3, (Option.some Jvm.ClassFile.FieldType.int), none, 1)
def i_X1_busiest : JI := (⟨"UnheardBells$Machine", "busiest", "()I"⟩, cX1_busiest, 4, (Option.some Jvm.ClassFile.FieldType.int), none, 6)
def i_X0_busiest : JI := (⟨"UnheardBells", "busiest", "()I"⟩, cX0_busiest, 1, (Option.some Jvm.ClassFile.FieldType.int), none, 7)
def i_X3_bits : JI := (⟨"UnheardBellsModel", "bits", "(I)I"⟩, cX3_bits, 3, (Option.some Jvm.ClassFile.FieldType.int), none, 0)
def i_X3_busiest : JI := (⟨"UnheardBellsModel", "busiest", "()I"⟩, cX3_busiest, 3, (Option.some Jvm.ClassFile.FieldType.int), none, 1)
def i_X1_waitingIn : JI := (⟨"UnheardBells$Machine", "waitingIn", "(I)I"⟩, cX1_waitingIn, 5, (Option.some Jvm.ClassFile.FieldType.int), none, 4)
def i_X1_guessed : JI := (⟨"UnheardBells$Machine", "guessed", "(I)I"⟩, cX1_guessed, 5, (Option.some Jvm.ClassFile.FieldType.int), none, 8)
def i_X1_rustOf : JI := (⟨"UnheardBells$Machine", "rustOf", "(I)I"⟩, cX1_rustOf, 5, (Option.some Jvm.ClassFile.FieldType.int), none, 3)
def i_X1_ofParish : JI := (⟨"UnheardBells$Machine", "ofParish", "(II)I"⟩, cX1_ofParish, 3, (Option.some Jvm.ClassFile.FieldType.int), none, 9)
def i_X0_parishOf : JI := (⟨"UnheardBells", "parishOf", "(II)I"⟩, cX0_parishOf, 3, (Option.some Jvm.ClassFile.FieldType.int), none, 10)
def i_X3_hoursOf : JI := (⟨"UnheardBellsModel", "hoursOf", "(I)I"⟩, cX3_hoursOf, 4, (Option.some Jvm.ClassFile.FieldType.int), none, 3)
def i_X3_parishOf : JI := (⟨"UnheardBellsModel", "parishOf", "(II)I"⟩, cX3_parishOf, 3, (Option.some Jvm.ClassFile.FieldType.int), none, 4)
def i_X0_guessAgain : JI := (⟨"UnheardBells", "guessAgain", "(I)I"⟩, cX0_guessAgain, 2, (Option.some Jvm.ClassFile.FieldType.int), none, 7)
def i_X3_isHour : JI := (⟨"UnheardBellsModel", "isHour", "(I)Z"⟩, cX3_isHour, 1, (Option.some Jvm.ClassFile.FieldType.boolean), none, 1)
def i_X3_guess : JI := (⟨"UnheardBellsModel", "guess", "(I)I"⟩, cX3_guess, 2, (Option.some Jvm.ClassFile.FieldType.int), none, 3)
def i_X3_guessAgain : JI := (⟨"UnheardBellsModel", "guessAgain", "(I)I"⟩, cX3_guessAgain, 2, (Option.some Jvm.ClassFile.FieldType.int), none, 4)
def i_X0_guess : JI := (⟨"UnheardBells", "guess", "(I)I"⟩, cX0_guess, 2, (Option.some Jvm.ClassFile.FieldType.int), none, 8)
def i_X1_setOf : JI := (⟨"UnheardBells$Machine", "setOf", "(I)I"⟩, cX1_setOf, 5, (Option.some Jvm.ClassFile.FieldType.int), none, 6)
def i_X0_answered : JI := (⟨"UnheardBells", "answered", "(I)I"⟩, cX0_answered, 2, (Option.some Jvm.ClassFile.FieldType.int), none, 7)
def i_X3_answered : JI := (⟨"UnheardBellsModel", "answered", "(I)I"⟩, cX3_answered, 2, (Option.some Jvm.ClassFile.FieldType.int), none, 2)
def i_X7_of : JI := (⟨"UnheardBells$Answer", "of", "(I)I"⟩, cX7_of, 2, (Option.some Jvm.ClassFile.FieldType.int), none, 0)
def i_X1_ofAnswer : JI := (⟨"UnheardBells$Machine", "ofAnswer", "(II)I"⟩, cX1_ofAnswer, 6, (Option.some Jvm.ClassFile.FieldType.int), none, 4)
def i_X0_answerOf : JI := (⟨"UnheardBells", "answerOf", "(II)I"⟩, cX0_answerOf, 3, (Option.some Jvm.ClassFile.FieldType.int), none, 5)
def i_X3_answerOf : JI := (⟨"UnheardBellsModel", "answerOf", "(II)I"⟩, cX3_answerOf, 3, (Option.some Jvm.ClassFile.FieldType.int), none, 1)
def i_X0_forecastAgain : JI := (⟨"UnheardBells", "forecastAgain", "()I"⟩, cX0_forecastAgain, 1, (Option.some Jvm.ClassFile.FieldType.int), none, 8)
def i_X3_forecast : JI := (⟨"UnheardBellsModel", "forecast", "()I"⟩, cX3_forecast, 2, (Option.some Jvm.ClassFile.FieldType.int), none, 3)
def i_X3_forecastAgain : JI := (⟨"UnheardBellsModel", "forecastAgain", "()I"⟩, cX3_forecastAgain, 1, (Option.some Jvm.ClassFile.FieldType.int), none, 4)
def i_X0_forecast : JI := (⟨"UnheardBells", "forecast", "()I"⟩, cX0_forecast, 1, (Option.some Jvm.ClassFile.FieldType.int), none, 10)
def i_X0_would : JI := (⟨"UnheardBells", "would", "(II)I"⟩, cX0_would, 3, (Option.some Jvm.ClassFile.FieldType.int), none, 3)
def i_X3_would : JI := (⟨"UnheardBellsModel", "would", "(II)I"⟩, cX3_would, 3, (Option.some Jvm.ClassFile.FieldType.int), none, 2)
def i_J36_isElementIndex : JI := (⟨"java/util/LinkedList", "isElementIndex", "(I)Z"⟩, cJ36_isElementIndex, 2, (Option.some Jvm.ClassFile.FieldType.boolean), none, 0)
def i_J36_checkElementIndex : JI := (⟨"java/util/LinkedList", "checkElementIndex", "(I)V"⟩, cJ36_checkElementIndex, 2, (Option.none : Option Jvm.ClassFile.FieldType), none, 1)
def i_J36_get : JI := (⟨"java/util/LinkedList", "get", "(I)Ljava/lang/Object;"⟩, cJ36_get, 2, (Option.some (Jvm.ClassFile.FieldType.object "java/lang/Object")), none, 2)
def i_X6_of : JI := (⟨"UnheardBells$Pull", "of", "(I)I"⟩, cX6_of, 2, (Option.some Jvm.ClassFile.FieldType.int), none, 0)
def i_X0_waiting : JI := (⟨"UnheardBells", "waiting", "(II)I"⟩, cX0_waiting, 4, (Option.some Jvm.ClassFile.FieldType.int), none, 7)
def i_X3_waiting : JI := (⟨"UnheardBellsModel", "waiting", "(II)I"⟩, cX3_waiting, 3, (Option.some Jvm.ClassFile.FieldType.int), none, 1)
def i_X0_end : JI := (⟨"UnheardBells", "end", "()I"⟩, cX0_end, 2, (Option.some Jvm.ClassFile.FieldType.int), none, 8)
def i_X3_end : JI := (⟨"UnheardBellsModel", "end", "()I"⟩, cX3_end, 1, (Option.some Jvm.ClassFile.FieldType.int), none, 2)
def i_X0_hour : JI := (⟨"UnheardBells", "hour", "()I"⟩, cX0_hour, 3, (Option.some Jvm.ClassFile.FieldType.int), (some [(8, 20, 21, 50)]), 10)
def i_X3_hour : JI := (⟨"UnheardBellsModel", "hour", "()I"⟩, cX3_hour, 1, (Option.some Jvm.ClassFile.FieldType.int), none, 4)
def i_X0_ring : JI := (⟨"UnheardBells", "ring", "()I"⟩, cX0_ring, 3, (Option.some Jvm.ClassFile.FieldType.int), (some [(8, 20, 21, 50)]), 10)
def i_X3_ring : JI := (⟨"UnheardBellsModel", "ring", "()I"⟩, cX3_ring, 1, (Option.some Jvm.ClassFile.FieldType.int), none, 4)
def i_X0_cancel : JI := (⟨"UnheardBells", "cancel", "(I)I"⟩, cX0_cancel, 4, (Option.some Jvm.ClassFile.FieldType.int), (some [(23, 36, 37, 50)]), 8)
def i_X3_cancel : JI := (⟨"UnheardBellsModel", "cancel", "(I)I"⟩, cX3_cancel, 2, (Option.some Jvm.ClassFile.FieldType.int), none, 3)
def i_X0_pull : JI := (⟨"UnheardBells", "pull", "(III)I"⟩, cX0_pull, 6, (Option.some Jvm.ClassFile.FieldType.int), (some [(42, 58, 59, 50)]), 8)
def i_X3_pull : JI := (⟨"UnheardBellsModel", "pull", "(III)I"⟩, cX3_pull, 4, (Option.some Jvm.ClassFile.FieldType.int), none, 3)
def i_X1_ofRope : JI := (⟨"UnheardBells$Machine", "ofRope", "(II)I"⟩, cX1_ofRope, 4, (Option.some Jvm.ClassFile.FieldType.int), none, 5)
def i_X0_ropeOf : JI := (⟨"UnheardBells", "ropeOf", "(II)I"⟩, cX0_ropeOf, 3, (Option.some Jvm.ClassFile.FieldType.int), none, 6)
def i_X3_ropeOf : JI := (⟨"UnheardBellsModel", "ropeOf", "(II)I"⟩, cX3_ropeOf, 3, (Option.some Jvm.ClassFile.FieldType.int), none, 2)
def i_X0_oil : JI := (⟨"UnheardBells", "oil", "(II)I"⟩, cX0_oil, 5, (Option.some Jvm.ClassFile.FieldType.int), (some [(34, 48, 49, 50)]), 8)
def i_X3_oil : JI := (⟨"UnheardBellsModel", "oil", "(II)I"⟩, cX3_oil, 3, (Option.some Jvm.ClassFile.FieldType.int), none, 3)
def i_X0_sensor : JI := (⟨"UnheardBells", "sensor", "(II)I"⟩, cX0_sensor, 5, (Option.some Jvm.ClassFile.FieldType.int), (some [(36, 59, 60, 50)]), 8)
def i_X3_sensor : JI := (⟨"UnheardBellsModel", "sensor", "(II)I"⟩, cX3_sensor, 3, (Option.some Jvm.ClassFile.FieldType.int), none, 4)
def i_X0_move : JI := (⟨"UnheardBells", "move", "(II)I"⟩, cX0_move, 5, (Option.some Jvm.ClassFile.FieldType.int), (some [(34, 48, 49, 50)]), 8)
def i_X3_move : JI := (⟨"UnheardBellsModel", "move", "(II)I"⟩, cX3_move, 3, (Option.some Jvm.ClassFile.FieldType.int), none, 4)
def i_X0_rope : JI := (⟨"UnheardBells", "rope", "(I)I"⟩, cX0_rope, 4, (Option.some Jvm.ClassFile.FieldType.int), (some [(19, 32, 33, 50)]), 8)
def i_X3_rope : JI := (⟨"UnheardBellsModel", "rope", "(I)I"⟩, cX3_rope, 2, (Option.some Jvm.ClassFile.FieldType.int), none, 3)
def i_L_law : JI := (⟨"UnheardBellsLaw", "law", "([I)Z"⟩, cL_law, 8, (Option.some Jvm.ClassFile.FieldType.boolean), none, 21)
def jinf (m : Nat) : JI :=
  (bif Nat.ble m 196 then (bif Nat.ble m 97 then (bif Nat.ble m 48 then (bif Nat.ble m 23 then (bif Nat.ble m 11 then (bif Nat.ble m 5 then (bif Nat.ble m 2 then (bif Nat.ble m 0 then i_J0_init__J2 else (bif Nat.ble m 1 then i_J1_init__J2 else i_J2_init)) else (bif Nat.ble m 3 then i_X2_init else (bif Nat.ble m 4 then i_J0_init__J4 else i_J3_init__J4))) else (bif Nat.ble m 8 then (bif Nat.ble m 6 then i_J4_init_2 else (bif Nat.ble m 7 then i_J4_init else i_J5_init__J6)) else (bif Nat.ble m 9 then i_J6_init else (bif Nat.ble m 10 then i_J0_init__J7 else i_J7_init)))) else (bif Nat.ble m 17 then (bif Nat.ble m 14 then (bif Nat.ble m 12 then i_X1_init else (bif Nat.ble m 13 then i_J8_init__J9 else i_J9_init)) else (bif Nat.ble m 15 then i_X0_init else (bif Nat.ble m 16 then i_X3_init else i_J12_init))) else (bif Nat.ble m 20 then (bif Nat.ble m 18 then i_J2_iterator else (bif Nat.ble m 19 then i_J12_hasNext else i_J12_checkForComodification)) else (bif Nat.ble m 21 then i_J12_next else (bif Nat.ble m 22 then i_X4_init else i_X4_copy))))) else (bif Nat.ble m 35 then (bif Nat.ble m 29 then (bif Nat.ble m 26 then (bif Nat.ble m 24 then i_J2_add_2 else (bif Nat.ble m 25 then i_J2_add else i_J23_init)) else (bif Nat.ble m 27 then i_J4_iterator else (bif Nat.ble m 28 then i_J7_isEmpty else i_J23_hasNext))) else (bif Nat.ble m 32 then (bif Nat.ble m 30 then i_J7_elementAt else (bif Nat.ble m 31 then i_J7_inc else i_J7_pollFirst)) else (bif Nat.ble m 33 then i_J7_poll else (bif Nat.ble m 34 then i_J23_next else i_J20_max)))) else (bif Nat.ble m 41 then (bif Nat.ble m 38 then (bif Nat.ble m 36 then i_J19_newLength else (bif Nat.ble m 37 then i_J20_min else i_J21_copyOf_3)) else (bif Nat.ble m 39 then i_J21_copyOf_2 else (bif Nat.ble m 40 then i_J4_grow else i_X2_compare_2))) else (bif Nat.ble m 44 then (bif Nat.ble m 42 then i_X2_compare else (bif Nat.ble m 43 then i_J4_siftUpUsingComparator else i_J4_siftUp)) else (bif Nat.ble m 46 then (bif Nat.ble m 45 then i_J4_offer else i_J4_add) else (bif Nat.ble m 47 then i_J0_init__J29 else i_J28_init__J29)))))) else (bif Nat.ble m 72 then (bif Nat.ble m 60 then (bif Nat.ble m 54 then (bif Nat.ble m 51 then (bif Nat.ble m 49 then i_J29_init else (bif Nat.ble m 50 then i_J6_navigableKeySet else i_J6_keySet)) else (bif Nat.ble m 52 then i_J6_getFirstEntry else (bif Nat.ble m 53 then i_J30_init__J31 else i_J31_init))) else (bif Nat.ble m 57 then (bif Nat.ble m 55 then i_J6_keyIterator else (bif Nat.ble m 56 then i_J29_iterator else i_J30_hasNext__J31)) else (bif Nat.ble m 58 then i_J6_successor else (bif Nat.ble m 59 then i_J30_nextEntry__J31 else i_J31_next)))) else (bif Nat.ble m 66 then (bif Nat.ble m 63 then (bif Nat.ble m 61 then i_J25_intValue else (bif Nat.ble m 62 then i_J32_wordIndex else i_J32_initWords)) else (bif Nat.ble m 64 then i_J32_init else (bif Nat.ble m 65 then i_J24_init__J25 else i_J25_init))) else (bif Nat.ble m 69 then (bif Nat.ble m 67 then i_J25_valueOf else (bif Nat.ble m 68 then i_J13_requireNonNull else i_J25_compare)) else (bif Nat.ble m 70 then i_J25_compareTo_2 else (bif Nat.ble m 71 then i_J25_compareTo else i_J6_getEntry))))) else (bif Nat.ble m 84 then (bif Nat.ble m 78 then (bif Nat.ble m 75 then (bif Nat.ble m 73 then i_J6_get else (bif Nat.ble m 74 then i_J32_ensureCapacity else i_J32_checkInvariants)) else (bif Nat.ble m 76 then i_J32_or else (bif Nat.ble m 77 then i_J6_compare else i_J33_init))) else (bif Nat.ble m 81 then (bif Nat.ble m 79 then i_J6_addEntryToEmptyMap else (bif Nat.ble m 80 then i_J6_parentOf else i_J6_leftOf)) else (bif Nat.ble m 82 then i_J6_rightOf else (bif Nat.ble m 83 then i_J6_colorOf else i_J6_setColor)))) else (bif Nat.ble m 90 then (bif Nat.ble m 87 then (bif Nat.ble m 85 then i_J6_rotateLeft else (bif Nat.ble m 86 then i_J6_rotateRight else i_J6_fixAfterInsertion)) else (bif Nat.ble m 88 then i_J6_addEntry else (bif Nat.ble m 89 then i_J6_put_2 else i_J6_put))) else (bif Nat.ble m 93 then (bif Nat.ble m 91 then i_J7_sub else (bif Nat.ble m 92 then i_J7_size else i_J34_init)) else (bif Nat.ble m 95 then (bif Nat.ble m 94 then i_J7_iterator else i_J34_hasNext) else (bif Nat.ble m 96 then i_J7_nonNullElementAt else i_J34_next))))))) else (bif Nat.ble m 146 then (bif Nat.ble m 121 then (bif Nat.ble m 109 then (bif Nat.ble m 103 then (bif Nat.ble m 100 then (bif Nat.ble m 98 then i_J7_newCapacity else (bif Nat.ble m 99 then i_J7_grow else i_J7_addLast)) else (bif Nat.ble m 101 then i_X1_copy else (bif Nat.ble m 102 then i_J7_circularClear else i_J7_clear))) else (bif Nat.ble m 106 then (bif Nat.ble m 104 then i_J2_size else (bif Nat.ble m 105 then i_X0_restore else i_X3_lays)) else (bif Nat.ble m 107 then i_X3_restore else (bif Nat.ble m 108 then i_X0_save else i_X3_save)))) else (bif Nat.ble m 115 then (bif Nat.ble m 112 then (bif Nat.ble m 110 then i_J7_dec else (bif Nat.ble m 111 then i_J7_pollLast else i_J7_removeLast)) else (bif Nat.ble m 113 then i_X0_undo else (bif Nat.ble m 114 then i_X3_undo else i_X0_lambda_new_0))) else (bif Nat.ble m 118 then (bif Nat.ble m 116 then i_X1_all else (bif Nat.ble m 117 then i_X0_answerShare else i_X3_answerShare)) else (bif Nat.ble m 119 then i_X1_rust else (bif Nat.ble m 120 then i_X0_meanRust else i_X3_at))))) else (bif Nat.ble m 133 then (bif Nat.ble m 127 then (bif Nat.ble m 124 then (bif Nat.ble m 122 then i_X3_rust else (bif Nat.ble m 123 then i_X3_meanRust else i_J4_size)) else (bif Nat.ble m 125 then i_X1_counted else (bif Nat.ble m 126 then i_J0_isEmpty__J4 else i_J4_siftDownUsingComparator))) else (bif Nat.ble m 130 then (bif Nat.ble m 128 then i_J4_poll else (bif Nat.ble m 129 then i_J14_checkIndex else i_J13_checkIndex)) else (bif Nat.ble m 131 then i_J2_elementData else (bif Nat.ble m 132 then i_J2_get else i_X1_answeredIn)))) else (bif Nat.ble m 139 then (bif Nat.ble m 136 then (bif Nat.ble m 134 then i_J32_get else (bif Nat.ble m 135 then i_X4_wouldAnswer else i_X4_answers)) else (bif Nat.ble m 137 then i_X7_init else (bif Nat.ble m 138 then i_J7_addFirst else i_J32_expandTo))) else (bif Nat.ble m 142 then (bif Nat.ble m 140 then i_J32_set else (bif Nat.ble m 141 then i_X1_remembers else i_X1_rings)) else (bif Nat.ble m 144 then (bif Nat.ble m 143 then i_X1_forecast else i_J0_init__J36) else (bif Nat.ble m 145 then i_J1_init__J36 else i_J35_init__J36)))))) else (bif Nat.ble m 171 then (bif Nat.ble m 158 then (bif Nat.ble m 152 then (bif Nat.ble m 149 then (bif Nat.ble m 147 then i_J36_init else (bif Nat.ble m 148 then i_J37_init else i_J36_linkLast)) else (bif Nat.ble m 150 then i_J36_addLast else (bif Nat.ble m 151 then i_X1_inOrder else i_J36_isPositionIndex))) else (bif Nat.ble m 155 then (bif Nat.ble m 153 then i_J36_checkPositionIndex else (bif Nat.ble m 154 then i_J36_node else i_J41_init)) else (bif Nat.ble m 156 then i_J36_listIterator else (bif Nat.ble m 157 then i_J1_listIterator__J36 else i_J35_iterator__J36)))) else (bif Nat.ble m 164 then (bif Nat.ble m 161 then (bif Nat.ble m 159 then i_J41_hasNext else (bif Nat.ble m 160 then i_J41_checkForComodification else i_J41_next)) else (bif Nat.ble m 162 then i_X1_forecastOf else (bif Nat.ble m 163 then i_X1_forecastAgain else i_X1_answeredOf))) else (bif Nat.ble m 167 then (bif Nat.ble m 165 then i_X1_ropesOf else (bif Nat.ble m 166 then i_X1_isMore else i_X1_guess)) else (bif Nat.ble m 169 then (bif Nat.ble m 168 then i_J25_numberOfTrailingZeros else i_J27_numberOfTrailingZeros) else (bif Nat.ble m 170 then i_J32_nextSetBit else i_X1_guessAgain))))) else (bif Nat.ble m 183 then (bif Nat.ble m 177 then (bif Nat.ble m 174 then (bif Nat.ble m 172 then i_X1_isBalanced else (bif Nat.ble m 173 then i_X0_isBalanced else i_X3_isBalanced)) else (bif Nat.ble m 175 then i_J8_length__J9 else (bif Nat.ble m 176 then i_J9_length else i_X0_account))) else (bif Nat.ble m 180 then (bif Nat.ble m 178 then i_X3_isIn else (bif Nat.ble m 179 then i_X3_account else i_X0_reason)) else (bif Nat.ble m 181 then i_X3_reason else (bif Nat.ble m 182 then i_J10_coder else i_J10_length)))) else (bif Nat.ble m 189 then (bif Nat.ble m 186 then (bif Nat.ble m 184 then i_X0_isIn else (bif Nat.ble m 185 then i_J10_isLatin1 else i_J10_checkIndex)) else (bif Nat.ble m 187 then i_J22_charAt else (bif Nat.ble m 188 then i_J10_charAt else i_X0_character))) else (bif Nat.ble m 192 then (bif Nat.ble m 190 then i_X3_character else (bif Nat.ble m 191 then i_J8_newCapacity__J9 else i_J21_copyOf)) else (bif Nat.ble m 194 then (bif Nat.ble m 193 then i_J8_ensureCapacityInternal__J9 else i_J8_inflateIfNeededFor__J9) else (bif Nat.ble m 195 then i_J10_getBytes else i_J8_putStringAt__J9)))))))) else (bif Nat.ble m 295 then (bif Nat.ble m 245 then (bif Nat.ble m 220 then (bif Nat.ble m 208 then (bif Nat.ble m 202 then (bif Nat.ble m 199 then (bif Nat.ble m 197 then i_J8_append__J9 else (bif Nat.ble m 198 then i_J9_append else i_J25_stringSize)) else (bif Nat.ble m 200 then i_J8_isLatin1__J9 else (bif Nat.ble m 201 then i_J25_getChars else i_J8_append_3__J9))) else (bif Nat.ble m 205 then (bif Nat.ble m 203 then i_J9_append_3 else (bif Nat.ble m 204 then i_J22_canEncode else i_J8_append_2__J9)) else (bif Nat.ble m 206 then i_J9_append_2 else (bif Nat.ble m 207 then i_J8_getValue__J9 else i_J21_copyOfRangeByte)))) else (bif Nat.ble m 214 then (bif Nat.ble m 211 then (bif Nat.ble m 209 then i_J21_copyOfRange else (bif Nat.ble m 210 then i_J10_init_2 else i_J10_init)) else (bif Nat.ble m 212 then i_J9_toString else (bif Nat.ble m 213 then i_X1_dayText else i_X0_tellDay))) else (bif Nat.ble m 217 then (bif Nat.ble m 215 then i_X3_writes else (bif Nat.ble m 216 then i_X3_writesNumber else i_X3_ropesOf)) else (bif Nat.ble m 218 then i_X3_guessed else (bif Nat.ble m 219 then i_X3_tellDay else i_X1_isRope))))) else (bif Nat.ble m 232 then (bif Nat.ble m 226 then (bif Nat.ble m 223 then (bif Nat.ble m 221 then i_X1_text else (bif Nat.ble m 222 then i_X0_tell else i_X3_isRope)) else (bif Nat.ble m 224 then i_X3_pulled else (bif Nat.ble m 225 then i_X3_tell else i_X8_init))) else (bif Nat.ble m 229 then (bif Nat.ble m 227 then i_J8_charAt__J9 else (bif Nat.ble m 228 then i_J9_charAt else i_X8_here)) else (bif Nat.ble m 230 then i_X8_isKind else (bif Nat.ble m 231 then i_J15_init_3__X9 else i_J16_init_2__X9)))) else (bif Nat.ble m 238 then (bif Nat.ble m 235 then (bif Nat.ble m 233 then i_X9_init else (bif Nat.ble m 234 then i_X8_needs else i_X10_init)) else (bif Nat.ble m 236 then i_X8_number else (bif Nat.ble m 237 then i_X8_takes else i_X8_numberBehind))) else (bif Nat.ble m 241 then (bif Nat.ble m 239 then i_X8_isOn else (bif Nat.ble m 240 then i_X8_rest else i_X8_command)) else (bif Nat.ble m 243 then (bif Nat.ble m 242 then i_X8_commands else i_J36_size) else (bif Nat.ble m 244 then i_J0_isEmpty__J36 else i_J36_unlinkFirst)))))) else (bif Nat.ble m 270 then (bif Nat.ble m 257 then (bif Nat.ble m 251 then (bif Nat.ble m 248 then (bif Nat.ble m 246 then i_J36_removeFirst else (bif Nat.ble m 247 then i_X0_isMuch else i_J15_init_3__X5)) else (bif Nat.ble m 249 then i_J16_init_2__X5 else (bif Nat.ble m 250 then i_X5_init else i_X0_refuse))) else (bif Nat.ble m 254 then (bif Nat.ble m 252 then i_X1_oils else (bif Nat.ble m 253 then i_X0_isParish else i_X1_moves)) else (bif Nat.ble m 255 then i_X1_sensors else (bif Nat.ble m 256 then i_X1_puts else i_X0_isHour)))) else (bif Nat.ble m 263 then (bif Nat.ble m 260 then (bif Nat.ble m 258 then i_X0_isStrength else (bif Nat.ble m 259 then i_X6_init else i_X1_waits)) else (bif Nat.ble m 261 then i_X1_waitingOf else (bif Nat.ble m 262 then i_J4_clear else i_X1_cancels))) else (bif Nat.ble m 266 then (bif Nat.ble m 264 then i_X10_isOfRope else (bif Nat.ble m 265 then i_X1_brings else i_X1_ringsNext)) else (bif Nat.ble m 268 then (bif Nat.ble m 267 then i_J4_peek else i_X1_ringsHour) else (bif Nat.ble m 269 then i_J0_init__J38 else i_J38_init))))) else (bif Nat.ble m 282 then (bif Nat.ble m 276 then (bif Nat.ble m 273 then (bif Nat.ble m 271 then i_J6_values else (bif Nat.ble m 272 then i_J30_init__J42 else i_J42_init)) else (bif Nat.ble m 274 then i_J38_iterator else (bif Nat.ble m 275 then i_J30_hasNext__J42 else i_J30_nextEntry__J42))) else (bif Nat.ble m 279 then (bif Nat.ble m 277 then i_J42_next else (bif Nat.ble m 278 then i_X1_answeredToday else i_X4_rests)) else (bif Nat.ble m 280 then i_J6_clear else (bif Nat.ble m 281 then i_X1_ends else i_X10_isDone)))) else (bif Nat.ble m 288 then (bif Nat.ble m 285 then (bif Nat.ble m 283 then i_X10_isCarriedOut else (bif Nat.ble m 284 then i_X0_refused else i_J21_rangeCheck)) else (bif Nat.ble m 286 then i_J21_fill else (bif Nat.ble m 287 then i_J22_fillNull else i_J8_setLength__J9))) else (bif Nat.ble m 291 then (bif Nat.ble m 289 then i_J9_setLength else (bif Nat.ble m 290 then i_J7_removeFirst else i_X0_changed)) else (bif Nat.ble m 293 then (bif Nat.ble m 292 then i_X0_run else i_X3_begins) else (bif Nat.ble m 294 then i_X3_sign else i_X3_isKnown))))))) else (bif Nat.ble m 344 then (bif Nat.ble m 319 then (bif Nat.ble m 307 then (bif Nat.ble m 301 then (bif Nat.ble m 298 then (bif Nat.ble m 296 then i_X3_digits else (bif Nat.ble m 297 then i_X3_mark else i_X3_behind)) else (bif Nat.ble m 299 then i_X3_plus else (bif Nat.ble m 300 then i_X3_fail else i_X3_isParish))) else (bif Nat.ble m 304 then (bif Nat.ble m 302 then i_X3_refuses else (bif Nat.ble m 303 then i_X3_sets else i_X3_moves)) else (bif Nat.ble m 305 then i_X3_switches else (bif Nat.ble m 306 then i_X3_comes else i_X3_isAhead)))) else (bif Nat.ble m 313 then (bif Nat.ble m 310 then (bif Nat.ble m 308 then i_X3_waits else (bif Nat.ble m 309 then i_X3_oils else i_X3_goes)) else (bif Nat.ble m 311 then i_X3_isHeard else (bif Nat.ble m 312 then i_X3_answers else i_X3_ringsNext))) else (bif Nat.ble m 316 then (bif Nat.ble m 314 then i_X3_rings else (bif Nat.ble m 315 then i_X3_hours else i_X3_endsDay)) else (bif Nat.ble m 317 then i_X3_waitingOf else (bif Nat.ble m 318 then i_X3_cancels else i_X3_does))))) else (bif Nat.ble m 331 then (bif Nat.ble m 325 then (bif Nat.ble m 322 then (bif Nat.ble m 320 then i_X3_order else (bif Nat.ble m 321 then i_X3_orders else i_X3_ends)) else (bif Nat.ble m 323 then i_X3_run else (bif Nat.ble m 324 then i_X0_append else i_X3_append))) else (bif Nat.ble m 328 then (bif Nat.ble m 326 then i_X1_answersOf else (bif Nat.ble m 327 then i_X1_isAhead else i_X1_ranked)) else (bif Nat.ble m 329 then i_X0_ranked else (bif Nat.ble m 330 then i_X3_sum else i_X3_ranked)))) else (bif Nat.ble m 337 then (bif Nat.ble m 334 then (bif Nat.ble m 332 then i_X1_isRustier else (bif Nat.ble m 333 then i_X1_rustiest else i_X0_rustiest)) else (bif Nat.ble m 335 then i_X3_rustiest else (bif Nat.ble m 336 then i_J27_bitCount else i_J32_cardinality))) else (bif Nat.ble m 340 then (bif Nat.ble m 338 then i_X1_busiest else (bif Nat.ble m 339 then i_X0_busiest else i_X3_bits)) else (bif Nat.ble m 342 then (bif Nat.ble m 341 then i_X3_busiest else i_X1_waitingIn) else (bif Nat.ble m 343 then i_X1_guessed else i_X1_rustOf)))))) else (bif Nat.ble m 369 then (bif Nat.ble m 356 then (bif Nat.ble m 350 then (bif Nat.ble m 347 then (bif Nat.ble m 345 then i_X1_ofParish else (bif Nat.ble m 346 then i_X0_parishOf else i_X3_hoursOf)) else (bif Nat.ble m 348 then i_X3_parishOf else (bif Nat.ble m 349 then i_X0_guessAgain else i_X3_isHour))) else (bif Nat.ble m 353 then (bif Nat.ble m 351 then i_X3_guess else (bif Nat.ble m 352 then i_X3_guessAgain else i_X0_guess)) else (bif Nat.ble m 354 then i_X1_setOf else (bif Nat.ble m 355 then i_X0_answered else i_X3_answered)))) else (bif Nat.ble m 362 then (bif Nat.ble m 359 then (bif Nat.ble m 357 then i_X7_of else (bif Nat.ble m 358 then i_X1_ofAnswer else i_X0_answerOf)) else (bif Nat.ble m 360 then i_X3_answerOf else (bif Nat.ble m 361 then i_X0_forecastAgain else i_X3_forecast))) else (bif Nat.ble m 365 then (bif Nat.ble m 363 then i_X3_forecastAgain else (bif Nat.ble m 364 then i_X0_forecast else i_X0_would)) else (bif Nat.ble m 367 then (bif Nat.ble m 366 then i_X3_would else i_J36_isElementIndex) else (bif Nat.ble m 368 then i_J36_checkElementIndex else i_J36_get))))) else (bif Nat.ble m 381 then (bif Nat.ble m 375 then (bif Nat.ble m 372 then (bif Nat.ble m 370 then i_X6_of else (bif Nat.ble m 371 then i_X0_waiting else i_X3_waiting)) else (bif Nat.ble m 373 then i_X0_end else (bif Nat.ble m 374 then i_X3_end else i_X0_hour))) else (bif Nat.ble m 378 then (bif Nat.ble m 376 then i_X3_hour else (bif Nat.ble m 377 then i_X0_ring else i_X3_ring)) else (bif Nat.ble m 379 then i_X0_cancel else (bif Nat.ble m 380 then i_X3_cancel else i_X0_pull)))) else (bif Nat.ble m 387 then (bif Nat.ble m 384 then (bif Nat.ble m 382 then i_X3_pull else (bif Nat.ble m 383 then i_X1_ofRope else i_X0_ropeOf)) else (bif Nat.ble m 385 then i_X3_ropeOf else (bif Nat.ble m 386 then i_X0_oil else i_X3_oil))) else (bif Nat.ble m 390 then (bif Nat.ble m 388 then i_X0_sensor else (bif Nat.ble m 389 then i_X3_sensor else i_X0_move)) else (bif Nat.ble m 392 then (bif Nat.ble m 391 then i_X3_move else i_X0_rope) else (bif Nat.ble m 393 then i_X3_rope else i_L_law)))))))))
