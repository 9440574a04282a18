/-! values(): words and code -/
theorem wv_78 : Cond.fieldLink "IdealProver$Order" 13 "IdealProver$Order" "$VALUES" "[LIdealProver$Order;" ∈ jm_tb := jm_in 78 (by decide +kernel) rfl
theorem wv_80 : Cond.methodLink "IdealProver$Order" 17 ⟨"[LIdealProver$Order;", "clone", "()Ljava/lang/Object;"⟩ ∈ jm_tb := jm_in 80 (by decide +kernel) rfl
theorem wv_81 : Cond.sameMethod "[LIdealProver$Order;" "java/lang/Object" "clone" "()Ljava/lang/Object;" ∈ jm_tb := jm_in 81 (by decide +kernel) rfl
theorem wv_82 : Cond.native ⟨"java/lang/Object", "clone", "()Ljava/lang/Object;"⟩ ∈ jm_tb := jm_in 82 (by decide +kernel) rfl
theorem wv_83 : Cond.instanceMethod ⟨"java/lang/Object", "clone", "()Ljava/lang/Object;"⟩ ∈ jm_tb := jm_in 83 (by decide +kernel) rfl
theorem wv_84 : Cond.selects "[LIdealProver$Order;" ⟨"[LIdealProver$Order;", "clone", "()Ljava/lang/Object;"⟩ ⟨"java/lang/Object", "clone", "()Ljava/lang/Object;"⟩ ∈ jm_tb := jm_in 84 (by decide +kernel) rfl
theorem wv_85 : Cond.castable "[LIdealProver$Order;" "java/lang/Cloneable" ∈ jm_tb := jm_in 85 (by decide +kernel) rfl
theorem wv_87 : Cond.classLink "IdealProver$Order" 18 "[LIdealProver$Order;" ∈ jm_tb := jm_in 87 (by decide +kernel) rfl
theorem dv_0 : decode (mC 1) 0 = .ok (.getstatic 13, 3) := by decide +kernel
theorem dv_3 : decode (mC 1) 3 = .ok (.invokevirtual 17, 3) := by decide +kernel
theorem dv_6 : decode (mC 1) 6 = .ok (.checkcast 18, 3) := by decide +kernel
theorem dv_9 : decode (mC 1) 9 = .ok (.areturn, 1) := by decide +kernel
