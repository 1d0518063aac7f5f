/-! the plain law: the twin's loop over an expression -/
set_option maxRecDepth 100000
section JL
variable {T : tw_T} {x : txT} {b d ℓ m : Nat} {C : List Int32} {W W0 Q : List Nat}
theorem isS.lt {k : Nat} (h : isS x b k) : b < x.1 := by
  by_cases hl : x.1 ≤ b
  · have := h.1; rw [ki_0 hl] at this; omega
  · omega
theorem isW.lt {k : Nat} (h : isW x b k) : b < x.1 := by
  by_cases hl : x.1 ≤ b
  · have := h.1; rw [ki_0 hl] at this; omega
  · omega
theorem isS.nw {k j : Nat} (h : isS x b k) : ¬ isW x b j := fun z => by have h1 := h.1; have h2 := z.1; omega
theorem isW.ns {k j : Nat} (h : isW x b k) : ¬ isS x b j := fun z => by have h1 := h.1; have h2 := z.1; omega
theorem isS.un {k j : Nat} (h : isS x b k) (hne : k ≠ j) : ¬ isS x b j := fun z => hne (h.2.symm.trans z.2)
theorem sg_1 (h : jC T x b d C W) {k : Nat} (hk : k < 128) (hs : isS x b k) : J_isSign (nI k) T = some (nI 1, T) := by
  obtain ⟨v, s1, h1⟩ := J_sg h.1 h.2.1 hk
  rcases h1 with ⟨-, e⟩ | ⟨e, -⟩
  · rw [s1, e]
  · exact absurd hs e
theorem sg_0 (h : jC T x b d C W) {k : Nat} (hk : k < 128) (hs : ¬ isS x b k) : J_isSign (nI k) T = some (nI 0, T) := by
  obtain ⟨v, s1, h1⟩ := J_sg h.1 h.2.1 hk
  rcases h1 with ⟨e, -⟩ | ⟨-, e⟩
  · exact absurd e hs
  · rw [s1, e]
theorem kw_1 (h : jC T x b d C W) {k : Nat} (hk : k < 15) (hw : isW x b k) : J_knownWord T = some (nI k, T) := by
  obtain ⟨v, s1, h1⟩ := J_kw h.1 h.2.1
  rcases h1 with ⟨j, j1, j2, e⟩ | ⟨e, -⟩
  · rw [s1, e, hw.un j2 hk j1]
  · exact absurd hw (e k hk)
theorem kw_0 (h : jC T x b d C W) : ∃ v, J_knownWord T = some (v, T) ∧ (∀ k, k < 15 → ¬ isW x b k → v ≠ nI k) ∧ ((∃ j, j < 15 ∧ isW x b j ∧ v = nI j) ∨ (∀ j, j < 15 → ¬ isW x b j) ∧ v = -1) := by
  obtain ⟨v, s1, h1⟩ := J_kw h.1 h.2.1
  refine ⟨v, s1, fun k hk hn z => ?_, h1⟩
  rcases h1 with ⟨j, j1, j2, e⟩ | ⟨e, e2⟩
  · rw [e, nI_eq (by omega) (by omega)] at z
    exact hn (z ▸ j2)
  · rw [e2] at z
    exact nI_m1 (by omega) z.symm
theorem st_186 (h : jC T x b d C W) (h12 : ¬ isW x b 12) (h13 : ¬ isW x b 13) (h60 : ¬ isS x b 60) (h61 : ¬ isS x b 61) : J_expression_29 (m + 1) (nI 1) T = J_expression_186 (J_expression_29 m) (nI 1) T := by
  obtain ⟨v, s1, h1, -⟩ := kw_0 h
  show B_expression_29 (J_expression_29 m) (nI 1) T = _
  unfold B_expression_29
  rw [if_neg s1_ne, h.gd, bdS, if_neg s1_ne, s1, bdS, if_neg (h1 12 (by omega) h12), if_neg (h1 13 (by omega) h13), sg_0 h (by omega) h60, bdS, if_pos nI_0, sg_0 h (by omega) h61, bdS, if_pos nI_0]
theorem st_127 (h : jC T x b d C W) (h6 : isS x b 60 ∨ isS x b 61) : J_expression_29 (m + 1) (nI 1) T = J_expression_127 (J_expression_29 m) (nI 1) T := by
  obtain ⟨v, s1, h1, -⟩ := kw_0 h
  have nw : ∀ j, ¬ isW x b j := fun j => h6.elim (fun z => z.nw) (fun z => z.nw)
  show B_expression_29 (J_expression_29 m) (nI 1) T = _
  unfold B_expression_29
  rw [if_neg s1_ne, h.gd, bdS, if_neg s1_ne, s1, bdS, if_neg (h1 12 (by omega) (nw _)), if_neg (h1 13 (by omega) (nw _))]
  rcases h6 with h6 | h6
  · rw [sg_1 h (by omega) h6, bdS, if_neg s1_ne]
  · rw [sg_0 h (by omega) (h6.un (by omega)), bdS, if_pos nI_0, sg_1 h (by omega) h6, bdS, if_neg s1_ne]
/-- from operand(false) to what follows -/
theorem op_00 (h : jC T x b d C W) : J_operand (nI 0) T = J_operand_75 (J_operand_4 99999) (nI 0) T := by
  unfold J_operand
  show B_operand_4 (J_operand_4 99999) (nI 0) (nI 1) T = _
  unfold B_operand_4
  rw [if_neg s1_ne, h.gd, bdS, if_neg s1_ne]
  show B_operand_18 (J_operand_4 99999) (J_operand_18 (J_operand_4 99999) 99999) (nI 0) (nI 0) T = _
  unfold B_operand_18
  rw [h.gd, bdS, if_neg s1_ne, if_pos nI_0]
theorem bnd.op (hB : bnd C (W0 ++ Q) b) (hb : b < x.1) (hx : x.1 ≤ 700) (hb2 : b ≤ x.1) (o : Nat) : bnd (C ++ Q.reverse.map nI) (W0 ++ [o]) (nxT x b) := by
  have h1 := (nx_b hb2).2.2 hb
  obtain ⟨b1, b2⟩ := hB
  unfold bnd
  simp only [List.length_append, List.length_map, List.length_reverse, List.length_cons, List.length_nil] at b1 b2 ⊢
  omega
/-- an operator's sign: what waits so strong goes, it waits, the next token -/
theorem J_opr (h : jC T x b d C (W0 ++ Q)) (hB : bnd C (W0 ++ Q) b) (hQ : okQ ℓ Q) (hL : low ℓ W0) (hW : ∀ o ∈ W0, o < 100) (hl : ℓ ≤ 10) : ∃ T1, J_drops (nI ℓ) T = some T1 ∧ jC T1 x b d (C ++ Q.reverse.map nI) W0 ∧ jE T T1 ∧ T1.2.2 19 = T.2.2 19 ∧ W0.length ≤ 700 := by
  have hx := h.1.1
  have hb := h.2.1.1
  obtain ⟨b1, b2⟩ := hB
  have hlen : (W0 ++ Q).length = W0.length + Q.length := List.length_append
  obtain ⟨T1, s1, j1, f1, t1⟩ := h.drop hQ hL hW hl (by omega) (by omega)
  exact ⟨T1, s1, j1, f1, t1, by omega⟩
theorem L_mul (h : jC T x b d C (W0 ++ Q)) (hB : bnd C (W0 ++ Q) b) (hQ : okQ 6 Q) (hL : low 6 W0) (hW : ∀ o ∈ W0, o < 100) {s : Nat} (hs : s = 42 ∨ s = 47) (hb : isS x b s) : ∃ T1, (∀ m, J_expression_29 (m + 1) (nI 1) T = (J_operand_75 (J_operand_4 99999) (nI 0) T1).bind fun r => J_expression_29 m (nI 1) r) ∧ jC T1 x (nxT x b) d (C ++ Q.reverse.map nI) (W0 ++ [opc s]) ∧ bnd (C ++ Q.reverse.map nI) (W0 ++ [opc s]) (nxT x b) ∧ jE T T1 ∧ T1.2.2 19 = T.2.2 19 := by
  obtain ⟨T1, s1, j1, f1, t1, hw7⟩ := J_opr h hB hQ hL hW (by omega)
  obtain ⟨T2, s2, j2, f2, t2⟩ := j1.wait (by omega) (opc s)
  obtain ⟨T3, s3, j3, f3, t3⟩ := j2.goes
  refine ⟨T3, fun m => ?_, j3, hB.op hb.lt h.1.1 h.2.1.1 _, (f1.tr f2).tr f3, (t3.trans t2).trans t1⟩
  rw [st_186 h hb.nw hb.nw (hb.un (by omega)) (hb.un (by omega))]
  have e259 : J_expression_259 (J_expression_29 m) (nI 1) T = (J_operand_75 (J_operand_4 99999) (nI 0) T3).bind fun r => J_expression_29 m (nI 1) r := by
    unfold J_expression_259 J_expression_282 J_expression_322
    rw [s1, bdS]
    rcases hs with rfl | rfl
    · rw [sg_1 j1 (by omega) hb, bdS, if_neg s1_ne]
      rw [show nI 10 = nI (opc 42) from rfl, s2, bdS, s3, bdS, op_00 j3]
    · rw [sg_0 j1 (by omega) (hb.un (by omega)), bdS, if_pos nI_0]
      rw [show nI 11 = nI (opc 47) from rfl, s2, bdS, s3, bdS, op_00 j3]
  unfold J_expression_186
  rw [sg_0 h (by omega) (hb.un (by omega)), bdS, if_pos nI_0, sg_0 h (by omega) (hb.un (by omega)), bdS, if_pos nI_0]
  rcases hs with rfl | rfl
  · rw [sg_1 h (by omega) hb, bdS, if_neg s1_ne]
    exact e259
  · rw [sg_0 h (by omega) (hb.un (by omega)), bdS, if_pos nI_0, sg_1 h (by omega) hb, bdS, if_neg s1_ne]
    exact e259
theorem L_add (h : jC T x b d C (W0 ++ Q)) (hB : bnd C (W0 ++ Q) b) (hQ : okQ 5 Q) (hL : low 5 W0) (hW : ∀ o ∈ W0, o < 100) {s : Nat} (hs : s = 43 ∨ s = 45) (hb : isS x b s) : ∃ T1, (∀ m, J_expression_29 (m + 1) (nI 1) T = (J_operand_75 (J_operand_4 99999) (nI 0) T1).bind fun r => J_expression_29 m (nI 1) r) ∧ jC T1 x (nxT x b) d (C ++ Q.reverse.map nI) (W0 ++ [opc s]) ∧ bnd (C ++ Q.reverse.map nI) (W0 ++ [opc s]) (nxT x b) ∧ jE T T1 ∧ T1.2.2 19 = T.2.2 19 := by
  obtain ⟨T1, s1, j1, f1, t1, hw7⟩ := J_opr h hB hQ hL hW (by omega)
  obtain ⟨T2, s2, j2, f2, t2⟩ := j1.wait (by omega) (opc s)
  obtain ⟨T3, s3, j3, f3, t3⟩ := j2.goes
  refine ⟨T3, fun m => ?_, j3, hB.op hb.lt h.1.1 h.2.1.1 _, (f1.tr f2).tr f3, (t3.trans t2).trans t1⟩
  rw [st_186 h hb.nw hb.nw (hb.un (by omega)) (hb.un (by omega))]
  have e204 : J_expression_204 (J_expression_29 m) (nI 1) T = (J_operand_75 (J_operand_4 99999) (nI 0) T3).bind fun r => J_expression_29 m (nI 1) r := by
    unfold J_expression_204 J_expression_226 J_expression_322
    rw [s1, bdS]
    rcases hs with rfl | rfl
    · rw [sg_1 j1 (by omega) hb, bdS, if_neg s1_ne]
      rw [show nI 8 = nI (opc 43) from rfl, s2, bdS, s3, bdS, op_00 j3]
    · rw [sg_0 j1 (by omega) (hb.un (by omega)), bdS, if_pos nI_0]
      rw [show nI 9 = nI (opc 45) from rfl, s2, bdS, s3, bdS, op_00 j3]
  unfold J_expression_186
  rcases hs with rfl | rfl
  · rw [sg_1 h (by omega) hb, bdS, if_neg s1_ne]
    exact e204
  · rw [sg_0 h (by omega) (hb.un (by omega)), bdS, if_pos nI_0, sg_1 h (by omega) hb, bdS, if_neg s1_ne]
    exact e204
theorem L_cmp (h : jC T x b d C (W0 ++ Q)) (hB : bnd C (W0 ++ Q) b) (hQ : okQ 4 Q) (hL : low 4 W0) (hW : ∀ o ∈ W0, o < 100) (hd : d < 9) (ht : T.2.2 19 d = nI 0) {s : Nat} (hs : s = 60 ∨ s = 61) (hb : isS x b s) : ∃ T1, (∀ m, J_expression_29 (m + 1) (nI 1) T = (J_operand_75 (J_operand_4 99999) (nI 0) T1).bind fun r => J_expression_29 m (nI 1) r) ∧ jC T1 x (nxT x b) d (C ++ Q.reverse.map nI) (W0 ++ [opc s]) ∧ bnd (C ++ Q.reverse.map nI) (W0 ++ [opc s]) (nxT x b) ∧ jE T T1 ∧ T1.2.2 19 = upd (T.2.2 19) d (nI 1) := by
  obtain ⟨T1, s1, j1, f1, t1, hw7⟩ := J_opr h hB hQ hL hW (by omega)
  obtain ⟨T2, s2, j2, f2, t2⟩ := j1.wait (by omega) (opc s)
  obtain ⟨T3, s3, j3, f3, t3⟩ := j2.test hd (nI 1)
  obtain ⟨T4, s4, j4, f4, t4⟩ := j3.goes
  refine ⟨T4, fun m => ?_, j4, hB.op hb.lt h.1.1 h.2.1.1 _, ((f1.tr f2).tr f3).tr f4, by rw [t4, t3, t2, t1]⟩
  rw [st_127 h (by rcases hs with rfl | rfl; exact Or.inl hb; exact Or.inr hb)]
  unfold J_expression_127 J_expression_161 J_expression_322
  rw [h.2.2.2.2.2.2.2, nI_rd hd (by omega), ht, bdS, if_pos nI_0, s1, bdS]
  rcases hs with rfl | rfl
  · rw [sg_1 j1 (by omega) hb, bdS, if_neg s1_ne, show nI 6 = nI (opc 60) from rfl, s2, bdS, s3, bdS, s4, bdS, op_00 j4]
  · rw [sg_0 j1 (by omega) (hb.un (by omega)), bdS, if_pos nI_0, show nI 7 = nI (opc 61) from rfl, s2, bdS, s3, bdS, s4, bdS, op_00 j4]
theorem L_and (h : jC T x b d C (W0 ++ Q)) (hB : bnd C (W0 ++ Q) b) {s k : Nat} (hs : k = 12 ∧ s = 38 ∧ ℓ = 2 ∨ k = 13 ∧ s = 124 ∧ ℓ = 1) (hQ : okQ ℓ Q) (hL : low ℓ W0) (hW : ∀ o ∈ W0, o < 100) (hd : d < 9) (hb : isW x b k) : ∃ T1, (∀ m, J_expression_29 (m + 1) (nI 1) T = (J_operand_4 NN (nI 1) (nI 1) T1).bind fun r => J_expression_29 m (nI 1) r) ∧ jC T1 x (nxT x b) d (C ++ Q.reverse.map nI) (W0 ++ [opc s]) ∧ bnd (C ++ Q.reverse.map nI) (W0 ++ [opc s]) (nxT x b) ∧ jE T T1 ∧ T1.2.2 19 = upd (T.2.2 19) d (nI 0) := by
  obtain ⟨T1, s1, j1, f1, t1, hw7⟩ := J_opr h hB hQ hL hW (by omega)
  obtain ⟨T2, s2, j2, f2, t2⟩ := j1.wait (by omega) (opc s)
  obtain ⟨T3, s3, j3, f3, t3⟩ := j2.test hd (nI 0)
  obtain ⟨T4, s4, j4, f4, t4⟩ := j3.goes
  refine ⟨T4, fun m => ?_, j4, hB.op hb.lt h.1.1 h.2.1.1 _, ((f1.tr f2).tr f3).tr f4, by rw [t4, t3, t2, t1]⟩
  show B_expression_29 (J_expression_29 m) (nI 1) T = _
  unfold B_expression_29 J_expression_57 J_expression_69 J_expression_84 J_expression_322 J_operand
  rw [if_neg s1_ne, h.gd, bdS, if_neg s1_ne, kw_1 h (by omega) hb, bdS]
  rcases hs with ⟨rfl, rfl, rfl⟩ | ⟨rfl, rfl, rfl⟩
  · rw [if_pos rfl, if_pos rfl, s1, bdS, if_pos rfl, show nI 4 = nI (opc 38) from rfl, s2, bdS, s3, bdS, s4, bdS]
  · rw [if_neg (show ¬ nI 13 = nI 12 by decide), if_pos rfl, if_neg (show ¬ nI 13 = nI 12 by decide), s1, bdS, if_neg (show ¬ nI 13 = nI 12 by decide), show nI 5 = nI (opc 124) from rfl, s2, bdS, s3, bdS, s4, bdS]
/-- whether a parenthesis stands open -/
theorem J_opdL : ∀ (c n : Nat) (i : Nat), i = c → i ≤ W.length → (∀ j, j < W.length → T.2.2 18 j = nI (W.getD j 0)) → (∀ o ∈ W, o < 100) → W.length ≤ 900 → c < n → ∃ v, J_isOpened_7 n (nI i - nI 1) T = some (v, T) ∧ ((∃ j, j < i ∧ 14 ≤ W.getD j 0) → v = nI 1) ∧ ((∀ j, j < i → W.getD j 0 < 14) → v = nI 0) := by
  intro c
  induction c with
  | zero =>
    intro n i hi hl hT hW h9 hn
    obtain ⟨n, rfl⟩ : ∃ z, n = z + 1 := ⟨n - 1, by omega⟩
    subst hi
    refine ⟨nI 0, ?_, fun ⟨j, hj, _⟩ => by omega, fun _ => rfl⟩
    show B_isOpened_7 (J_isOpened_7 n) (nI 0 - nI 1) T = _
    unfold B_isOpened_7 J_isOpened_29 J_isOpened_38
    rw [if_pos (by decide), if_pos (by decide), zr0]
    rfl
  | succ c ih =>
    intro n i hi hl hT hW h9 hn
    obtain ⟨n, rfl⟩ : ∃ z, n = z + 1 := ⟨n - 1, by omega⟩
    subst hi
    have ho : W.getD c 0 < 100 := by
      have : W.getD c 0 ∈ W := by
        rw [List.getD_eq_getElem?_getD, List.getElem?_eq_getElem (by omega)]
        exact List.getElem_mem _
      exact hW _ this
    have st : J_isOpened_7 (n + 1) (nI (c + 1) - nI 1) T = if 14 ≤ W.getD c 0 then some (nI 1, T) else J_isOpened_7 n (nI c - nI 1) T := by
      show B_isOpened_7 (J_isOpened_7 n) (nI (c + 1) - nI 1) T = _
      unfold B_isOpened_7 J_isOpened_29 J_isOpened_38
      rw [nI_1m, if_neg (nI_pos (by omega)), nI_rd (by omega) (by omega), hT c (by omega), bdS, J_iso ho, bdS]
      by_cases h14 : 14 ≤ W.getD c 0
      · rw [if_pos h14, if_pos h14, if_neg s1_ne, if_neg (nI_pos (by omega)), zr1]
        rfl
      · rw [if_neg h14, if_neg h14, if_pos nI_0]
        rw [Int32.sub_eq_add_neg (nI c) (nI 1), show -(nI 1) = (-1 : Int32) by decide]
    rw [st]
    by_cases h14 : 14 ≤ W.getD c 0
    · rw [if_pos h14]
      exact ⟨nI 1, rfl, fun _ => rfl, fun h => by have := h c (by omega); omega⟩
    · rw [if_neg h14]
      obtain ⟨v, s1, a1, a0⟩ := ih n c rfl (by omega) hT hW h9 (by omega)
      refine ⟨v, s1, fun ⟨j, j1, j2⟩ => a1 ⟨j, ?_, j2⟩, fun h => a0 fun j hj => h j (by omega)⟩
      by_cases e : j = c
      · rw [e] at j2; omega
      · omega
theorem J_opd (h : jC T x b d C W) (hW : ∀ o ∈ W, o < 100) (h9 : W.length ≤ 900) : ∃ v, J_isOpened T = some (v, T) ∧ ((∃ j, j < W.length ∧ 14 ≤ W.getD j 0) → v = nI 1) ∧ ((∀ j, j < W.length → W.getD j 0 < 14) → v = nI 0) := by
  unfold J_isOpened
  rw [h.2.2.2.2.2.1]
  exact J_opdL W.length NN W.length rfl (Nat.le_refl _) h.2.2.2.2.2.2.1 hW h9 (by unfold NN; omega)
theorem stq_no : ∀ o, o < 14 → 0 ≤ stq o := fun _ _ => Nat.zero_le _
/-- a parenthesis closes -/
theorem L_cls (h : jC T x b (d + 1) C (W0 ++ [14] ++ Q)) (hB : bnd C (W0 ++ [14] ++ Q) b) (hQ : okQ 0 Q) (hW : ∀ o ∈ W0, o < 100) (hb : isS x b 41) : ∃ T1, (∀ m, J_expression_29 (m + 1) (nI 1) T = J_expression_29 m (nI 1) T1) ∧ jC T1 x (nxT x b) d (C ++ Q.reverse.map nI) W0 ∧ bnd (C ++ Q.reverse.map nI) W0 (nxT x b) ∧ jE T T1 ∧ T1.2.2 19 = T.2.2 19 := by
  have hx := h.1.1
  have hb7 := h.2.1.1
  have hWa : ∀ o ∈ W0 ++ [14] ++ Q, o < 100 := by
    intro o ho
    simp only [List.mem_append, List.mem_singleton] at ho
    rcases ho with (ho | ho) | ho
    · exact hW o ho
    · omega
    · have := hQ o ho; omega
  have hWb : ∀ o ∈ W0 ++ [14], o < 100 := fun o ho => hWa o (by simp only [List.mem_append] at ho ⊢; exact Or.inl ho)
  have hlow : low 0 (W0 ++ [14]) := by
    intro W1 o e
    have := List.append_inj' e rfl
    have h9 := this.2
    injection h9 with h9
    omega
  obtain ⟨T1, s1, j1, f1, t1, hw7⟩ := J_opr (ℓ := 0) h hB hQ hlow hWb (by omega)
  obtain ⟨v, so, o1, -⟩ := J_opd h hWa (by have := hB.2; omega)
  have hv : v = nI 1 := o1 ⟨W0.length, by simp, by
    rw [List.append_assoc]
    have e : (W0 ++ ([14] ++ Q)).getD W0.length 0 = ([14] ++ Q).getD 0 0 := gdn_r (W1 := W0) (W2 := [14] ++ Q) (i := 0)
    rw [e]
    exact Nat.le_refl 14⟩
  obtain ⟨g1, g2, g3, g4, g5, g6, g7, g8⟩ := j1
  have hl14 : (W0 ++ [14]).length = W0.length + 1 := by rw [List.length_append]; rfl
  have j2 : jC (tw_F (tw_F T1 30 (nI W0.length)) 31 (nI d)) x b d (C ++ Q.reverse.map nI) W0 := ⟨g1.e ((jE.F (by omega)).tr (jE.F (by omega))), (g2.F (by omega)).F (by omega), (F_n (by omega)).trans ((F_n (by omega)).trans g3), (F_n (by omega)).trans ((F_n (by omega)).trans g4), g5, (F_n (by omega)).trans F_s, fun i hi => by
    show T1.2.2 18 i = _
    rw [g7 i (by omega), gdn_l hi], F_s⟩
  obtain ⟨T3, s3, j3, f3, t3⟩ := j2.goes
  have hcl : J_closes T = some T3 := by
    unfold J_closes
    rw [s1, bdS, g6, hl14, nI_1m, bdS, F_n (show 31 ≠ 30 by omega), g8, nI_1m, bdS, s3, bdS]
  refine ⟨T3, fun m => ?_, j3, ?_, ((f1.tr (jE.F (by omega))).tr (jE.F (by omega))).tr f3, t3.trans t1⟩
  · rw [st_186 h hb.nw hb.nw (hb.un (by omega)) (hb.un (by omega))]
    unfold J_expression_186 J_expression_322
    rw [sg_0 h (by omega) (hb.un (by omega)), bdS, if_pos nI_0, sg_0 h (by omega) (hb.un (by omega)), bdS, if_pos nI_0, sg_0 h (by omega) (hb.un (by omega)), bdS, if_pos nI_0, sg_0 h (by omega) (hb.un (by omega)), bdS, if_pos nI_0, sg_1 h (by omega) hb, bdS, if_neg s1_ne, so, bdS, hv, if_neg s1_ne, hcl, bdS]
  · have hn := (nx_b hb7).2.2 hb.lt
    obtain ⟨b1, b2⟩ := hB
    unfold bnd
    simp only [List.length_append, List.length_map, List.length_reverse, List.length_cons, List.length_nil] at b1 b2 ⊢
    omega
end JL
