/-! the plain law: an expression, a part -/
set_option maxRecDepth 100000
section PT
variable {hS : Nat → Option vv_E} {ad : Nat → Nat} {x : txT} {r b a d n m : Nat} {c : Nat × Nat × Nat × Nat} {σ σ' : vv_S} {T : tw_T} {ex ex' : Nat → Int32 → vv_S → Option (hX (Nat × vv_S))} {E Ec : Int} {D : Nat} {C : List Int32} {W Q : List Nat}
theorem ntR.up {ℓ : Nat} {g gc : Int} {dd : Nat} {T1 : tw_T} {K : Option (hX (Nat × vv_S))} {rJ : Option tw_T} (h : ntR hS x r c ℓ g gc E Ec D dd d σ T1 b C W K rJ) (f1 : jE T T1) (t1 : ∀ i, i < dd → T1.2.2 19 i = T.2.2 19 i) : ntR hS x r c ℓ g gc E Ec D dd d σ T b C W K rJ := by
  rcases h with ⟨κ, b', q1, q2, q3, q4⟩ | ⟨f, σ', b', ev, code, C', Q, T', m', q1, q2, q3, q4, q5, q6, q7, q8, q9, q10, q11, q12, q13, q14, q15, q16, q17⟩
  · exact Or.inl ⟨κ, b', q1, q2, q3, q4.tr f1⟩
  · exact Or.inr ⟨f, σ', b', ev, code, C', Q, T', m', q1, q2, q3, q4, q5, q6, q7, q8, q9, q10, q11, q12, q13, q14, q15, fun i hi => (q16 i hi).trans (t1 i hi), f1.tr q17⟩
theorem kErr.bd {α β : Type} {κ b' : Nat} {R : Option (hX α)} (h : kErr hS x r c E Ec σ b κ b' R) {f : α → Option (hX β)} : kErr hS x r c E Ec σ b κ b' (R.bind fun r1 => xb r1 f) := by
  obtain ⟨q, σ', w1, w2⟩ := h
  exact ⟨q, σ', by rw [w1, bdS, xbR], w2⟩
theorem kErr.sh {α : Type} {κ b' b1 : Nat} {σ1 : vv_S} {R : Option (hX α)} (h : kErr hS x r c E Ec σ1 b1 κ b' R) (hz : σ1.2 = σ.2) (hf : fK r σ σ1) (hb : b ≤ b1) : kErr hS x r c E Ec σ b κ b' R := by
  obtain ⟨q, σ', w1, w2, w3, w4, w5, w6, w7, w8⟩ := h
  rw [hz] at w5 w6 w7 w8
  exact ⟨q, σ', w1, w2, hf.tr w3, w4, w5, w6, by omega, by omega⟩
theorem J_o4 (h : jC T x b d C W) (hw : ¬ isW x b 14) : J_operand_4 (n + 1) (nI 1) (nI 1) T = J_operand_75 (J_operand_4 n) (nI 1) T := by
  obtain ⟨v, s1, h1, -⟩ := kw_0 h
  show B_operand_4 (J_operand_4 n) (nI 1) (nI 1) T = _
  unfold B_operand_4
  rw [if_neg s1_ne, h.gd, bdS, if_neg s1_ne]
  show B_operand_18 (J_operand_4 n) (J_operand_18 (J_operand_4 n) 99999) (nI 1) (nI 0) T = _
  unfold B_operand_18
  rw [h.gd, bdS, if_neg s1_ne, if_neg s1_ne, s1, bdS, if_neg (h1 14 (by omega) hw)]
theorem cst.rf {g gc : Int} (h1 : g ≤ 0) (h2 : gc ≤ 0) : cst g gc b b σ σ := ⟨Nat.le_refl _, by omega, by omega⟩
/-- an expression, one deeper -/
theorem NT_ex (CX : cxK hS ad x r c) (ha : a ≤ 6) (H : a < 6 → NT hS x r c 1 (-76) (-11) E Ec D (a + 1) (a + 1) (KexC ex ad r (nI a)) (PO a)) (hE : 8 ≤ E) (hEc : 2 ≤ Ec) (hp : pK hS x r c σ b) (hj : jC T x b a C W) (hB : bnd C W b) (hL : low 1 W) (hW : ∀ o ∈ W, o < 100) (hn : 21 ≤ n + a) (hm : x.1 + 3 ≤ m + b) : ntR hS x r c 1 (-76) (-11) E Ec D (a + 1) (a + 1) σ T b C W (KX5_expression ex ad r (nI a) σ) (((J_deeper T).bind fun r4 => J_operand_4 n (nI 1) (nI 1) r4).bind fun r => J_expression_29 m (nI 1) r) := by
  have hx7 := CX.1.1
  have hbx := hp.2.2.2.1
  obtain ⟨b1, b2⟩ := id hB
  obtain ⟨n, rfl⟩ : ∃ z, n = z + 2 := ⟨n - 2, by omega⟩
  obtain ⟨m, rfl⟩ : ∃ z, m = z + 1 := ⟨m - 1, by omega⟩
  by_cases ht : kiT x b = 2 ∨ kiT x b = 1 ∨ isS x b 40
  · by_cases h6 : a < 6
    · obtain ⟨T1, s1, j1, f1, t1⟩ := J_dp1 hj h6
      rw [K_ex1 CX hp ht h6, s1, bdS]
      exact ntR.up (H h6 (fun m T => (J_operand_4 (n + 2) (nI 1) (nI 1) T).bind fun r => J_expression_29 m (nI 1) r) σ T1 b C W (m + 1) ⟨n + 2, hn, rfl⟩ hp j1 hB hL hW (fun _ => by rw [t1, upd_s]) hm) f1 (fun i hi => by rw [t1, upd_n (by omega)])
    · obtain ⟨f, e⟩ := K_ex6 (ex := ex) CX hp ht (by omega) (show a < 100 by omega)
      obtain ⟨T1, κ, hc⟩ := J_dp0 hj (by omega) (by omega) (by omega) (by omega)
      rcases hc with ⟨-, rfl, s1, x1, f1⟩ | ⟨z, -⟩
      · refine Or.inl ⟨2, b, Nat.le_refl _, hbx, ?_, ?_⟩
        · rw [e]
          exact kErr.mk CX hp 2 fK.rf (cst.rf (by omega) (by omega))
        · rw [s1, bdS, x1.op4, bdS]
          exact (x1.L (by omega)).tr f1
      · exact absurd ht z
  · obtain ⟨f, e⟩ := K_ex0 (ex := ex) CX hp ht (y := nI a)
    refine Or.inl ⟨1, b, Nat.le_refl _, hbx, ?_, ?_⟩
    · rw [e]
      exact kErr.mk CX hp 1 fK.rf (cst.rf (by omega) (by omega))
    · by_cases h6 : a < 6
      · obtain ⟨T1, s1, j1, f1, t1⟩ := J_dp1 hj h6
        obtain ⟨T2, s2, x2, f2⟩ := J_px j1 (fun z => ht (Or.inr (Or.inl z))) (fun z => ht (Or.inl z)) (by omega) (by omega)
        rw [s1, bdS, J_o4 j1 (fun z => ht (Or.inr (Or.inl z.1))), J_75p j1 (fun z => ht (Or.inr (Or.inr z))), s2, bdS]
        exact (x2.L (by omega)).tr (f1.tr f2)
      · obtain ⟨T1, κ, hc⟩ := J_dp0 hj (by omega) (by omega) (by omega) (by omega)
        rcases hc with ⟨z, -⟩ | ⟨-, rfl, s1, x1, f1⟩
        · exact absurd z ht
        · rw [s1, bdS, x1.op4, bdS]
          exact (x1.L (by omega)).tr f1
/-- a new object with one field, written at once -/
theorem nw1 {ci : Nat} {v0 v : Value} {σ2 : vv_S} {p : Nat} (h2 : σ2.1 p = some (true, .inr (ci, [v0]))) : ∃ σ3, pF σ2 p ci 0 v = some σ3 ∧ σ3.1 p = some (true, .inr (ci, [v])) ∧ σ3.2 = σ2.2 ∧ ∀ q, q ≠ p → σ3.1 q = σ2.1 q := by
  refine ⟨(vv_up σ2.1 p (true, .inr (ci, [v])), σ2.2), ?_, up_s, rfl, fun q hq => up_n hq⟩
  unfold pF
  rw [h2]
  exact if_pos ⟨rfl, Nat.zero_lt_one⟩
end PT
