/-! the plain law: parts, both -/
set_option maxRecDepth 100000
section PU
variable {hS : Nat → Option vv_E} {ad : Nat → Nat} {x : txT} {r b a d n m : Nat} {c : Nat × Nat × Nat × Nat} {σ σ' : vv_S} {T : tw_T} {ex ex' : Nat → Int32 → vv_S → Option (hX (Nat × vv_S))} {E Ec : Int} {D : Nat} {C : List Int32} {W Q : List Nat}
/-- a word's part -/
theorem pt_w (CX : cxK hS ad x r c) (hE : 8 ≤ E) (hEc : 2 ≤ Ec) (hD : 1 ≤ D) (hp : pK hS x r c σ b) (hj : jC T x b d C W) (hB : bnd C W b) (hm : x.1 + 3 ≤ m + b) (h1 : kiT x b = 1) {x2 : Int32} : ntR hS x r c 7 99 14 E Ec D (d + 1) d σ T b C W (KX5_part ex ad r (nI a) σ) ((J_operand_75 (J_operand_4 (n + 1)) x2 T).bind fun r => J_expression_29 m (nI 1) r) := by
  have hx7 := CX.1.1
  have hbx := hp.2.2.2.1
  have hr := hp.2.2.1
  obtain ⟨b1, b2⟩ := id hB
  obtain ⟨-, u, -, -, h4⟩ := id hp.2.2.2
  have n40 : ¬ isS x b 40 := fun z => by have := z.1; omega
  obtain ⟨m, rfl⟩ : ∃ z, m = z + 1 := ⟨m - 1, by omega⟩
  have e3 : gR σ r 4 3 = some c.2.2.1 := by unfold gR gV; rw [h4]; rfl
  obtain ⟨v, sv, hv⟩ := K_wh CX.1 CX.2.1 hp.1 hp.2.2.2 (nm := c.2.2.1) (by
    obtain ⟨g1, g2, g3, g4⟩ := CX.2.2.2.1
    exact ⟨g1, g2, hp.1 _ _ g3, g4⟩) 6 0 NN rfl (by unfold NN; omega)
  have eP : KX5_part ex ad r (nI a) σ = if v = (-1) then (KX5_part_100 ex ad r (nI 0) r v σ) else (KX5_part_100 ex ad r (nI 1) r v σ) := by
    unfold KX5_part
    rw [r_g5 h4, bdS, h1, if_neg (show ¬ nI 1 = nI 2 by decide), hp.o, bdS, ksg_0 CX hp (by omega) n40, bdS, if_pos nI_0, bdS, if_pos rfl]
    unfold KX5_part_76
    rw [hp.o, bdS, kwant1, bdS, xbL, e3, bdS, hp.o, bdS]
    unfold KX5_which
    rw [show nI 0 = nI 0 from rfl, sv, bdS]
  rcases hv with ⟨j, -, j6, hw, rfl⟩ | ⟨hn, rfl⟩
  · obtain ⟨σ1, s1, p1, g1⟩ := hp.nx CX
    obtain ⟨σ2, hσ2⟩ : ∃ τ : vv_S, τ = nwO σ1 9 [.int 0] 1 := ⟨_, rfl⟩
    have c2 : σ2.1 σ1.2.1 = some (true, .inr (9, [.int 0])) := by rw [hσ2]; exact up_s
    have n2 : ∀ q, q < σ1.2.1 → σ2.1 q = σ1.1 q := fun q hq => by rw [hσ2]; exact up_n (by omega)
    have z2 : σ2.2 = (σ1.2.1 + 1, σ1.2.2 + 1) := by rw [hσ2]; rfl
    obtain ⟨σ3, s3, c3, z3, o3⟩ := nw1 (v := .int (nI j)) c2
    have z1 : σ1.2 = σ.2 := g1.1
    have z3' : σ3.2 = (σ.2.1 + 1, σ.2.2 + 1) := by rw [z3, z2, z1]
    have z3a : σ3.2.1 = σ.2.1 + 1 := by rw [z3']
    have z3b : σ3.2.2 = σ.2.2 + 1 := by rw [z3']
    have z1a : σ1.2.1 = σ.2.1 := by rw [z1]
    have hnx := (nx_b hbx).2.2 hw.lt
    have f3 : fK r σ σ3 := ⟨by omega, fun q q1 q2 => by rw [o3 q (by omega), n2 q (by omega), g1.2 q q2]⟩
    obtain ⟨T1, t1, j1, k1, k2⟩ := J_pw1 hj j6 hw (by omega)
    refine Or.inr ⟨σ1.2.1, σ3, nxT x b, _, [nI 2, nI j], C ++ [nI 2, nI j], [], T1, m + 1, ?_, ?_, f3, ⟨by omega, by omega, by omega⟩, (fr_9 j6 c3 (s := σ.2.1) ⟨by omega, by omega⟩).mo (Nat.le_refl _) (Nat.le_refl _) (fun _ _ _ => rfl) hD, fun u u' h => h j j6, hnx, ?_, by omega, by rw [List.append_nil]; exact j1, fun o ho => (List.not_mem_nil ho).elim, by simp, cd_val j6, ?_, ⟨fun z => by omega, fun z => by omega, fun z => by omega, fun z => by omega, fun z => by omega⟩, fun i _ => by rw [k2], k1⟩
    · rw [eP, if_neg (nI_m1 (by omega))]
      unfold KX5_part_100 KX10_init
      rw [hp.o, bdS, kwant1, bdS, xbL, hp.o, bdS, s1, bdS, bdS, ← hσ2, s3, bdS, bdS]
    · exact hp.k CX.2.2.1 f3 (p1.2.2.2.k (by rw [o3 r (by omega), n2 r (by omega)]))
    · rw [J_75p hj n40, t1, bdS]
    · have h9 : (C ++ [nI 2, nI j]).length = C.length + 2 := by rw [List.length_append]; rfl
      unfold bnd
      rw [List.append_nil, h9]
      omega
  · obtain ⟨T1, t1, x1, k1⟩ := J_pw0 hj h1 (fun k hk => hn k (by omega) hk) (by omega) (by omega)
    refine Or.inl ⟨3, b, Nat.le_refl _, hbx, ?_, ?_⟩
    · rw [eP, if_pos rfl]
      unfold KX5_part_100
      rw [hp.o, bdS]
      exact kErr.mk CX hp 3 fK.rf (cst.rf (by omega) (by omega))
    · rw [J_75p hj n40, t1, bdS]
      exact (x1.L (by omega)).tr k1
/-- nothing of the kind -/
theorem pt_x (CX : cxK hS ad x r c) (hE : 8 ≤ E) (hEc : 2 ≤ Ec) (hp : pK hS x r c σ b) (hj : jC T x b d C W) (hB : bnd C W b) (hm : x.1 + 3 ≤ m + b) (h1 : kiT x b ≠ 1) (h2 : kiT x b ≠ 2) (n40 : ¬ isS x b 40) {x2 : Int32} : ntR hS x r c 7 99 14 E Ec D (d + 1) d σ T b C W (KX5_part ex ad r (nI a) σ) ((J_operand_75 (J_operand_4 (n + 1)) x2 T).bind fun r => J_expression_29 m (nI 1) r) := by
  have hx7 := CX.1.1
  have hbx := hp.2.2.2.1
  obtain ⟨b1, b2⟩ := id hB
  obtain ⟨-, u, -, -, h4⟩ := id hp.2.2.2
  have h4' : kiT x b ≤ 4 := ki_4'
  obtain ⟨m, rfl⟩ : ∃ z, m = z + 1 := ⟨m - 1, by omega⟩
  obtain ⟨T1, t1, x1, k1⟩ := J_px hj h1 h2 (by omega) (by omega)
  refine Or.inl ⟨1, b, Nat.le_refl _, hbx, ?_, ?_⟩
  · unfold KX5_part
    rw [r_g5 h4, bdS, if_neg (fun z => h2 ((nI_eq (by omega) (by omega)).mp z)), hp.o, bdS, ksg_0 CX hp (by omega) n40, bdS, if_pos nI_0, bdS, if_neg (fun z => h1 ((nI_eq (by omega) (by omega)).mp z))]
    unfold KX5_part_76
    rw [hp.o, bdS]
    exact kErr.mk CX hp 1 fK.rf (cst.rf (by omega) (by omega))
  · rw [J_75p hj n40, t1, bdS]
    exact (x1.L (by omega)).tr k1
/-- what stands in parentheses -/
theorem pt_o (CX : cxK hS ad x r c) (hE : 8 ≤ E) (hEc : 2 ≤ Ec) (ha : a < 6) (hd : d = a + 1) (hex : ∀ σ, ex r (nI (a + 1)) σ = KX5_expression ex' ad r (nI (a + 1)) σ) (H : a + 1 < 6 → NT hS x r c 1 (-76) (-11) E Ec D (d + 1) (d + 1) (KexC ex' ad r (nI (a + 1))) (PO (a + 1))) (hp : pK hS x r c σ b) (hj : jC T x b d C W) (hB : bnd C W b) (hW : ∀ o ∈ W, o < 100) (hm : x.1 + 3 ≤ m + b) (hn : 20 ≤ n + a) (h40 : isS x b 40) {x2 : Int32} : ntR hS x r c 7 99 14 E Ec D (d + 1) d σ T b C W (KX5_part ex ad r (nI a) σ) ((J_operand_75 (J_operand_4 n) x2 T).bind fun r => J_expression_29 m (nI 1) r) := by
  subst hd
  have hx7 := CX.1.1
  have hbx := hp.2.2.2.1
  have hr := hp.2.2.1
  obtain ⟨b1, b2⟩ := id hB
  obtain ⟨-, u, -, -, h4⟩ := id hp.2.2.2
  have h4' : kiT x b ≤ 4 := ki_4'
  have h3 := h40.1
  obtain ⟨σ1, s1, p1, g1⟩ := hp.nx CX
  have z1 : σ1.2 = σ.2 := g1.1
  have z1a : σ1.2.1 = σ.2.1 := by rw [z1]
  have z1b : σ1.2.2 = σ.2.2 := by rw [z1]
  have hnx := (nx_b hbx).2.2 h40.lt
  obtain ⟨T1, t1, j1, k1, k2⟩ := J_75o (n := n) (x2 := x2) hj h40 (by omega)
  have eP : KX5_part ex ad r (nI a) σ = (KX5_expression ex' ad r (nI (a + 1)) σ1).bind fun r10 => xb r10 fun r12 => (isO r12.2 r 4).bind fun _ => (KX5_isSign r (nI 41) r12.2).bind fun r13 => (isO r12.2 r 4).bind fun _ => (KX5_want r r13 (nI 1) r12.2).bind fun r15 => xb r15 fun r17 => (isO r17 r 4).bind fun _ => (KX5_next ad r r17).bind fun r18 => some (.inl (r12.1, r18)) := by
    unfold KX5_part
    rw [r_g5 h4, bdS, if_neg (fun z => by have := (nI_eq (by omega) (by omega)).mp z; omega), hp.o, bdS, ksg_1 CX hp (by omega) h40, bdS, if_neg s1_ne, bdS, s1, bdS, p1.o, bdS, nI_add, hex]
  have hB1 : bnd C (W ++ [14]) (nxT x b) := by
    unfold bnd
    rw [List.length_append]
    simp only [List.length_cons, List.length_nil]
    omega
  rw [eP, t1]
  have hW1 : ∀ o ∈ W ++ [14], o < 100 := fun o ho => by
    simp only [List.mem_append, List.mem_singleton] at ho
    rcases ho with ho | ho
    · exact hW o ho
    · omega
  rcases NT_ex (n := n) (m := m) (a := a + 1) CX (by omega) H hE hEc p1 j1 hB1 (fun W1 o e => by
    have h9 := (List.append_inj' e rfl).2
    injection h9 with h9
    exact Or.inl (by omega)) hW1 (by omega) (by omega) with ⟨κ, b', q1, q2, q3, q4⟩ | ⟨f, σ2, b3, ev, code, C2, Q2, T2, m2, q1, q2, q3, ⟨q4, q5, q6⟩, q7, q8, q9, q10, q11, q12, q13, q14, q15, q16, q17, q18, q19⟩
  · exact Or.inl ⟨κ, b', by omega, q2, (q3.bd).sh z1 (fK.fr g1) (by omega), q4.tr k1⟩
  · have hb3 := q2.2.2.2.1
    have hl : (W ++ [14] ++ Q2).length = W.length + 1 + Q2.length := by simp only [List.length_append, List.length_cons, List.length_nil]
    obtain ⟨m2, rfl⟩ : ∃ z, m2 = z + 2 := ⟨m2 - 2, by omega⟩
    obtain ⟨b4, b5⟩ := id q16
    have r2 : r < σ2.2.1 := q2.2.2.1
    rw [q1, bdS, xbL]
    dsimp only
    by_cases h41 : isS x b3 41
    · obtain ⟨σ3, s3, p3, g3⟩ := q2.nx CX
      obtain ⟨T3, s4, j3, B3, k3, k4⟩ := L_cls q12 q16 (q13.mo (Nat.zero_le _)) hW h41
      have hnx3 := (nx_b hb3).2.2 h41.lt
      have z3 : σ3.2 = σ2.2 := g3.1
      have z3a : σ3.2.1 = σ2.2.1 := by rw [z3]
      have z3b : σ3.2.2 = σ2.2.2 := by rw [z3]
      rw [z1a] at q6
      rw [z1b] at q4 q5
      rw [z1a] at q7
      refine Or.inr ⟨f, σ3, nxT x b3, ev, code, C ++ code, [], T3, m2 + 1, ?_, p3, ((fK.fr g1).tr q3).tr (fK.fr g3), ⟨by omega, by omega, by omega⟩, q7.mo (Nat.le_refl _) (by omega) (fun q e1 e2 => g3.2 q (show ¬ q = r by omega)) (Nat.le_refl _), q8, by omega, ?_, by omega, ?_, fun o ho => (List.not_mem_nil ho).elim, by simp, q15, ?_, ⟨fun z => by omega, fun z => by omega, fun z => by omega, fun z => by omega, fun z => by omega⟩, fun i hi => by rw [k4, q18 i (by omega), k2], (k1.tr q19).tr k3⟩
      · rw [q2.o, bdS, ksg_1 CX q2 (by omega) h41, bdS, bdS, kwant1, bdS, xbL, q2.o, bdS, s3, bdS]
      · rw [q10]
        exact s4 (m2 + 1)
      · rw [List.append_nil, ← q14]
        exact j3
      · rw [List.append_nil, ← q14]
        exact B3
    · refine Or.inl ⟨1, b3, by omega, hb3, ?_, ?_⟩
      · rw [q2.o, bdS, ksg_0 CX q2 (by omega) h41, bdS, bdS]
        rw [z1b] at q4 q5
        rw [z1a] at q6
        exact kErr.mk CX q2 1 ((fK.fr g1).tr q3) ⟨by omega, by omega, by omega⟩
      · rw [q10, L_end q12 (by omega) q17 (fun o ho => by
          simp only [List.mem_append] at ho
          rcases ho with ho | ho
          · exact hW1 o (by simp only [List.mem_append]; exact ho)
          · have := q13 o ho; omega) (by omega) (fun z => absurd z h41)]
        exact (L_bad q12 (by omega) (by omega) (by omega) (by omega)).tr (k1.tr q19)
theorem NT_part (CX : cxK hS ad x r c) (hE : 8 ≤ E) (hEc : 2 ≤ Ec) (hD : 1 ≤ D) (ha : a < 6) (hd : d = a + 1) (hex : ∀ σ, ex r (nI (a + 1)) σ = KX5_expression ex' ad r (nI (a + 1)) σ) (H : a + 1 < 6 → NT hS x r c 1 (-76) (-11) E Ec D (d + 1) (d + 1) (KexC ex' ad r (nI (a + 1))) (PO (a + 1))) : NT hS x r c 7 99 14 E Ec D (d + 1) d (KX5_part ex ad r (nI a)) (PP a) := by
  rintro J σ T b C W m ⟨n, x2, hn, rfl⟩ hp hj hB hL hW h30 hm
  dsimp only
  obtain ⟨n, rfl⟩ : ∃ z, n = z + 1 := ⟨n - 1, by omega⟩
  by_cases h2 : kiT x b = 2
  · exact pt_n CX hE hEc hD hp hj hB hm h2
  · by_cases h1 : kiT x b = 1
    · exact pt_w CX hE hEc hD hp hj hB hm h1
    · by_cases h40 : isS x b 40
      · exact pt_o CX hE hEc ha hd hex H hp hj hB hW hm hn h40
      · exact pt_x CX hE hEc hp hj hB hm h1 h2 h40
end PU
