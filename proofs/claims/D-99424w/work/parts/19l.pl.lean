/-! the plain law: products, sums, ands, ors -/
set_option maxRecDepth 100000
/-- the twin at a part; at an operand -/
def PP (a : Nat) (J : Nat → tw_T → Option tw_T) : Prop := ∃ n x2, 20 ≤ n + a ∧ J = fun m T => (J_operand_75 (J_operand_4 n) x2 T).bind fun r => J_expression_29 m (nI 1) r
def PO (a : Nat) (J : Nat → tw_T → Option tw_T) : Prop := ∃ n, 21 ≤ n + a ∧ J = fun m T => (J_operand_4 n (nI 1) (nI 1) T).bind fun r => J_expression_29 m (nI 1) r
section PR
variable {hS : Nat → Option vv_E} {ad : Nat → Nat} {x : txT} {r b a d : Nat} {c : Nat × Nat × Nat × Nat} {σ σ' : vv_S} {T : tw_T} {ex : Nat → Int32 → vv_S → Option (hX (Nat × vv_S))} {E Ec : Int} {D : Nat} {C : List Int32} {W Q : List Nat}
theorem low_1 {ℓ o : Nat} (h : stq o < ℓ) : low ℓ (W ++ [o]) := fun W1 o' e => by
  have h9 := (List.append_inj' e rfl).2
  injection h9 with h9
  exact Or.inr (by rw [← h9]; exact h)
theorem ksg_1 (CX : cxK hS ad x r c) (h : pK hS x r c σ b) {k : Nat} (hk : k < 128) (hs : isS x b k) : KX5_isSign r (nI k) σ = some (nI 1) := by
  obtain ⟨v, s1, h1⟩ := K_sg CX.1 h.1 h.2.2.2 hk
  rcases h1 with ⟨-, e⟩ | ⟨e, -⟩
  · rw [s1, e]
  · exact absurd hs e
theorem ksg_0 (CX : cxK hS ad x r c) (h : pK hS x r c σ b) {k : Nat} (hk : k < 128) (hs : ¬ isS x b k) : KX5_isSign r (nI k) σ = some (nI 0) := by
  obtain ⟨v, s1, h1⟩ := K_sg CX.1 h.1 h.2.2.2 hk
  rcases h1 with ⟨e, -⟩ | ⟨-, e⟩
  · exact absurd e hs
  · rw [s1, e]
theorem kis_1 (CX : cxK hS ad x r c) (h : pK hS x r c σ b) {k : Nat} (hk : k < 15) (hs : isW x b k) : KX5_is r (ad (wdA k)) σ = some (nI 1) := by
  obtain ⟨v, s1, h1⟩ := K_is CX.1 CX.2.1 h.1 h.2.2.2 hk
  rcases h1 with ⟨-, e⟩ | ⟨e, -⟩
  · rw [s1, e]
  · exact absurd hs e
theorem kis_0 (CX : cxK hS ad x r c) (h : pK hS x r c σ b) {k : Nat} (hk : k < 15) (hs : ¬ isW x b k) : KX5_is r (ad (wdA k)) σ = some (nI 0) := by
  obtain ⟨v, s1, h1⟩ := K_is CX.1 CX.2.1 h.1 h.2.2.2 hk
  rcases h1 with ⟨e, -⟩ | ⟨-, e⟩
  · exact absurd e hs
  · rw [s1, e]
theorem cr_k : ∀ k, k < 128 → crI (Int32.toUInt32 (nI k) % 65536).toInt32 = some (nI k) := by decide +kernel
theorem ksign (CX : cxK hS ad x r c) (h : pK hS x r c σ b) {k : Nat} (hk : k < 128) (hs : isS x b k) : ∃ σ1, KX5_sign ad r σ = some (nI k, σ1) ∧ pK hS x r c σ1 (nxT x b) ∧ fr (fun q => q = r) σ σ1 := by
  obtain ⟨σ1, s1, p1, f1⟩ := h.nx CX
  obtain ⟨ta, tf, t1, t2⟩ := K_byte CX.1 h.1
  have hb := hs.lt
  have h7 := CX.1.1
  obtain ⟨b1, b2, b3⟩ := t2 b (by omega)
  have e := (by_c b2 b3 (CX.1.2.1 b) hk).mpr hs.2
  obtain ⟨-, u, -, -, h4⟩ := h.2.2.2
  refine ⟨σ1, ?_, p1, f1⟩
  unfold KX5_sign
  simp only [r_g9 h4, t1, r_g6 h4, b1, e, r_o h4, s1, cr_k k hk, bdS]
theorem nx_w {k : Nat} (hw : isW x b k) (hb : b ≤ x.1) : b + wn k ≤ nxT x b := by
  have h1 := (en_b hb)
  have h2 := ru_ge (f := isSp) h1.2.1
  have h3 := hw.2.1
  unfold nxT
  omega
theorem NT_product (CX : cxK hS ad x r c) (H : NT hS x r c 7 99 14 E Ec D (d + 1) d (KX5_part ex ad r (nI a)) (PP a)) : NT hS x r c 6 64 9 (E + 100) (Ec + 20) (D + 1) (d + 1) d (KX5_product ex ad r (nI a)) (PP a) := by
  have h9 := NT_ch (s := 1) CX (ℓ := 6) (by omega) H (Nat.le_refl _) (by omega) (by omega) (by omega) (by omega) (by omega) (by omega) (fun n c' σ => KX5_product_13 ex ad n r (nI a) c' σ) (fun σ T b c' C W Q hp hoc hj hB hQ hL hW hn => by
    have go : ∀ s, s = 42 ∨ s = 47 → isS x b s → ∃ cc σ1 T1 J1, sgn cc ∧ 6 ≤ stq (opc cc) ∧ b + 1 ≤ nxT x b ∧ pK hS x r c σ1 (nxT x b) ∧ fr (fun q => q = r) σ σ1 ∧ (∀ n, KX5_product_13 ex ad (n + 1) r (nI a) c' σ = (KX5_part ex ad r (nI a) σ1).bind fun r3 => xb r3 fun r5 => (isO r5.2 c' 7).bind fun _ => (KX8_add ad c' (nI cc) r5.1 r5.2).bind fun r6 => KX5_product_13 ex ad n r (nI a) c' r6) ∧ PP a J1 ∧ (∀ m, J_expression_29 (m + 1) (nI 1) T = J1 m T1) ∧ jC T1 x (nxT x b) d (C ++ Q.reverse.map nI) (W ++ [opc cc]) ∧ bnd (C ++ Q.reverse.map nI) (W ++ [opc cc]) (nxT x b) ∧ low 7 (W ++ [opc cc]) ∧ (∀ i, i < d + 1 → T1.2.2 19 i = T.2.2 19 i) ∧ (7 ≤ 3 → T1.2.2 19 d = nI 0) ∧ jE T T1 := by
      intro s hs hb
      obtain ⟨σ1, s1, p1, f1⟩ := ksign CX hp (k := s) (by omega) hb
      obtain ⟨T1, e1, j1, b1, g1, t1⟩ := L_mul hj hB hQ hL hW hs hb
      have hq : 6 ≤ stq (opc s) ∧ stq (opc s) < 7 := by rcases hs with rfl | rfl <;> decide
      refine ⟨s, σ1, T1, _, by unfold sgn; omega, hq.1, (nx_b hp.2.2.2.1).2.2 hb.lt, p1, f1, fun n => ?_, ⟨99999, nI 0, by omega, rfl⟩, e1, j1, b1, low_1 hq.2, fun i _ => by rw [t1], fun h => by omega, g1⟩
      have e31 : KX5_product_31 ex ad (KX5_product_13 ex ad n) r (nI a) c' σ = (KX5_part ex ad r (nI a) σ1).bind fun r3 => xb r3 fun r5 => (isO r5.2 c' 7).bind fun _ => (KX8_add ad c' (nI s) r5.1 r5.2).bind fun r6 => KX5_product_13 ex ad n r (nI a) c' r6 := by
        unfold KX5_product_31
        rw [hp.o, bdS, s1, bdS, p1.o, bdS]
      show BKX5_product_13 ex ad (KX5_product_13 ex ad n) r (nI a) c' σ = _
      unfold BKX5_product_13
      rcases hs with rfl | rfl
      · rw [hp.o, bdS, ksg_1 CX hp (by omega) hb, bdS, if_neg s1_ne]
        exact e31
      · rw [hp.o, bdS, ksg_0 CX hp (by omega) (hb.un (by omega)), bdS, if_pos nI_0, bdS, ksg_1 CX hp (by omega) hb, bdS, if_neg s1_ne]
        exact e31
    by_cases h42 : isS x b 42
    · exact Or.inr (go 42 (Or.inl rfl) h42)
    · by_cases h47 : isS x b 47
      · exact Or.inr (go 47 (Or.inr rfl) h47)
      · refine Or.inl ⟨fun n => ?_, fun _ => ⟨h42, h47⟩, fun h => by omega, fun h => by omega, fun h => by omega, fun h => by omega⟩
        show BKX5_product_13 ex ad (KX5_product_13 ex ad n) r (nI a) c' σ = _
        unfold BKX5_product_13
        rw [hp.o, bdS, ksg_0 CX hp (by omega) h42, bdS, if_pos nI_0, bdS, ksg_0 CX hp (by omega) h47, bdS, if_pos nI_0, hoc, bdS])
  exact h9
theorem NT_sum (CX : cxK hS ad x r c) (H : NT hS x r c 6 64 9 E Ec D (d + 1) d (KX5_product ex ad r (nI a)) (PP a)) : NT hS x r c 5 29 4 (E + 100) (Ec + 20) (D + 1) (d + 1) d (KX5_sum ex ad r (nI a)) (PP a) := by
  have h9 := NT_ch (s := 1) CX (ℓ := 5) (by omega) H (Nat.le_refl _) (by omega) (by omega) (by omega) (by omega) (by omega) (by omega) (fun n c' σ => KX5_sum_13 ex ad n r (nI a) c' σ) (fun σ T b c' C W Q hp hoc hj hB hQ hL hW hn => by
    have go : ∀ s, s = 43 ∨ s = 45 → isS x b s → ∃ cc σ1 T1 J1, sgn cc ∧ 5 ≤ stq (opc cc) ∧ b + 1 ≤ nxT x b ∧ pK hS x r c σ1 (nxT x b) ∧ fr (fun q => q = r) σ σ1 ∧ (∀ n, KX5_sum_13 ex ad (n + 1) r (nI a) c' σ = (KX5_product ex ad r (nI a) σ1).bind fun r3 => xb r3 fun r5 => (isO r5.2 c' 7).bind fun _ => (KX8_add ad c' (nI cc) r5.1 r5.2).bind fun r6 => KX5_sum_13 ex ad n r (nI a) c' r6) ∧ PP a J1 ∧ (∀ m, J_expression_29 (m + 1) (nI 1) T = J1 m T1) ∧ jC T1 x (nxT x b) d (C ++ Q.reverse.map nI) (W ++ [opc cc]) ∧ bnd (C ++ Q.reverse.map nI) (W ++ [opc cc]) (nxT x b) ∧ low 6 (W ++ [opc cc]) ∧ (∀ i, i < d + 1 → T1.2.2 19 i = T.2.2 19 i) ∧ (6 ≤ 3 → T1.2.2 19 d = nI 0) ∧ jE T T1 := by
      intro s hs hb
      obtain ⟨σ1, s1, p1, f1⟩ := ksign CX hp (k := s) (by omega) hb
      obtain ⟨T1, e1, j1, b1, g1, t1⟩ := L_add hj hB hQ hL hW hs hb
      have hq : 5 ≤ stq (opc s) ∧ stq (opc s) < 6 := by rcases hs with rfl | rfl <;> decide
      refine ⟨s, σ1, T1, _, by unfold sgn; omega, hq.1, (nx_b hp.2.2.2.1).2.2 hb.lt, p1, f1, fun n => ?_, ⟨99999, nI 0, by omega, rfl⟩, e1, j1, b1, low_1 hq.2, fun i _ => by rw [t1], fun h => by omega, g1⟩
      have e31 : KX5_sum_31 ex ad (KX5_sum_13 ex ad n) r (nI a) c' σ = (KX5_product ex ad r (nI a) σ1).bind fun r3 => xb r3 fun r5 => (isO r5.2 c' 7).bind fun _ => (KX8_add ad c' (nI s) r5.1 r5.2).bind fun r6 => KX5_sum_13 ex ad n r (nI a) c' r6 := by
        unfold KX5_sum_31
        rw [hp.o, bdS, s1, bdS, p1.o, bdS]
      show BKX5_sum_13 ex ad (KX5_sum_13 ex ad n) r (nI a) c' σ = _
      unfold BKX5_sum_13
      rcases hs with rfl | rfl
      · rw [hp.o, bdS, ksg_1 CX hp (by omega) hb, bdS, if_neg s1_ne]
        exact e31
      · rw [hp.o, bdS, ksg_0 CX hp (by omega) (hb.un (by omega)), bdS, if_pos nI_0, bdS, ksg_1 CX hp (by omega) hb, bdS, if_neg s1_ne]
        exact e31
    by_cases h43 : isS x b 43
    · exact Or.inr (go 43 (Or.inl rfl) h43)
    · by_cases h45 : isS x b 45
      · exact Or.inr (go 45 (Or.inr rfl) h45)
      · refine Or.inl ⟨fun n => ?_, fun _ => hn.1 (by omega), fun _ => ⟨h43, h45⟩, fun h => by omega, fun h => by omega, fun h => by omega⟩
        show BKX5_sum_13 ex ad (KX5_sum_13 ex ad n) r (nI a) c' σ = _
        unfold BKX5_sum_13
        rw [hp.o, bdS, ksg_0 CX hp (by omega) h43, bdS, if_pos nI_0, bdS, ksg_0 CX hp (by omega) h45, bdS, if_pos nI_0, hoc, bdS])
  exact h9
theorem kps_0 (CX : cxK hS ad x r c) (h : pK hS x r c σ b) {k : Nat} (hk : k < 15) (hw : ¬ isW x b k) : KX5_passes ad r (ad (wdA k)) σ = some (nI 0, σ) := by
  unfold KX5_passes KX5_passes_14
  rw [h.o, bdS, kis_0 CX h hk hw, bdS, if_pos nI_0, zr0]
  rfl
theorem kps_1 (CX : cxK hS ad x r c) (h : pK hS x r c σ b) {k : Nat} (hk : k < 15) (hw : isW x b k) : ∃ σ1, KX5_passes ad r (ad (wdA k)) σ = some (nI 1, σ1) ∧ pK hS x r c σ1 (nxT x b) ∧ fr (fun q => q = r) σ σ1 := by
  obtain ⟨σ1, s1, p1, f1⟩ := h.nx CX
  refine ⟨σ1, ?_, p1, f1⟩
  unfold KX5_passes KX5_passes_14
  rw [h.o, bdS, kis_1 CX h hk hw, bdS, if_neg s1_ne, bdS, s1, bdS, zr1]
  rfl
theorem NT_and (CX : cxK hS ad x r c) (hd : d < 9) (H : NT hS x r c 3 (-6) (-1) E Ec D d d (KX5_not ex ad r (nI a)) (PO a)) : NT hS x r c 2 (-41) (-6) (E + 100) (Ec + 20) (D + 1) d d (KX5_and ex ad r (nI a)) (PO a) := by
  have h9 := NT_ch (s := 3) CX (ℓ := 2) (by omega) H (Nat.le_refl _) (by omega) (by omega) (by omega) (by omega) (by omega) (by omega) (fun n c' σ => KX5_and_13 ex ad n r (nI a) c' σ) (fun σ T b c' C W Q hp hoc hj hB hQ hL hW hn => by
    by_cases hw : isW x b 12
    · refine Or.inr ?_
      obtain ⟨σ1, s1, p1, f1⟩ := kps_1 CX hp (by omega) hw
      obtain ⟨T1, e1, j1, b1, g1, t1⟩ := L_and hj hB (s := 38) (Or.inl ⟨rfl, rfl, rfl⟩) hQ hL hW hd hw
      have h3 := nx_w hw hp.2.2.2.1
      refine ⟨38, σ1, T1, _, by unfold sgn; omega, by decide, h3, p1, f1, fun n => ?_, ⟨NN, by unfold NN; omega, rfl⟩, e1, j1, b1, low_1 (by decide), fun i hi => by rw [t1, upd_n (by omega)], fun _ => by rw [t1, upd_s], g1⟩
      show BKX5_and_13 ex ad (KX5_and_13 ex ad n) r (nI a) c' σ = _
      unfold BKX5_and_13
      have s1' : KX5_passes ad r (ad 24) σ = some (nI 1, σ1) := s1
      rw [hp.o, bdS, s1', bdS, if_neg s1_ne]
      dsimp only
      rw [p1.o, bdS]
    · refine Or.inl ⟨fun n => ?_, fun _ => hn.1 (by omega), fun _ => hn.2.1 (by omega), fun _ => hn.2.2.1 (by omega), fun _ => hw, fun h => by omega⟩
      show BKX5_and_13 ex ad (KX5_and_13 ex ad n) r (nI a) c' σ = _
      unfold BKX5_and_13
      have s0 : KX5_passes ad r (ad 24) σ = some (nI 0, σ) := kps_0 CX hp (k := 12) (by omega) hw
      rw [hp.o, bdS, s0, bdS, if_pos nI_0]
      dsimp only
      rw [hoc, bdS])
  exact h9
/-- an expression's ors, behind its two first questions -/
def KexC (ex : Nat → Int32 → vv_S → Option (hX (Nat × vv_S))) (ad : Nat → Nat) (r : Nat) (a : Int32) (σ : vv_S) : Option (hX (Nat × vv_S)) := (some (nwO σ 7 [.null, .null] 2)).bind fun σ4 => (isO σ4 r 4).bind fun _ => (KX5_and ex ad r a σ4).bind fun r5 => xb r5 fun r7 => (KX8_init ad σ.2.1 r7.1 r7.2).bind fun r8 => KX5_expression_64 ex ad NN r a σ.2.1 r8
theorem NT_or (CX : cxK hS ad x r c) (hd : d < 9) (H : NT hS x r c 2 (-41) (-6) E Ec D d d (KX5_and ex ad r (nI a)) (PO a)) : NT hS x r c 1 (-76) (-11) (E + 100) (Ec + 20) (D + 1) d d (KexC ex ad r (nI a)) (PO a) := by
  have h9 := NT_ch (s := 2) CX (ℓ := 1) (by omega) H (Nat.le_refl _) (by omega) (by omega) (by omega) (by omega) (by omega) (by omega) (fun n c' σ => KX5_expression_64 ex ad n r (nI a) c' σ) (fun σ T b c' C W Q hp hoc hj hB hQ hL hW hn => by
    by_cases hw : isW x b 13
    · refine Or.inr ?_
      obtain ⟨σ1, s1, p1, f1⟩ := kps_1 CX hp (by omega) hw
      obtain ⟨T1, e1, j1, b1, g1, t1⟩ := L_and hj hB (s := 124) (Or.inr ⟨rfl, rfl, rfl⟩) hQ hL hW hd hw
      have h3 := nx_w hw hp.2.2.2.1
      refine ⟨124, σ1, T1, _, by unfold sgn; omega, by decide, h3, p1, f1, fun n => ?_, ⟨NN, by unfold NN; omega, rfl⟩, e1, j1, b1, low_1 (by decide), fun i hi => by rw [t1, upd_n (by omega)], fun _ => by rw [t1, upd_s], g1⟩
      show BKX5_expression_64 ex ad (KX5_expression_64 ex ad n) r (nI a) c' σ = _
      unfold BKX5_expression_64
      have s1' : KX5_passes ad r (ad 25) σ = some (nI 1, σ1) := s1
      rw [hp.o, bdS, s1', bdS, if_neg s1_ne]
      dsimp only
      rw [p1.o, bdS]
    · refine Or.inl ⟨fun n => ?_, fun _ => hn.1 (by omega), fun _ => hn.2.1 (by omega), fun _ => hn.2.2.1 (by omega), fun _ => hn.2.2.2.1 (by omega), fun _ => hw⟩
      show BKX5_expression_64 ex ad (KX5_expression_64 ex ad n) r (nI a) c' σ = _
      unfold BKX5_expression_64
      have s0 : KX5_passes ad r (ad 25) σ = some (nI 0, σ) := kps_0 CX hp (k := 13) (by omega) hw
      rw [hp.o, bdS, s0, bdS, if_pos nI_0]
      dsimp only
      rw [hoc, bdS])
  exact h9
end PR
