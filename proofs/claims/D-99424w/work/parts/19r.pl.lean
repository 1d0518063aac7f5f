/-! the plain law: nots -/
set_option maxRecDepth 100000
def ntV : Nat → ((Nat → Int32) → Int32) → (Nat → Int32) → Int32
  | 0, ev => ev
  | k + 1, ev => ntV k fun u => if ev u = 0 then nI 1 else nI 0
section NO
variable {hS : Nat → Option vv_E} {ad : Nat → Nat} {x : txT} {r b a d n m k : Nat} {c : Nat × Nat × Nat × Nat} {σ σ' : vv_S} {T : tw_T} {ex ex' : Nat → Int32 → vv_S → Option (hX (Nat × vv_S))} {E Ec : Int} {D : Nat} {C : List Int32} {W Q : List Nat}
theorem sx_nt : ∀ (k : Nat) (ev : (Nat → Int32) → Int32), sx ev → sx (ntV k ev) := by
  intro k
  induction k with
  | zero => exact fun ev h => h
  | succ k ih =>
    intro ev h
    exact ih _ fun u u' hu => by rw [h u u' hu]
theorem cd_nt : ∀ (k : Nat) (C : List Int32) (ev : (Nat → Int32) → Int32), cdE C ev → cdE (C ++ List.replicate k (nI 3)) (ntV k ev) := by
  intro k
  induction k with
  | zero => intro C ev h; rw [show List.replicate 0 (nI 3) = [] from rfl, List.append_nil]; exact h
  | succ k ih =>
    intro C ev h
    have h9 := ih _ _ (cd_not h)
    rw [List.append_assoc] at h9
    exact h9
theorem K_n94 {s : Nat} (hk : k < 100) : ∀ (j : Nat) (σ : vv_S) (f D i n : Nat) (ev : (Nat → Int32) → Int32), i + j = k → j < n → isFr σ.1 s σ.2.1 f D ev → ∃ f' σ', KX5_not_94 ex ad n (nI k) f (nI i) σ = some (.inl (f', σ')) ∧ isFr σ'.1 s σ'.2.1 f' (D + j) (ntV j ev) ∧ σ'.2 = (σ.2.1 + j, σ.2.2 + j) ∧ ∀ q, q < σ.2.1 → σ'.1 q = σ.1 q := by
  intro j
  induction j with
  | zero =>
    intro σ f D i n ev hi hn hf
    obtain ⟨n, rfl⟩ : ∃ z, n = z + 1 := ⟨n - 1, by omega⟩
    refine ⟨f, σ, ?_, hf, rfl, fun _ _ => rfl⟩
    show BKX5_not_94 ex ad (KX5_not_94 ex ad n) (nI k) f (nI i) σ = _
    unfold BKX5_not_94
    rw [if_pos (nI_le (by omega) (by omega))]
  | succ j ih =>
    intro σ f D i n ev hi hn hf
    obtain ⟨n, rfl⟩ : ∃ z, n = z + 1 := ⟨n - 1, by omega⟩
    obtain ⟨σ2, hσ2⟩ : ∃ τ : vv_S, τ = nwO σ 10 [.null] 1 := ⟨_, rfl⟩
    have c2 : σ2.1 σ.2.1 = some (true, .inr (10, [.null])) := by rw [hσ2]; exact up_s
    have n2 : ∀ q, q < σ.2.1 → σ2.1 q = σ.1 q := fun q hq => by rw [hσ2]; exact up_n (by omega)
    have z2 : σ2.2 = (σ.2.1 + 1, σ.2.2 + 1) := by rw [hσ2]; rfl
    obtain ⟨σ3, s3, c3, z3, o3⟩ := nw1 (v := .ref f) c2
    have z3' : σ3.2 = (σ.2.1 + 1, σ.2.2 + 1) := by rw [z3, z2]
    have z3a : σ3.2.1 = σ.2.1 + 1 := by rw [z3']
    have k3 : ∀ q, q < σ.2.1 → σ3.1 q = σ.1 q := fun q hq => (o3 q (by omega)).trans (n2 q hq)
    have hs := hf.1
    have F : isFr σ3.1 s σ3.2.1 σ.2.1 (D + 1) (fun u => if ev u = 0 then nI 1 else nI 0) := fr_10 (hf.mo (Nat.le_refl _) (by omega) (fun q _ hq => k3 q hq) (Nat.le_refl _)) c3 ⟨by omega, by omega⟩
    obtain ⟨f', σ', s4, F4, z4, k4⟩ := ih σ3 σ.2.1 (D + 1) (i + 1) n _ (by omega) (by omega) F
    refine ⟨f', σ', ?_, ?_, ?_, fun q hq => (k4 q (by omega)).trans (k3 q hq)⟩
    · rw [← s4]
      show BKX5_not_94 ex ad (KX5_not_94 ex ad n) (nI k) f (nI i) σ = _
      unfold BKX5_not_94 KX11_init
      rw [if_neg (nI_ge (by omega) (by omega)), bdS, ← hσ2, s3, bdS, bdS, nI_add]
    · rw [show D + (j + 1) = D + 1 + j by omega]
      exact F4
    · rw [z4, z3']
      show (σ.2.1 + 1 + j, σ.2.2 + 1 + j) = _
      rw [show σ.2.1 + 1 + j = σ.2.1 + (j + 1) by omega, show σ.2.2 + 1 + j = σ.2.2 + (j + 1) by omega]
/-- the end of it: plain, the nots around it -/
theorem nt_fin {s k' lc bc : Nat} {z : chT} {gg : Nat → Nat} {evs : Nat → (Nat → Int32) → Int32} {sg : Nat → Nat} (hch : chS σ ad s z k' D lc bc gg evs sg) (hk : k < 100) (hk' : k' ≤ 1000) : ∃ f σ', KX5_not_85 ex ad (nI k) z.1 σ = some (.inl (f, σ')) ∧ isFr σ'.1 s σ'.2.1 f (D + 1 + k) (ntV k fun u => foV evs sg u (k' - 1)) ∧ sx (ntV k fun u => foV evs sg u (k' - 1)) ∧ σ'.2 = (σ.2.1 + k, σ.2.2 + k) ∧ ∀ q, q < σ.2.1 → σ'.1 q = σ.1 q := by
  obtain ⟨f, p1, p2, p3⟩ := K_chp hch hk'
  obtain ⟨f', σ', s1, F, zf, o⟩ := K_n94 (ex := ex) (ad := ad) hk k σ f (D + 1) 0 NN _ (by omega) (by unfold NN; omega) p2
  refine ⟨f', σ', ?_, F, sx_nt k _ p3, zf, o⟩
  have oc : isO σ z.1 7 = some () := by unfold isO; rw [hch.1]; rfl
  unfold KX5_not_85
  rw [oc, bdS, p1, bdS]
  exact s1
def KnB (ex : Nat → Int32 → vv_S → Option (hX (Nat × vv_S))) (ad : Nat → Nat) (x0 : Nat) (x1 : Int32) (x2 : Int32) (σ : vv_S) : Option (hX (Nat × vv_S)) := (some (nwO σ 7 [.null, .null] 2)).bind fun σ4 => (isO σ4 x0 4).bind fun _ => (KX5_sum ex ad x0 x1 σ4).bind fun r5 => xb r5 fun r7 => (KX8_init ad σ.2.1 r7.1 r7.2).bind fun r8 => (isO r8 x0 4).bind fun _ => (KX5_isSign x0 (nI 60) r8).bind fun r9 => if r9 = 0 then ((isO r8 x0 4).bind fun _ => (KX5_isSign x0 (nI 61) r8).bind fun r12 => if r12 = 0 then (KX5_not_85 ex ad x2 σ.2.1 r8) else (KX5_not_68 ex ad x0 x1 x2 σ.2.1 r8)) else (KX5_not_68 ex ad x0 x1 x2 σ.2.1 r8)
theorem rp_c {W Q2 : List Nat} {k o : Nat} : (W ++ List.replicate k 3 ++ [o] ++ Q2) = W ++ (List.replicate k 3 ++ [o] ++ Q2) := by simp only [List.append_assoc]
theorem nt_bd (CX : cxK hS ad x r c) (hd : d < 9) (H5 : NT hS x r c 5 29 4 E Ec D (d + 1) d (KX5_sum ex ad r (nI a)) (PP a)) {σ0 : vv_S} {T0 : tw_T} {b0 : Nat} (hp0 : pK hS x r c σ0 b0) (hz0 : σ.2 = σ0.2) (hf0 : fK r σ0 σ) (hk : k ≤ 6) (hbk : b0 + 3 * k ≤ b) (hp : pK hS x r c σ b) (hj : jC T x b d C (W ++ List.replicate k 3)) (hB : bnd C (W ++ List.replicate k 3) b) (hL : low 3 W) (hW : ∀ o ∈ W, o < 100) (h30 : T.2.2 19 d = nI 0) (hts : ∀ i, i < d → T.2.2 19 i = T0.2.2 19 i) (hje : jE T0 T) (hm : x.1 + 3 ≤ m + b) (hn : 20 ≤ n + a) {x2 : Int32} : ntR hS x r c 3 (-6) (-1) (E + 100) (Ec + 20) (D + 7) d d σ0 T0 b0 C W (KnB ex ad r (nI a) (nI k) σ) ((J_operand_75 (J_operand_4 n) x2 T).bind fun r => J_expression_29 m (nI 1) r) := by
  have hr0 := hp0.2.2.1
  have hx7 := CX.1.1
  have hza : σ.2.1 = σ0.2.1 := by rw [hz0]
  have hzb : σ.2.2 = σ0.2.2 := by rw [hz0]
  have hr := hp.2.2.1
  have hWk : ∀ o ∈ W ++ List.replicate k 3, o < 100 := fun o ho => by
    simp only [List.mem_append, List.mem_replicate] at ho
    rcases ho with ho | ho
    · exact hW o ho
    · omega
  have hlow : ∀ ℓ, 4 ≤ ℓ → low ℓ (W ++ List.replicate k 3) := fun ℓ hl W1 o e => by
    rcases Nat.eq_zero_or_pos k with h0 | h0
    · rw [h0, show List.replicate 0 3 = ([] : List Nat) from rfl, List.append_nil] at e
      exact (hL.mo (by omega)) W1 o e
    · have ho : o = 3 := by
        obtain ⟨k', rfl⟩ : ∃ w, k = w + 1 := ⟨k - 1, by omega⟩
        rw [List.replicate_succ', ← List.append_assoc] at e
        have h9 := (List.append_inj' e rfl).2
        injection h9 with h9
        exact h9.symm
      rw [ho]
      exact Or.inr (show (3 : Nat) < ℓ by omega)
  obtain ⟨σ1, hσ1⟩ : ∃ τ : vv_S, τ = nwO σ 7 [.null, .null] 2 := ⟨_, rfl⟩
  have n1 : ∀ q, q < σ.2.1 → σ1.1 q = σ.1 q := fun q hq => by rw [hσ1]; exact up_n (by omega)
  have z1 : σ1.2 = (σ.2.1 + 1, σ.2.2 + 2) := by rw [hσ1]; rfl
  have z1' : σ1.2.1 = σ.2.1 + 1 := by rw [z1]
  have z1'' : σ1.2.2 = σ.2.2 + 2 := by rw [z1]
  have c1 : σ1.1 σ.2.1 = some (true, .inr (7, [.null, .null])) := by rw [hσ1]; exact up_s
  have f1 : fK r σ σ1 := ⟨by omega, fun q h1 _ => n1 q h1⟩
  have hp1 : pK hS x r c σ1 b := hp.k CX.2.2.1 f1 (hp.2.2.2.k (n1 r hr))
  unfold KnB
  rw [bdS, ← hσ1, hp1.o, bdS]
  rcases H5 (fun m T => (J_operand_75 (J_operand_4 n) x2 T).bind fun r => J_expression_29 m (nI 1) r) σ1 T b C (W ++ List.replicate k 3) m ⟨n, x2, hn, rfl⟩ hp1 hj hB (hlow 5 (by omega)) hWk (fun h => by omega) hm with ⟨κ, b', q1, q2, ⟨q, σ', w1, w2, w3, w4, w5, w6, w7, w8⟩, q3⟩ | ⟨f, σ2, b2, ev, code, C2, Q2, T2, m2, q1, q2, q3, ⟨q4, q5, q6⟩, q7, q8, q9, q10, q11, q12, q13, q14, q15, q16, q17, q18, q19⟩
  · refine Or.inl ⟨κ, b', by omega, q2, ⟨q, σ', ?_, w2, (hf0.tr f1).tr w3, w4, by omega, by omega, by omega, by omega⟩, q3.tr hje⟩
    rw [w1, bdS, xbR]
  · obtain ⟨b9, gg9, e0⟩ := CX.2.2.2.2.1
    obtain ⟨e9, e1⟩ := CX.2.2.2.2.2
    have hsz3 : σ.2.1 + 1 ≤ σ2.2.1 := by have := q3.1; omega
    have c2 : σ2.1 σ.2.1 = some (true, .inr (7, [.null, .null])) := by rw [q3.2 _ (by omega) (by omega)]; exact c1
    obtain ⟨σ3, z, lc, bc, gg, evs, sg, s3, ch3, zz, R3, ev0, z3, old3⟩ := K_ch0 (ad := ad) (s := σ.2.1) ⟨⟨b9, gg9, q2.1 _ _ e0⟩, q2.2.1 _ _ e0, q2.2.1 _ _ e1⟩ c2 ⟨Nat.le_refl _, by omega, Nat.le_refl _⟩ q7 q8
    have z3' : σ3.2.1 = σ2.2.1 + 4 := by rw [z3]
    have z3'' : σ3.2.2 = σ2.2.2 + 33 := by rw [z3]
    have nS : ∀ q e, hS q = some e → q < σ.2.1 := hp.2.1
    have hp3 : pK hS x r c σ3 b2 := by
      refine ⟨fun q e he => ?_, fun q e he => Nat.lt_of_lt_of_le (q2.2.1 q e he) (by omega), Nat.lt_of_lt_of_le q2.2.2.1 (by omega), q2.2.2.2.k (old3 r q2.2.2.1 (by omega))⟩
      rw [old3 q (q2.2.1 q e he) (by have := nS q e he; omega)]
      exact q2.1 q e he
    have hf3 : fK r σ σ3 := ⟨by omega, fun q h1 h2 => by rw [old3 q (by omega) (by omega), q3.2 q (by omega) h2, n1 q h1]⟩
    have hbx := hp3.2.2.2.1
    rw [q1, bdS, xbL]
    dsimp only
    rw [s3, bdS]
    obtain ⟨nf6, nf5, -, -, -⟩ := id q17
    by_cases h6 : isS x b2 60 ∨ isS x b2 61
    · obtain ⟨s, hs, hb⟩ : ∃ s, (s = 60 ∨ s = 61) ∧ isS x b2 s := by
        rcases h6 with h6 | h6
        · exact ⟨60, Or.inl rfl, h6⟩
        · exact ⟨61, Or.inr rfl, h6⟩
      have hsg : sgn s := by unfold sgn; omega
      have hop := opc_b hsg
      obtain ⟨σ4, s4, p4, g4⟩ := ksign CX hp3 (k := s) (by omega) hb
      have z4 : σ4.2 = σ3.2 := g4.1
      have z4a : σ4.2.1 = σ3.2.1 := by rw [z4]
      have z4b : σ4.2.2 = σ3.2.2 := by rw [z4]
      obtain ⟨T3, t3, j3, B3, k3, u3⟩ := L_cmp q12 q16 (q13.mo (by omega)) (hlow 4 (by omega)) hWk hd (by rw [q18 d (by omega)]; exact h30) hs hb
      have hnx := (nx_b hbx).2.2 hb.lt
      obtain ⟨m2, rfl⟩ : ∃ w, m2 = w + 1 := ⟨m2 - 1, by omega⟩
      have eG : ((isO σ3 r 4).bind fun _ => (KX5_isSign r (nI 60) σ3).bind fun r9 => if r9 = 0 then ((isO σ3 r 4).bind fun _ => (KX5_isSign r (nI 61) σ3).bind fun r12 => if r12 = 0 then (KX5_not_85 ex ad (nI k) σ.2.1 σ3) else (KX5_not_68 ex ad r (nI a) (nI k) σ.2.1 σ3)) else (KX5_not_68 ex ad r (nI a) (nI k) σ.2.1 σ3)) = (KX5_sum ex ad r (nI a) σ4).bind fun r3 => xb r3 fun r5 => (isO r5.2 σ.2.1 7).bind fun _ => (KX8_add ad σ.2.1 (nI s) r5.1 r5.2).bind fun r6 => KX5_not_85 ex ad (nI k) σ.2.1 r6 := by
        have e : KX5_not_68 ex ad r (nI a) (nI k) σ.2.1 σ3 = (KX5_sum ex ad r (nI a) σ4).bind fun r3 => xb r3 fun r5 => (isO r5.2 σ.2.1 7).bind fun _ => (KX8_add ad σ.2.1 (nI s) r5.1 r5.2).bind fun r6 => KX5_not_85 ex ad (nI k) σ.2.1 r6 := by
          unfold KX5_not_68
          rw [hp3.o, bdS, s4, bdS, p4.o, bdS]
        rcases hs with rfl | rfl
        · rw [hp3.o, bdS, ksg_1 CX hp3 (by omega) hb, bdS, if_neg s1_ne]
          exact e
        · rw [hp3.o, bdS, ksg_0 CX hp3 (by omega) (hb.un (by omega)), bdS, if_pos nI_0, bdS, ksg_1 CX hp3 (by omega) hb, bdS, if_neg s1_ne]
          exact e
      rw [eG, q10, t3 m2]
      have hq4 : stq (opc s) = 4 := by rcases hs with rfl | rfl <;> rfl
      have hWk2 : ∀ o ∈ W ++ List.replicate k 3 ++ [opc s], o < 100 := fun o ho => by
        simp only [List.mem_append, List.mem_singleton] at ho
        rcases ho with (ho | ho) | ho
        · exact hW o ho
        · exact hWk o (List.mem_append_right _ ho)
        · omega
      rcases H5 (fun m T => (J_operand_75 (J_operand_4 99999) (nI 0) T).bind fun r => J_expression_29 m (nI 1) r) σ4 T3 (nxT x b2) _ _ m2 ⟨99999, nI 0, by omega, rfl⟩ p4 j3 B3 (low_1 (by omega)) hWk2 (fun h => by omega) (by omega) with ⟨κ, b', y1, y2, ⟨q, σ', w1, w2, w3, w4, w5, w6, w7, w8⟩, y3⟩ | ⟨f5, σ5, b5, ev5, code5, C5, Q5, T5, m5, y1, y2, y3, ⟨y4, y5, y6⟩, y7, y8, y9, y10, y11, y12, y13, y14, y15, y16, y17, y18, y19⟩
      · refine Or.inl ⟨κ, b', by omega, y2, ⟨q, σ', ?_, w2, ((hf0.tr hf3).tr (fK.fr g4)).tr w3, w4, by omega, by omega, by omega, by omega⟩, y3.tr ((hje.tr q19).tr k3)⟩
        rw [w1, bdS, xbR]
      · have hsz5 : σ3.2.1 ≤ σ5.2.1 := by have := y3.1; omega
        have ch5 : chS σ5 ad σ.2.1 z 1 D lc bc gg evs sg := ch3.mo (fun q h1 h2 => by
          rw [y3.2 q (by omega) (by omega)]
          exact g4.2 q (by show q ≠ r; omega)) hsz5
        have hz1 := ch3.2.2.2.2.1
        have had0 := y2.2.1 _ _ e0
        have had1 := y2.2.1 _ _ e1
        rw [z4a] at y7
        obtain ⟨σ6, z', lc', bc', lA', bA', g', evs', sg', s6, ch6, zz6, R6, fo6, ⟨co1, co2, co3, co4⟩, old6⟩ := K_cha ch5 R3 (by omega) ⟨had0, had1⟩ ⟨by omega, Nat.le_refl _⟩ y7 y8 (fun q h1 h2 => ⟨by omega, by omega, by omega, by omega, by omega⟩) hsg
        have hz4 := ch3.2.2.2.1
        have nz : ∀ q, q < σ.2.1 → chN z q := fun q hq => ⟨by omega, by omega, by omega, by omega, by omega⟩
        obtain ⟨f7, σ7, s7, F7, sx7, z7, old7⟩ := nt_fin (ex := ex) (k := k) ch6 (by omega) (by omega)
        have z7a : σ7.2.1 = σ6.2.1 + k := by rw [z7]
        have z7b : σ7.2.2 = σ6.2.2 + k := by rw [z7]
        have old : ∀ q, q < σ.2.1 → q ≠ r → σ7.1 q = σ.1 q := fun q h1 h2 => by
          rw [old7 q (by omega), old6 q (by omega) (nz q h1), y3.2 q (by omega) h2, g4.2 q h2, hf3.2 q h1 h2]
        have hf7 : fK r σ0 σ7 := hf0.tr ⟨by omega, old⟩
        have hp7 : pK hS x r c σ7 b5 := hp0.k CX.2.2.1 hf7 (y2.2.2.2.k (by rw [old7 r (by omega), old6 r (by omega) (nz r hr)]))
        obtain ⟨r1, r2, r3, r4, r5, r6⟩ := R6
        have hoc5 : isO σ5 σ.2.1 7 = some () := by unfold isO; rw [← zz, ch5.1]; rfl
        have eO : W ++ (List.replicate k 3 ++ [opc s] ++ Q5) = W ++ List.replicate k 3 ++ [opc s] ++ Q5 := rp_c.symm
        refine Or.inr ⟨f7, σ7, b5, _, code ++ code5 ++ [nI (opc s)] ++ List.replicate k (nI 3), C5, List.replicate k 3 ++ [opc s] ++ Q5, T5, m5, ?_, hp7, hf7, ⟨by omega, by omega, by omega⟩, by rw [← hza]; exact F7.mo (Nat.le_refl _) (Nat.le_refl _) (fun _ _ _ => rfl) (by omega), sx7, by omega, y10, y11, ?_, ?_, ?_, ?_, ?_, ⟨fun h => y17.1 (by omega), fun h => y17.2.1 (by omega), fun h => Or.inr ?_, fun h => by omega, fun h => by omega⟩, fun i hi => ?_, ((hje.tr q19).tr k3).tr y19⟩
        · rw [y1, bdS, xbL]
          dsimp only
          rw [hoc5, bdS, ← zz, s6, bdS, ← zz6]
          exact s7
        · rw [eO]
          exact y12
        · intro o ho
          simp only [List.mem_append, List.mem_replicate, List.mem_singleton] at ho
          rcases ho with (ho | ho) | ho
          · rw [ho.2]; exact ⟨by omega, Nat.le_refl 3⟩
          · rw [ho]; exact ⟨by omega, by omega⟩
          · have := y13 o ho; exact ⟨this.1, by omega⟩
        · have e : (List.replicate k 3 ++ [opc s] ++ Q5).reverse.map nI = Q5.reverse.map nI ++ ([nI (opc s)] ++ List.replicate k (nI 3)) := by simp
          rw [e, ← List.append_assoc, y14, q14]
          simp only [List.append_assoc]
        · have h9 := cd_nt k _ _ (cd_bin q15 y15 hsg)
          have e : (fun u => foV evs' sg' u (1 + 1 - 1)) = fun u => byV s (ev u) (ev5 u) := funext fun u => by
            rw [show 1 + 1 - 1 = 1 from rfl, fo6 u]
            show byV s (evs 0 u) (ev5 u) = _
            rw [ev0]
          rw [e]
          exact h9
        · rw [eO]
          exact y16
        · rw [y18 d (by omega), u3, upd_s]
        · rw [y18 i (by omega), u3, upd_n (by omega), q18 i (by omega), hts i hi]
    · have h60 : ¬ isS x b2 60 := fun h => h6 (Or.inl h)
      have h61 : ¬ isS x b2 61 := fun h => h6 (Or.inr h)
      obtain ⟨f7, σ7, s7, F7, sx7, z7, old7⟩ := nt_fin (ex := ex) (k := k) ch3 (by omega) (by omega)
      have z7a : σ7.2.1 = σ3.2.1 + k := by rw [z7]
      have z7b : σ7.2.2 = σ3.2.2 + k := by rw [z7]
      have hf7 : fK r σ0 σ7 := hf0.tr ⟨by omega, fun q h1 h2 => by rw [old7 q (by omega), hf3.2 q h1 h2]⟩
      have hp7 : pK hS x r c σ7 b2 := hp0.k CX.2.2.1 hf7 (hp3.2.2.2.k (old7 r (by omega)))
      have eO : W ++ (List.replicate k 3 ++ Q2) = W ++ List.replicate k 3 ++ Q2 := (List.append_assoc _ _ _).symm
      refine Or.inr ⟨f7, σ7, b2, _, code ++ List.replicate k (nI 3), C2, List.replicate k 3 ++ Q2, T2, m2, ?_, hp7, hf7, ⟨by omega, by omega, by omega⟩, by rw [← hza]; exact F7.mo (Nat.le_refl _) (Nat.le_refl _) (fun _ _ _ => rfl) (by omega), sx7, by omega, q10, q11, ?_, ?_, ?_, ?_, ?_, ⟨fun h => nf6 (by omega), fun h => nf5 (by omega), fun h => Or.inl ⟨h60, h61⟩, fun h => by omega, fun h => by omega⟩, fun i hi => by rw [q18 i (by omega), hts i hi], hje.tr q19⟩
      · rw [hp3.o, bdS, ksg_0 CX hp3 (by omega) h60, bdS, if_pos nI_0, bdS, ksg_0 CX hp3 (by omega) h61, bdS, if_pos nI_0, ← zz]
        exact s7
      · rw [eO]
        exact q12
      · intro o ho
        simp only [List.mem_append, List.mem_replicate] at ho
        rcases ho with ho | ho
        · rw [ho.2]; exact ⟨by omega, Nat.le_refl 3⟩
        · have := q13 o ho; exact ⟨this.1, by omega⟩
      · have e : (List.replicate k 3 ++ Q2).reverse.map nI = Q2.reverse.map nI ++ List.replicate k (nI 3) := by simp
        rw [e, ← List.append_assoc, q14]
        simp only [List.append_assoc]
      · have h9 := cd_nt k _ _ q15
        have e : (fun u => foV evs sg u (1 - 1)) = ev := funext fun u => by
          show evs 0 u = ev u
          rw [ev0]
        rw [e]
        exact h9
      · rw [eO]
        exact q16
end NO
