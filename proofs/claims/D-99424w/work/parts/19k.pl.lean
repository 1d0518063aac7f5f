/-! the plain law: both read a chain -/
set_option maxRecDepth 100000
/-- where the component reads: the frozen heap, the text, the Reader and its fellows -/
def cxK (hS : Nat → Option vv_E) (ad : Nat → Nat) (x : txT) (r : Nat) (c : Nat × Nat × Nat × Nat) : Prop := txK hS ad c.2.2.2 x ∧ wdK hS ad ∧ hS r = none ∧ nmK hS ad c.2.2.1 ∧ (∃ b gg, hS (ad 0) = some (obE b 0 gg)) ∧ ∃ e, hS (ad 1) = some e
def pK (hS : Nat → Option vv_E) (x : txT) (r : Nat) (c : Nat × Nat × Nat × Nat) (σ : vv_S) (b : Nat) : Prop := sub hS σ.1 ∧ (∀ q e, hS q = some e → q < σ.2.1) ∧ r < σ.2.1 ∧ tkK σ x r c b
def fK (r : Nat) (σ σ' : vv_S) : Prop := σ.2.1 ≤ σ'.2.1 ∧ ∀ q, q < σ.2.1 → q ≠ r → σ'.1 q = σ.1 q
def cst (g gc : Int) (b b' : Nat) (σ σ' : vv_S) : Prop := σ.2.2 ≤ σ'.2.2 ∧ (σ'.2.2 : Int) + 100 * b + g ≤ σ.2.2 + 100 * b' ∧ (σ'.2.1 : Int) + 15 * b + gc ≤ σ.2.1 + 15 * b'
abbrev wrF (κ : Nat) : List Value := [.null, .null, .null, .null, .null, .int 0, .int (nI κ)]
/-- Wrong is thrown, of the kind, at the token -/
def kErr {α : Type} (hS : Nat → Option vv_E) (x : txT) (r : Nat) (c : Nat × Nat × Nat × Nat) (E Ec : Int) (σ : vv_S) (b κ b' : Nat) (R : Option (hX α)) : Prop := ∃ q σ', R = some (.inr (("LuckCrates$Wrong", q), σ')) ∧ pK hS x r c σ' b' ∧ fK r σ σ' ∧ σ'.1 q = some (true, .inr (5, wrF κ)) ∧ σ.2.1 ≤ q ∧ cst (-E) (-Ec) b b' σ σ'
/-- what can't follow -/
def nof (ℓ : Nat) (x : txT) (b : Nat) (T : tw_T) (d : Nat) : Prop := (ℓ ≤ 6 → ¬ isS x b 42 ∧ ¬ isS x b 47) ∧ (ℓ ≤ 5 → ¬ isS x b 43 ∧ ¬ isS x b 45) ∧ (ℓ ≤ 3 → (¬ isS x b 60 ∧ ¬ isS x b 61) ∨ T.2.2 19 d = nI 1) ∧ (ℓ ≤ 2 → ¬ isW x b 12) ∧ (ℓ ≤ 1 → ¬ isW x b 13)
/-- both end alike -/
def ntR (hS : Nat → Option vv_E) (x : txT) (r : Nat) (c : Nat × Nat × Nat × Nat) (ℓ : Nat) (g gc E Ec : Int) (D dd d : Nat) (σ : vv_S) (T : tw_T) (b : Nat) (C : List Int32) (W : List Nat) (R : Option (hX (Nat × vv_S))) (rJ : Option tw_T) : Prop :=
  (∃ κ b', b ≤ b' ∧ b' ≤ x.1 ∧ kErr hS x r c E Ec σ b κ b' R ∧ jEnd T κ b' rJ) ∨
  ∃ f σ' b' ev code C' Q T' m', R = some (.inl (f, σ')) ∧ pK hS x r c σ' b' ∧ fK r σ σ' ∧ cst g gc b b' σ σ' ∧ isFr σ'.1 σ.2.1 σ'.2.1 f D ev ∧ sx ev ∧ b < b' ∧ rJ = J_expression_29 m' (nI 1) T' ∧ x.1 + 3 ≤ m' + b' ∧ jC T' x b' d C' (W ++ Q) ∧ okQ ℓ Q ∧ C' ++ Q.reverse.map nI = C ++ code ∧ cdE code ev ∧ bnd C' (W ++ Q) b' ∧ nof ℓ x b' T' d ∧ (∀ i, i < dd → T'.2.2 19 i = T.2.2 19 i) ∧ jE T T'
def NT (hS : Nat → Option vv_E) (x : txT) (r : Nat) (c : Nat × Nat × Nat × Nat) (ℓ : Nat) (g gc E Ec : Int) (D dd d : Nat) (K : vv_S → Option (hX (Nat × vv_S))) (PJ : (Nat → tw_T → Option tw_T) → Prop) : Prop := ∀ (J : Nat → tw_T → Option tw_T) (σ : vv_S) (T : tw_T) (b : Nat) (C : List Int32) (W : List Nat) (m : Nat), PJ J → pK hS x r c σ b → jC T x b d C W → bnd C W b → low ℓ W → (∀ o ∈ W, o < 100) → (ℓ ≤ 3 → T.2.2 19 d = nI 0) → x.1 + 3 ≤ m + b → ntR hS x r c ℓ g gc E Ec D dd d σ T b C W (K σ) (J m T)
section NC
variable {hS : Nat → Option vv_E} {ad : Nat → Nat} {x : txT} {r b : Nat} {c : Nat × Nat × Nat × Nat} {σ σ' : vv_S} {T : tw_T}
theorem fK.rf : fK r σ σ := ⟨Nat.le_refl _, fun _ _ _ => rfl⟩
theorem fK.tr {σ1 σ2 : vv_S} (h1 : fK r σ σ1) (h2 : fK r σ1 σ2) : fK r σ σ2 := ⟨Nat.le_trans h1.1 h2.1, fun q a b => (h2.2 q (Nat.lt_of_lt_of_le a h1.1) b).trans (h1.2 q a b)⟩
theorem fK.fr (h : fr (fun q => q = r) σ σ') : fK r σ σ' := ⟨by rw [h.1]; exact Nat.le_refl _, fun q _ hq => h.2 q hq⟩
theorem pK.k {b' : Nat} (h : pK hS x r c σ b) (hr : hS r = none) (f : fK r σ σ') (ht : tkK σ' x r c b') : pK hS x r c σ' b' := by
  obtain ⟨h1, h2, h3, h4⟩ := h
  refine ⟨fun q e he => ?_, fun q e he => Nat.lt_of_lt_of_le (h2 q e he) f.1, Nat.lt_of_lt_of_le h3 f.1, ht⟩
  rw [f.2 q (h2 q e he) (fun z => by rw [z, hr] at he; cases he)]
  exact h1 q e he
theorem tkK.k (h : tkK σ x r c b) (e : σ'.1 r = σ.1 r) : tkK σ' x r c b := by
  obtain ⟨h1, u, h2, h3, h4⟩ := h
  exact ⟨h1, u, h2, h3, e.trans h4⟩
theorem pK.o (h : pK hS x r c σ b) : isO σ r 4 = some () := by
  obtain ⟨-, -, -, h1, u, h2, h3, h4⟩ := h
  exact r_o h4
theorem pK.nx (CX : cxK hS ad x r c) (h : pK hS x r c σ b) : ∃ σ', KX5_next ad r σ = some σ' ∧ pK hS x r c σ' (nxT x b) ∧ fr (fun q => q = r) σ σ' := by
  obtain ⟨σ1, s1, t1, f1⟩ := KR_next CX.1 CX.2.2.1 h.1 h.2.2.2
  exact ⟨σ1, s1, h.k CX.2.2.1 (fK.fr f1) t1, f1⟩
theorem okQ.mo {ℓ ℓ' : Nat} {Q : List Nat} (h : okQ ℓ Q) (hl : ℓ' ≤ ℓ) : okQ ℓ' Q := fun o ho => ⟨(h o ho).1, Nat.le_trans hl (h o ho).2⟩
theorem low.mo {ℓ ℓ' : Nat} {W : List Nat} (h : low ℓ W) (hl : ℓ ≤ ℓ') : low ℓ' W := fun W1 o e => (h W1 o e).imp id fun z => Nat.lt_of_lt_of_le z hl
theorem NT_ch (CX : cxK hS ad x r c) {ℓ ℓc : Nat} (hℓ : ℓ ≤ ℓc) {g gc E Ec : Int} {D dd dd' d s : Nat} {Kc : vv_S → Option (hX (Nat × vv_S))} {PJ : (Nat → tw_T → Option tw_T) → Prop} (Hc : NT hS x r c ℓc g gc E Ec D dd d Kc PJ) (hdd : dd' ≤ dd) (ht3 : ℓc ≤ 3 → ℓ ≤ 3) (hs : 1 ≤ s) (hg1 : 10 ≤ 100 * (s : Int) + g) (hg2 : -65 ≤ g) (hg3 : 2 ≤ 15 * (s : Int) + gc) (hg4 : -15 ≤ gc) (LK : Nat → Nat → vv_S → Option (hX (Nat × vv_S)))
    (hstep : ∀ (σ : vv_S) (T : tw_T) (b c' : Nat) (C : List Int32) (W Q : List Nat), pK hS x r c σ b → isO σ c' 7 = some () → jC T x b d C (W ++ Q) → bnd C (W ++ Q) b → okQ ℓ Q → low ℓ W → (∀ o ∈ W, o < 100) → nof ℓc x b T d →
      ((∀ n, LK (n + 1) c' σ = (KX8_plain c' σ).bind fun r7 => some (.inl (r7, σ))) ∧ nof ℓ x b T d) ∨
      ∃ cc σ1 T1 J1, sgn cc ∧ ℓ ≤ stq (opc cc) ∧ b + s ≤ nxT x b ∧ pK hS x r c σ1 (nxT x b) ∧ fr (fun q => q = r) σ σ1 ∧ (∀ n, LK (n + 1) c' σ = (Kc σ1).bind fun r3 => xb r3 fun r5 => (isO r5.2 c' 7).bind fun _ => (KX8_add ad c' (nI cc) r5.1 r5.2).bind fun r6 => LK n c' r6) ∧ PJ J1 ∧ (∀ m, J_expression_29 (m + 1) (nI 1) T = J1 m T1) ∧ jC T1 x (nxT x b) d (C ++ Q.reverse.map nI) (W ++ [opc cc]) ∧ bnd (C ++ Q.reverse.map nI) (W ++ [opc cc]) (nxT x b) ∧ low ℓc (W ++ [opc cc]) ∧ (∀ i, i < dd' → T1.2.2 19 i = T.2.2 19 i) ∧ (ℓc ≤ 3 → T1.2.2 19 d = nI 0) ∧ jE T T1) :
    NT hS x r c ℓ (g - 35) (gc - 5) (E + 100) (Ec + 20) (D + 1) dd' d (fun σ => (some (nwO σ 7 [.null, .null] 2)).bind fun σ1 => (isO σ1 r 4).bind fun _ => (Kc σ1).bind fun r2 => xb r2 fun r4 => (KX8_init ad σ.2.1 r4.1 r4.2).bind fun r5 => LK NN σ.2.1 r5) PJ := by
  intro J0 σ0 T0 b0 C0 W m0 hJ0 hp0 hj0 hb0 hlow hW h30 hm0
  have hr0 := hp0.2.2.1
  have hx7 := CX.1.1
  -- the loop
  have loop : ∀ (u : Nat) (σ : vv_S) (T : tw_T) (b n m k lc bc lA bA : Nat) (z : chT) (gg : Nat → Nat) (evs : Nat → (Nat → Int32) → Int32) (sg : Nat → Nat) (C' : List Int32) (Q : List Nat) (code : List Int32), x.1 - b ≤ u → u < n → pK hS x r c σ b → fK r σ0 σ → chS σ ad σ0.2.1 z k D lc bc gg evs sg → z.1 = σ0.2.1 → chR k lc bc lA bA → jC T x b d C' (W ++ Q) → bnd C' (W ++ Q) b → okQ ℓ Q → C' ++ Q.reverse.map nI = C0 ++ code → cdE code (fun u => foV evs sg u (k - 1)) → nof ℓc x b T d → x.1 + 3 ≤ m + b → b0 < b → k + b0 ≤ b → σ0.2.2 ≤ σ.2.2 → (σ.2.2 : Int) + (10 + 6 * ((k : Int) - 1) - lA) + (16 + 4 * ((k : Int) - 1) - bA) + 100 * b0 + g ≤ σ0.2.2 + 35 + 100 * b → (σ.2.1 : Int) + 15 * b0 + gc ≤ σ0.2.1 + 5 + 15 * b → (∀ i, i < dd' → T.2.2 19 i = T0.2.2 19 i) → jE T0 T → J0 m0 T0 = J_expression_29 m (nI 1) T → ntR hS x r c ℓ (g - 35) (gc - 5) (E + 100) (Ec + 20) (D + 1) dd' d σ0 T0 b0 C0 W (LK n σ0.2.1 σ) (J0 m0 T0) := by
    intro u
    have stop : ∀ (σ : vv_S) (T : tw_T) (b n m k lc bc lA bA : Nat) (z : chT) (gg : Nat → Nat) (evs : Nat → (Nat → Int32) → Int32) (sg : Nat → Nat) (C' : List Int32) (Q : List Nat) (code : List Int32), (∀ n, LK (n + 1) σ0.2.1 σ = (KX8_plain σ0.2.1 σ).bind fun r7 => some (.inl (r7, σ))) → nof ℓ x b T d → pK hS x r c σ b → fK r σ0 σ → chS σ ad σ0.2.1 z k D lc bc gg evs sg → z.1 = σ0.2.1 → chR k lc bc lA bA → jC T x b d C' (W ++ Q) → bnd C' (W ++ Q) b → okQ ℓ Q → C' ++ Q.reverse.map nI = C0 ++ code → cdE code (fun u => foV evs sg u (k - 1)) → x.1 + 3 ≤ m + b → b0 < b → k + b0 ≤ b → σ0.2.2 ≤ σ.2.2 → (σ.2.2 : Int) + (10 + 6 * ((k : Int) - 1) - lA) + (16 + 4 * ((k : Int) - 1) - bA) + 100 * b0 + g ≤ σ0.2.2 + 35 + 100 * b → (σ.2.1 : Int) + 15 * b0 + gc ≤ σ0.2.1 + 5 + 15 * b → (∀ i, i < dd' → T.2.2 19 i = T0.2.2 19 i) → jE T0 T → J0 m0 T0 = J_expression_29 m (nI 1) T → ntR hS x r c ℓ (g - 35) (gc - 5) (E + 100) (Ec + 20) (D + 1) dd' d σ0 T0 b0 C0 W (LK (n + 1) σ0.2.1 σ) (J0 m0 T0) := by
      intro σ T b n m k lc bc lA bA z gg evs sg C' Q code e1 e2 hp hf hch hz hR hj hb hQ hcode hcd hm hb0' hk hs1 hi1 hi2 hts hje hJ
      have hbx := hp.2.2.2.1
      obtain ⟨f, p1, p2, p3⟩ := K_chp hch (by omega)
      have h1k := hch.2.2.2.2.2.2.2
      refine Or.inr ⟨f, σ, b, _, code, C', Q, T, m, ?_, hp, hf, ⟨hs1, ?_, ?_⟩, p2, p3, hb0', hJ, hm, hj, hQ, hcode, hcd, hb, e2, hts, hje⟩
      · rw [e1, ← hz, p1, bdS]
      · obtain ⟨r1, r2, r3, r4, r5⟩ := hR
        omega
      · omega
    induction u with
    | zero =>
      intro σ T b n m k lc bc lA bA z gg evs sg C' Q code hu hn hp hf hch hz hR hj hb hQ hcode hcd hst hm hb0' hk hs1 hi1 hi2 hts hje hJ
      obtain ⟨n, rfl⟩ : ∃ w, n = w + 1 := ⟨n - 1, by omega⟩
      have hoc : isO σ σ0.2.1 7 = some () := by unfold isO; rw [← hz, hch.1]; rfl
      rcases hstep σ T b σ0.2.1 C' W Q hp hoc hj hb hQ hlow hW hst with ⟨e1, e2⟩ | ⟨cc, σ1, T1, J1, a1, a2, a3, a4, -⟩
      · exact stop σ T b n m k lc bc lA bA z gg evs sg C' Q code e1 e2 hp hf hch hz hR hj hb hQ hcode hcd hm hb0' hk hs1 hi1 hi2 hts hje hJ
      · have h1 := a4.2.2.2.1
        omega
    | succ u ih =>
      intro σ T b n m k lc bc lA bA z gg evs sg C' Q code hu hn hp hf hch hz hR hj hb hQ hcode hcd hst hm hb0' hk hs1 hi1 hi2 hts hje hJ
      obtain ⟨n, rfl⟩ : ∃ w, n = w + 1 := ⟨n - 1, by omega⟩
      have hbx := hp.2.2.2.1
      have hoc : isO σ σ0.2.1 7 = some () := by unfold isO; rw [← hz, hch.1]; rfl
      rcases hstep σ T b σ0.2.1 C' W Q hp hoc hj hb hQ hlow hW hst with ⟨e1, e2⟩ | ⟨cc, σ1, T1, J1, a1, a2, a3, a4, a5, a6, a7, a8, a9, a10, a11, a12, a13, a14⟩
      · exact stop σ T b n m k lc bc lA bA z gg evs sg C' Q code e1 e2 hp hf hch hz hR hj hb hQ hcode hcd hm hb0' hk hs1 hi1 hi2 hts hje hJ
      · have hnx := a4.2.2.2.1
        obtain ⟨m, rfl⟩ : ∃ w, m = w + 1 := ⟨m - 1, by omega⟩
        have hop := opc_b a1
        have hz1 : σ1.2 = σ.2 := a5.1
        have hsz := hch.2.2.2.1
        have hsz2 := hch.2.2.2.2.1
        rw [hJ, a8]
        have hJ' : J0 m0 T0 = J1 m T1 := by rw [hJ, a8]
        rcases Hc J1 σ1 T1 (nxT x b) _ _ m a7 a4 a9 a10 a11 (fun o ho => by
          simp only [List.mem_append, List.mem_singleton] at ho
          rcases ho with ho | ho
          · exact hW o ho
          · omega) a13 (by omega) with ⟨κ, b', q1, q2, ⟨q, σ', w1, w2, w3, w4, w5, w6, w7, w8⟩, q3⟩ | ⟨f, σ2, b2, ev, code2, C2, Q2, T2, m2, q1, q2, q3, ⟨q4, q5, q6⟩, q7, q8, q9, q10, q11, q12, q13, q14, q15, q16, q17, q18, q19⟩
        · refine Or.inl ⟨κ, b', by omega, q2, ⟨q, σ', ?_, w2, (hf.tr (fK.fr a5)).tr w3, w4, ?_, ?_, ?_, ?_⟩, q3.tr (hje.tr a14)⟩
          · rw [a6, w1, bdS, xbR]
          · have := hf.1
            rw [hz1] at w5
            omega
          · rw [hz1] at w6
            omega
          · rw [hz1] at w7
            obtain ⟨r1, r2, r3, r4, r5⟩ := hR
            have h1k := hch.2.2.2.2.2.2.2
            omega
          · rw [hz1] at w8
            omega
        · have hch2 : chS σ2 ad σ0.2.1 z k D lc bc gg evs sg := hch.mo (fun q h1 h2 => by
            rw [q3.2 q (by rw [hz1]; exact h2) (by omega)]
            exact a5.2 q (by show q ≠ r; omega)) (by have := q3.1; rw [hz1] at this; exact this)
          obtain ⟨b9, gg9, e0⟩ := CX.2.2.2.2.1
          obtain ⟨e9, e1⟩ := CX.2.2.2.2.2
          have had0 := q2.2.1 _ _ e0
          have had1 := q2.2.1 _ _ e1
          have hsz3 : σ.2.1 ≤ σ2.2.1 := by have := q3.1; rw [hz1] at this; exact this
          rw [hz1] at q7 q5 q6 q4
          obtain ⟨σ3, z', lc', bc', lA', bA', g', evs', sg', s3, ch3, zz, R3, fo3, ⟨co1, co2, co3, co4⟩, old3⟩ := K_cha hch2 hR (by omega) ⟨had0, had1⟩ ⟨hf.1, Nat.le_refl _⟩ q7 q8 (fun q h1 h2 => ⟨by omega, by omega, by omega, by omega, by omega⟩) a1
          have nz : ∀ q, q < σ0.2.1 → chN z q := fun q hq => ⟨by omega, by omega, by omega, by omega, by omega⟩
          have hp3 : pK hS x r c σ3 b2 := by
            refine ⟨fun q e he => ?_, fun q e he => Nat.lt_of_lt_of_le (q2.2.1 q e he) co3, Nat.lt_of_lt_of_le q2.2.2.1 co3, q2.2.2.2.k (old3 r q2.2.2.1 (nz r hr0))⟩
            rw [old3 q (q2.2.1 q e he) (nz q (hp0.2.1 q e he))]
            exact q2.1 q e he
          have hf3 : fK r σ0 σ3 := ⟨by have := hf.1; omega, fun q h1 h2 => by
            rw [old3 q (by have := hf.1; omega) (nz q h1), q3.2 q (by rw [hz1]; have := hf.1; omega) h2, a5.2 q h2, hf.2 q h1 h2]⟩
          have hoc2 : isO σ2 σ0.2.1 7 = some () := by unfold isO; rw [← hz, hch2.1]; rfl
          have eQ : W ++ ([opc cc] ++ Q2) = W ++ [opc cc] ++ Q2 := (List.append_assoc _ _ _).symm
          have hR' := ih σ3 T2 b2 n m2 (k + 1) lc' bc' lA' bA' z' g' evs' sg' C2 ([opc cc] ++ Q2) (code ++ code2 ++ [nI (opc cc)]) (by omega) (by omega) hp3 hf3 ch3 (zz.trans hz) R3 (by rw [eQ]; exact q12) (by rw [eQ]; exact q16) (fun o ho => by
            simp only [List.mem_append, List.mem_singleton] at ho
            rcases ho with ho | ho
            · rw [ho]; exact ⟨by omega, a2⟩
            · exact (q13.mo hℓ) o ho) (by
            have e : ([opc cc] ++ Q2).reverse.map nI = Q2.reverse.map nI ++ [nI (opc cc)] := by simp
            rw [e, ← List.append_assoc, q14, hcode]
            simp only [List.append_assoc]) (by
            have := cd_bin hcd q15 a1
            have e : (fun u => foV evs' sg' u (k + 1 - 1)) = fun u => byV cc (foV evs sg u (k - 1)) (ev u) := funext fun u => by
              rw [show k + 1 - 1 = k by omega]
              exact fo3 u
            rw [e]
            exact this) q17 q11 (by omega) (by omega) (by omega) (by
            rw [show ((k + 1 : Nat) : Int) - 1 = k by omega]
            omega) (by omega) (fun i hi => by rw [q18 i (by omega), a12 i hi, hts i hi]) (hje.tr (a14.tr q19)) (by rw [hJ', q10])
          have eR : LK (n + 1) σ0.2.1 σ = LK n σ0.2.1 σ3 := by
            rw [a6, q1, bdS, xbL]
            dsimp only
            rw [hoc2, bdS]
            rw [hz] at s3
            rw [s3, bdS]
          rw [eR, ← hJ']
          exact hR'
  -- the first one
  obtain ⟨σ1, hσ1⟩ : ∃ τ : vv_S, τ = nwO σ0 7 [.null, .null] 2 := ⟨_, rfl⟩
  have n1 : ∀ q, q < σ0.2.1 → σ1.1 q = σ0.1 q := fun q hq => by rw [hσ1]; exact up_n (by omega)
  have z1 : σ1.2 = (σ0.2.1 + 1, σ0.2.2 + 2) := by rw [hσ1]; rfl
  have z1' : σ1.2.1 = σ0.2.1 + 1 := by rw [z1]
  have z1'' : σ1.2.2 = σ0.2.2 + 2 := by rw [z1]
  have c1 : σ1.1 σ0.2.1 = some (true, .inr (7, [.null, .null])) := by rw [hσ1]; exact up_s
  have f1 : fK r σ0 σ1 := ⟨by omega, fun q h1 _ => n1 q h1⟩
  have hp1 : pK hS x r c σ1 b0 := hp0.k CX.2.2.1 f1 (hp0.2.2.2.k (n1 r hr0))
  show ntR hS x r c ℓ (g - 35) (gc - 5) (E + 100) (Ec + 20) (D + 1) dd' d σ0 T0 b0 C0 W ((some (nwO σ0 7 [.null, .null] 2)).bind fun σ1 => (isO σ1 r 4).bind fun _ => (Kc σ1).bind fun r2 => xb r2 fun r4 => (KX8_init ad σ0.2.1 r4.1 r4.2).bind fun r5 => LK NN σ0.2.1 r5) (J0 m0 T0)
  rw [← hσ1, bdS, hp1.o, bdS]
  rcases Hc J0 σ1 T0 b0 C0 W m0 hJ0 hp1 hj0 hb0 (hlow.mo hℓ) hW (fun h => h30 (ht3 h)) hm0 with ⟨κ, b', q1, q2, ⟨q, σ', w1, w2, w3, w4, w5, w6, w7, w8⟩, q3⟩ | ⟨f, σ2, b2, ev, code2, C2, Q2, T2, m2, q1, q2, q3, ⟨q4, q5, q6⟩, q7, q8, q9, q10, q11, q12, q13, q14, q15, q16, q17, q18, q19⟩
  · refine Or.inl ⟨κ, b', q1, q2, ⟨q, σ', ?_, w2, f1.tr w3, w4, by omega, ?_, ?_, ?_⟩, q3⟩
    · rw [w1, bdS, xbR]
    · omega
    · omega
    · omega
  · obtain ⟨b9, gg9, e0⟩ := CX.2.2.2.2.1
    obtain ⟨e9, e1⟩ := CX.2.2.2.2.2
    have hsz3 : σ0.2.1 + 1 ≤ σ2.2.1 := by have := q3.1; omega
    have c2 : σ2.1 σ0.2.1 = some (true, .inr (7, [.null, .null])) := by rw [q3.2 _ (by omega) (by omega)]; exact c1
    obtain ⟨σ3, z, lc, bc, gg, evs, sg, s3, ch3, zz, R3, ev0, z3, old3⟩ := K_ch0 (ad := ad) (s := σ0.2.1) ⟨⟨b9, gg9, q2.1 _ _ e0⟩, q2.2.1 _ _ e0, q2.2.1 _ _ e1⟩ c2 ⟨Nat.le_refl _, by omega, Nat.le_refl _⟩ q7 q8
    have z3' : σ3.2.1 = σ2.2.1 + 4 := by rw [z3]
    have z3'' : σ3.2.2 = σ2.2.2 + 33 := by rw [z3]
    have hp3 : pK hS x r c σ3 b2 := by
      refine ⟨fun q e he => ?_, fun q e he => Nat.lt_of_lt_of_le (q2.2.1 q e he) (by omega), Nat.lt_of_lt_of_le q2.2.2.1 (by omega), q2.2.2.2.k (old3 r q2.2.2.1 (by omega))⟩
      rw [old3 q (q2.2.1 q e he) (by have := hp0.2.1 q e he; omega)]
      exact q2.1 q e he
    have hf3 : fK r σ0 σ3 := ⟨by omega, fun q h1 h2 => by rw [old3 q (by omega) (by omega), q3.2 q (by omega) h2, n1 q h1]⟩
    have hbx := hp3.2.2.2.1
    have hR' := loop (x.1 - b2) σ3 T2 b2 NN m2 1 lc bc 10 16 z gg evs sg C2 Q2 code2 (Nat.le_refl _) (by unfold NN; omega) hp3 hf3 ch3 zz R3 q12 q16 (q13.mo hℓ) q14 (by
      have e : (fun u => foV evs sg u (1 - 1)) = ev := funext fun u => by
        show evs 0 u = ev u
        rw [ev0]
      rw [e]
      exact q15) q17 q11 q9 (by omega) (by omega) (by omega) (by omega) (fun i hi => q18 i (by omega)) q19 q10
    rw [q1, bdS, xbL]
    dsimp only
    rw [s3, bdS]
    exact hR'
end NC
