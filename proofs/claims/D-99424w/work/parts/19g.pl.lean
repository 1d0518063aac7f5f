/-! the plain law: chains grow, chains end -/
set_option maxRecDepth 100000
section CG
variable {σ σ' : vv_S} {ad : Nat → Nat} {s k D lc bc lA bA : Nat} {z : chT} {g : Nat → Nat} {evs : Nat → (Nat → Int32) → Int32} {sg : Nat → Nat}
theorem ce_ne {h : Nat → Option vv_E} {p q : Nat} {e1 e2 : vv_E} (h1 : h p = some e1) (h2 : h q = some e2) (hne : e1 ≠ e2) : p ≠ q := fun w => hne (Option.some.inj (by rw [← h1, w, h2]))
theorem chS.ne (H : chS σ ad s z k D lc bc g evs sg) : z.1 ≠ z.2.1 ∧ z.1 ≠ z.2.2.1 ∧ z.1 ≠ z.2.2.2.1 ∧ z.1 ≠ z.2.2.2.2 ∧ z.2.1 ≠ z.2.2.1 ∧ z.2.1 ≠ z.2.2.2.1 ∧ z.2.1 ≠ z.2.2.2.2 ∧ z.2.2.1 ≠ z.2.2.2.1 ∧ z.2.2.1 ≠ z.2.2.2.2 ∧ z.2.2.2.1 ≠ z.2.2.2.2 := by
  obtain ⟨h1, ⟨mc, b, gg, l1, l2, -⟩, ⟨i2, gb, b1, b2, -⟩, -⟩ := H
  have hl2 : σ.1 z.2.2.1 = some (b, .inl (vObj, lc, .inr (.inr (.inr (.inr gg))))) := l2
  exact ⟨ce_ne h1 l1 (by simp), ce_ne h1 hl2 (by simp), ce_ne h1 b1 (by simp), ce_ne h1 b2 (by simp), ce_ne l1 hl2 (by simp), ce_ne l1 b1 (by simp), ce_ne l1 b2 (by simp), ce_ne hl2 b1 (by simp), ce_ne hl2 b2 (by simp), ce_ne b1 b2 (by simp)⟩
theorem foV_c {evs evs' : Nat → (Nat → Int32) → Int32} {sg sg' : Nat → Nat} {u : Nat → Int32} : ∀ k, (∀ i, i ≤ k → evs' i u = evs i u) → (∀ i, i < k → sg' i = sg i) → foV evs' sg' u k = foV evs sg u k := by
  intro k
  induction k with
  | zero => intro h _; exact h 0 (Nat.le_refl _)
  | succ k ih =>
    intro h1 h2
    show byV (sg' k) (foV evs' sg' u k) (evs' (k + 1) u) = byV (sg k) (foV evs sg u k) (evs (k + 1) u)
    rw [ih (fun i hi => h1 i (by omega)) (fun i hi => h2 i (by omega)), h1 (k + 1) (Nat.le_refl _), h2 k (by omega)]
/-- a form more -/
theorem K_cha {f sk ek cc : Nat} {ev : (Nat → Int32) → Int32} (H : chS σ ad s z k D lc bc g evs sg) (hR : chR k lc bc lA bA) (hk : k ≤ 700) (hE : ad 0 < σ.2.1 ∧ ad 1 < σ.2.1) (hs : s ≤ sk ∧ ek ≤ σ.2.1) (hf : isFr σ.1 sk ek f D ev) (hsx : sx ev) (hn : ∀ q, sk ≤ q → q < ek → chN z q) (hc : sgn cc) : ∃ σ' z' lc' bc' lA' bA' g' evs' sg', KX8_add ad z.1 (nI cc) f σ = some σ' ∧ chS σ' ad s z' (k + 1) D lc' bc' g' evs' sg' ∧ z'.1 = z.1 ∧ chR (k + 1) lc' bc' lA' bA' ∧ (∀ u, foV evs' sg' u k = byV cc (foV evs sg u (k - 1)) (ev u)) ∧ (σ'.2.2 + lA + bA = σ.2.2 + lA' + bA' ∧ σ.2.2 ≤ σ'.2.2 ∧ σ.2.1 ≤ σ'.2.1 ∧ σ'.2.1 ≤ σ.2.1 + 2) ∧ ∀ q, q < σ.2.1 → chN z q → σ'.1 q = σ.1 q := by
  have hne := H.ne
  obtain ⟨h1, h2, h3, h4, h5, h6, h7, h8⟩ := H
  have hcc : cc < 128 := by unfold sgn at hc; omega
  have hfr := hf.1
  obtain ⟨c1, c2, c3, c4, c5⟩ := id hR
  obtain ⟨σ1, v1, r1, s1, S1, D1, k1⟩ := K_sba h3 ⟨h5.2.2.2.1, h5.2.2.2.2⟩ ⟨by omega, by omega⟩ hcc
  have hz1 : σ.2.1 ≤ σ1.2.1 ∧ σ1.2.1 ≤ σ.2.1 + 1 := by rcases D1 with ⟨-, -, d⟩ | ⟨-, -, d⟩ <;> rw [d] <;> (try dsimp only) <;> omega
  have hv1 : v1 = z.2.2.2.2 ∨ v1 = σ.2.1 := by rcases D1 with ⟨-, d, -⟩ | ⟨-, d, -⟩ <;> omega
  have hv1' : v1 < σ1.2.1 := by
    rcases D1 with ⟨-, d, e⟩ | ⟨-, d, e⟩
    · have := h5.2.2.2.2; omega
    · rw [d, e]; exact Nat.lt_succ_self _
  have cz : σ1.1 z.1 = σ.1 z.1 := k1 _ h5.1 hne.2.2.1 hne.2.2.2.1
  have cl : σ1.1 z.2.1 = σ.1 z.2.1 := k1 _ h5.2.1 hne.2.2.2.2.2.1 hne.2.2.2.2.2.2.1
  have ce : σ1.1 z.2.2.1 = σ.1 z.2.2.1 := k1 _ h5.2.2.1 hne.2.2.2.2.2.2.2.1 hne.2.2.2.2.2.2.2.2.1
  have gk : ∀ i, i < k → g i < σ.2.1 ∧ chN z (g i) := fun i hi => by
    obtain ⟨si, ei, a1, a2, a3, a4, a5⟩ := h6 i hi
    have := a3.1
    exact ⟨by omega, a5 _ (by omega) (by omega)⟩
  have M1 : isMc σ1 ad z.2.1 z.2.2.1 lc k g := h2.ke cl ce fun i hi ha => by
    obtain ⟨b1, b2⟩ := gk i hi
    rw [any_k (k1 _ b1 b2.2.2.2.1 b2.2.2.2.2)]
    exact ha
  have nf := hn f hfr.1 hfr.2
  have hff : σ1.1 f = σ.1 f := k1 _ (by omega) nf.2.2.2.1 nf.2.2.2.2
  obtain ⟨σ2, e2, cap2, s2, M2, D2, k2⟩ := K_addc (v := f) M1 (by omega) ⟨by omega, by omega, by omega, by omega⟩ ⟨by omega, hf.any hff⟩ (fun i hi => by have := (gk i hi).1; omega)
  have hel : z.2.2.1 ≠ ad 0 := fun w => by
    obtain ⟨mc, b, gg, w1, w2, w3, w4, -⟩ := h2
    have := w4.mpr (Or.inl w)
    omega
  have hcn : capN ad z.2.2.1 k = k + max 1 (k / 2) := by unfold capN; rw [if_neg hel]
  rw [hcn] at D2
  have hz2 : σ1.2.1 ≤ σ2.2.1 ∧ σ2.2.1 ≤ σ1.2.1 + 1 := by rcases D2 with ⟨-, -, -, d⟩ | ⟨-, -, -, d⟩ <;> rw [d] <;> (try dsimp only) <;> omega
  have he2 : e2 = z.2.2.1 ∨ e2 = σ1.2.1 := by rcases D2 with ⟨-, d, -⟩ | ⟨-, d, -⟩ <;> omega
  have he2' : e2 < σ2.2.1 := by
    rcases D2 with ⟨-, d, -, e⟩ | ⟨-, d, -, e⟩
    · have := h5.2.2.1; omega
    · rw [d, e]; exact Nat.lt_succ_self _
  have k2' : ∀ q, q < σ1.2.1 → q ≠ z.2.1 → q ≠ z.2.2.1 → σ2.1 q = σ1.1 q := fun q a b c => k2 q a b (Or.inl c)
  have old : ∀ q, q < σ.2.1 → chN z q → σ2.1 q = σ.1 q := fun q a b => by rw [k2' q (by omega) b.2.1 b.2.2.1, k1 q a b.2.2.2.1 b.2.2.2.2]
  have g1 : gR σ z.1 7 1 = some z.2.2.2.1 := by unfold gR gV; rw [h1]; rfl
  have g0 : gR σ1 z.1 7 0 = some z.2.1 := by unfold gR gV; rw [cz, h1]; rfl
  obtain ⟨bA', hbA⟩ : ∃ bA', σ1.2.2 + bA = σ.2.2 + bA' ∧ (bcN bc (k - 1) = 16 ∧ bA' = 16 ∨ 16 ≤ bcN bc (k - 1) ∧ bA' ≤ 2 * bcN bc (k - 1) ∧ bcN bc (k - 1) ≤ 2 * (k + 1 - 1)) ∧ k + 1 - 1 ≤ bcN bc (k - 1) ∧ bcN bc (k - 1) ≤ 2000 ∧ σ.2.2 ≤ σ1.2.2 := by
    unfold bcN
    rcases D1 with ⟨d, -, e⟩ | ⟨d, -, e⟩
    · rw [if_pos d, e]
      exact ⟨bA, rfl, by omega, by omega, by omega, Nat.le_refl _⟩
    · rw [if_neg (by omega), e]
      refine ⟨bA + (2 * bc + 2), by dsimp only; omega, Or.inr ⟨by omega, by omega, by omega⟩, by omega, by omega, by dsimp only; omega⟩
  obtain ⟨lA', hlA⟩ : ∃ lA', σ2.2.2 + lA = σ1.2.2 + lA' ∧ (cap2 = 10 ∧ lA' = 10 ∧ k + 1 ≤ 10 ∨ 10 ≤ cap2 ∧ lA' ≤ 4 * cap2 ∧ 2 * cap2 ≤ 3 * (k + 1)) ∧ k + 1 ≤ cap2 ∧ cap2 ≤ 1100 ∧ σ1.2.2 ≤ σ2.2.2 := by
    rcases D2 with ⟨d, -, e1, e⟩ | ⟨d, -, e1, e⟩
    · rw [e, e1]
      exact ⟨lA, rfl, by omega, by omega, by omega, Nat.le_refl _⟩
    · rw [e, e1]
      refine ⟨lA + (k + max 1 (k / 2)), by dsimp only; omega, Or.inr ⟨by omega, by omega, by omega⟩, by omega, by omega, by dsimp only; omega⟩
  refine ⟨σ2, (z.1, z.2.1, e2, z.2.2.2.1, v1), cap2, bcN bc (k - 1), lA', bA', upN g k f, fun i => if i = k then ev else evs i, upN sg (k - 1) cc, ?_, ⟨?_, M2, ?_, ⟨h4.1, h4.2.1, ?_, h4.2.2.2.1, ?_⟩, ⟨?_, ?_, ?_, ?_, ?_⟩, fun i hi => ?_, fun i hi => ?_, by omega⟩, rfl, ⟨hlA.2.1, hbA.2.1, hlA.2.2.1, hbA.2.2.1, hlA.2.2.2.1, hbA.2.2.2.1⟩, fun u => ?_, ?_, old⟩
  · unfold KX8_add
    simp only [g1, bu_o h3, s1, g0, li_o M1.li, s2, bdS]
  · show σ2.1 z.1 = _
    rw [k2' _ (by omega) hne.1 hne.2.1, cz]
    exact h1
  · show isSb σ2.1 z.2.2.2.1 v1 (bcN bc (k - 1)) (k + 1 - 1) (upN sg (k - 1) cc)
    have e : k - 1 + 1 = k + 1 - 1 := by omega
    rw [← e]
    refine S1.up (k2' _ (by have := h5.2.2.2.1; omega) (Ne.symm hne.2.2.2.2.2.1) (Ne.symm hne.2.2.2.2.2.2.2.1)) (k2' _ hv1' ?_ ?_)
    · rcases hv1 with w | w
      · rw [w]; exact Ne.symm hne.2.2.2.2.2.2.1
      · have := h5.2.1; omega
    · rcases hv1 with w | w
      · rw [w]; exact Ne.symm hne.2.2.2.2.2.2.2.2.1
      · have := h5.2.2.1; omega
  · show s ≤ e2
    have := h4.2.2.1
    omega
  · show s ≤ v1
    have := h4.2.2.2.2
    omega
  · show z.1 < σ2.2.1
    omega
  · show z.2.1 < σ2.2.1
    omega
  · exact he2'
  · show z.2.2.2.1 < σ2.2.1
    omega
  · show v1 < σ2.2.1
    omega
  · have nw : ∀ q, q < σ.2.1 → chN z q → chN (z.1, z.2.1, e2, z.2.2.2.1, v1) q := fun q a b => ⟨b.1, b.2.1, (by
      rcases he2 with w | w
      · rw [w]; exact b.2.2.1
      · show q ≠ e2
        omega), b.2.2.2.1, (by
      rcases hv1 with w | w
      · rw [w]; exact b.2.2.2.2
      · show q ≠ v1
        omega)⟩
    by_cases e : i = k
    · refine ⟨sk, ek, hs.1, by omega, ?_, ?_, fun q q1 q2 => nw q (by omega) (hn q q1 q2)⟩
      · have e1 : upN g k f i = f := by unfold upN; rw [if_pos e]
        have e3 : (fun i => if i = k then ev else evs i) i = ev := if_pos e
        rw [e1]
        show isFr σ2.1 sk ek f D ((fun i => if i = k then ev else evs i) i)
        rw [e3]
        exact hf.mo (Nat.le_refl _) (Nat.le_refl _) (fun q q1 q2 => old q (by omega) (hn q q1 q2)) (Nat.le_refl _)
      · show sx ((fun i => if i = k then ev else evs i) i)
        rw [show (fun i => if i = k then ev else evs i) i = ev from if_pos e]
        exact hsx
    · obtain ⟨si, ei, a1, a2, a3, a4, a5⟩ := h6 i (by omega)
      have e1 : upN g k f i = g i := by unfold upN; rw [if_neg e]
      have e3 : (fun i => if i = k then ev else evs i) i = evs i := if_neg e
      refine ⟨si, ei, a1, by omega, ?_, ?_, fun q q1 q2 => nw q (by omega) (a5 q q1 q2)⟩
      · rw [e1]
        show isFr σ2.1 si ei (g i) D ((fun i => if i = k then ev else evs i) i)
        rw [e3]
        exact a3.mo (Nat.le_refl _) (Nat.le_refl _) (fun q q1 q2 => old q (by omega) (a5 q q1 q2)) (Nat.le_refl _)
      · show sx ((fun i => if i = k then ev else evs i) i)
        rw [e3]
        exact a4
  · unfold upN
    by_cases e : i = k - 1
    · rw [if_pos e]; exact hc
    · rw [if_neg e]; exact h7 i (by omega)
  · obtain ⟨j, rfl⟩ : ∃ j, k = j + 1 := ⟨k - 1, by omega⟩
    show byV (upN sg (j + 1 - 1) cc j) (foV (fun i => if i = j + 1 then ev else evs i) (upN sg (j + 1 - 1) cc) u j) ((fun i => if i = j + 1 then ev else evs i) (j + 1) u) = _
    have e1 : upN sg (j + 1 - 1) cc j = cc := by unfold upN; rw [if_pos (by omega)]
    have e2 : (fun i => if i = j + 1 then ev else evs i) (j + 1) u = ev u := by
      show (if j + 1 = j + 1 then ev else evs (j + 1)) u = _
      rw [if_pos rfl]
    rw [e1, e2, show j + 1 - 1 = j by omega]
    congr 1
    refine foV_c j (fun i hi => ?_) (fun i hi => ?_)
    · show (if i = j + 1 then ev else evs i) u = _
      rw [if_neg (by omega)]
    · unfold upN
      rw [if_neg (by omega)]
  · have := hlA.1
    have := hbA.1
    have := hlA.2.2.2.2
    have := hbA.2.2.2.2
    omega
theorem sx_fo (h : ∀ i, i < k → sx (evs i)) (hk : 1 ≤ k) : sx (fun u => foV evs sg u (k - 1)) := by
  intro u u' hu
  have : ∀ j, j < k → foV evs sg u j = foV evs sg u' j := by
    intro j
    induction j with
    | zero => intro hj; exact h 0 hj u u' hu
    | succ j ih =>
      intro hj
      show byV (sg j) (foV evs sg u j) (evs (j + 1) u) = byV (sg j) (foV evs sg u' j) (evs (j + 1) u')
      rw [ih (by omega), h (j + 1) hj u u' hu]
  exact this (k - 1) (by omega)
/-- what a Chain is worth -/
theorem fr_7 (H : chS σ ad s z k D lc bc g evs sg) (hk : k ≤ 1000) : isFr σ.1 s σ.2.1 z.1 (D + 1) (fun u => foV evs sg u (k - 1)) := by
  obtain ⟨h1, h2, h3, h4, h5, h6, h7, h8⟩ := H
  refine ⟨⟨h4.1, h5.1⟩, ⟨true, 7, _, h1, Or.inl rfl⟩, fun τ hq m vs b u hm hv => ?_⟩
  obtain ⟨m, rfl⟩ : ∃ w, m = w + 1 := ⟨m - 1, by omega⟩
  have e1 := (hq _ h4.1 h5.1).trans h1
  show (match τ.1 z.1 with
    | some (_, .inr (7, _)) => KX8_of (KX_fo m) z.1 vs τ
    | some (_, .inr (8, _)) => KX9_of z.1 vs τ
    | some (_, .inr (9, _)) => KX10_of z.1 vs τ
    | some (_, .inr (10, _)) => KX11_of (KX_fo m) z.1 vs τ
    | _ => none) = _
  rw [e1]
  show KX8_of (KX_fo m) z.1 vs τ = _
  have L : isLi τ.1 z.2.1 k g := by
    obtain ⟨mc, b2, gg, w1, w2, w3, w4, w5, w6, w7, w8⟩ := h2
    exact ⟨true, b2, mc, _, lc, gg, (hq _ h4.2.1 h5.2.1).trans w1, (hq _ h4.2.2.1 h5.2.2.1).trans w2, w5, w6, fun i hi => (w7 i hi).1⟩
  have B : isSb τ.1 z.2.2.2.1 z.2.2.2.2 bc (k - 1) sg := h3.up (hq _ h4.2.2.2.1 h5.2.2.2.1) (hq _ h4.2.2.2.2 h5.2.2.2.2)
  have g0 : gR τ z.1 7 0 = some z.2.1 := by unfold gR gV; rw [e1]; rfl
  have g1 : gR τ z.1 7 1 = some z.2.2.2.1 := by unfold gR gV; rw [e1]; rfl
  have fo : ∀ i, i < k → KX_fo m (g i) vs τ = some (evs i u) ∧ isF τ (g i) = some () := fun i hi => by
    obtain ⟨si, ei, a1, a2, a3, a4, a5⟩ := h6 i hi
    have a6 : ∀ q, si ≤ q → q < ei → τ.1 q = σ.1 q := fun q q1 q2 => hq q (by omega) (by omega)
    exact ⟨a3.2.2 τ a6 m vs b u (by omega) hv, a3.isf (a6 _ a3.1.1 a3.1.2)⟩
  have loop : ∀ (c i n : Nat), 1 ≤ i → i + c = k → c < n → KX8_of_22 (KX_fo m) n z.1 vs (foV evs sg u (i - 1)) (nI i) τ = some (foV evs sg u (k - 1)) := by
    intro c
    induction c with
    | zero =>
      intro i n hi hc hn
      obtain ⟨n, rfl⟩ : ∃ w, n = w + 1 := ⟨n - 1, by omega⟩
      show BKX8_of_22 (KX_fo m) (KX8_of_22 (KX_fo m) n) z.1 vs (foV evs sg u (i - 1)) (nI i) τ = _
      unfold BKX8_of_22
      simp only [g0, li_o L, li_size L, bdS]
      rw [if_pos (nI_le (by omega) (by omega)), show i = k by omega]
    | succ c ih =>
      intro i n hi hc hn
      obtain ⟨n, rfl⟩ : ∃ w, n = w + 1 := ⟨n - 1, by omega⟩
      obtain ⟨f1, f2⟩ := fo i (by omega)
      show BKX8_of_22 (KX_fo m) (KX8_of_22 (KX_fo m) n) z.1 vs (foV evs sg u (i - 1)) (nI i) τ = _
      unfold BKX8_of_22
      simp only [g0, li_o L, li_size L, bdS]
      rw [if_neg (nI_ge (by omega) (by omega))]
      have c1 := bu_at B (i := i - 1) (by omega)
      simp only [g1, bu_o B, pk_sub hi, c1, li_get L (show i < k by omega), f1, f2, by_e (h7 (i - 1) (by omega)), nI_add, bdS]
      have h9 := ih (i + 1) n (by omega) (by omega) (by omega)
      rw [← h9]
      congr 1
      obtain ⟨j, rfl⟩ : ∃ j, i = j + 1 := ⟨i - 1, by omega⟩
      rfl
  obtain ⟨f1, f2⟩ := fo 0 h8
  unfold KX8_of
  simp only [g0, li_o L, li_get L h8, f1, f2, bdS]
  exact loop (k - 1) 1 NN (Nat.le_refl _) (by omega) (by unfold NN; omega)
/-- a Chain's end -/
theorem K_chp (H : chS σ ad s z k D lc bc g evs sg) (hk : k ≤ 1000) : ∃ f, KX8_plain z.1 σ = some f ∧ isFr σ.1 s σ.2.1 f (D + 1) (fun u => foV evs sg u (k - 1)) ∧ sx (fun u => foV evs sg u (k - 1)) := by
  have F := fr_7 H hk
  obtain ⟨h1, h2, h3, h4, h5, h6, h7, h8⟩ := id H
  have hsx : sx (fun u => foV evs sg u (k - 1)) := sx_fo (fun i hi => by obtain ⟨si, ei, a1, a2, a3, a4, a5⟩ := h6 i hi; exact a4) h8
  have g0 : gR σ z.1 7 0 = some z.2.1 := by unfold gR gV; rw [h1]; rfl
  by_cases e : k = 1
  · subst e
    obtain ⟨si, ei, a1, a2, a3, a4, a5⟩ := h6 0 (by omega)
    refine ⟨g 0, ?_, a3.mo a1 a2 (fun _ _ _ => rfl) (by omega), hsx⟩
    unfold KX8_plain KX8_plain_30
    simp only [g0, li_o h2.li, li_size h2.li, li_get h2.li (show 0 < 1 by omega), a3.isf rfl, if_true, bdS]
  · refine ⟨z.1, ?_, F, hsx⟩
    unfold KX8_plain KX8_plain_30
    simp only [g0, li_o h2.li, li_size h2.li, bdS]
    rw [if_neg (nI_nn e (by omega) (by omega))]
end CG
