/-! the plain law: a row of towns -/
set_option maxRecDepth 100000
/-- where a way leads from a town -/
def ldI (P : pvT) (w : Nat) (x : Int32) : Int32 := if P.2.1 2 w = x then P.2.1 3 w else if P.2.1 3 w = x then P.2.1 2 w else -1
section RO
variable {σ : vv_S} {T : tw_T} {x0 pa va ca r : Nat} {h0 : Nat → Option vv_E} {P : pvT} {R : Nat → Int32} {lo : Int32}
theorem K_from {q w : Nat} {x : Int32} (g0 : gI σ q 6 0 = some (P.2.1 2 w)) (g1 : gI σ q 6 1 = some (P.2.1 3 w)) : KX7_from q x σ = some (ldI P w x) := by
  unfold KX7_from KX7_from_31 ldI
  simp only [g0, g1, bdS]
  by_cases e1 : P.2.1 2 w = x
  · rw [if_pos e1.symm, if_pos e1]
  · rw [if_neg (fun z => e1 z.symm), if_neg e1]
    by_cases e2 : P.2.1 3 w = x
    · rw [if_pos e2.symm, if_pos e2]
    · rw [if_neg (fun z => e2 z.symm), if_neg e2]
theorem J_leads_e (hP : isTp T P) (h12 : P.1.2.1 ≤ 12) {w : Nat} (hw : w < P.1.2.1) (x : Int32) : J_leads (nI w) x T = some (ldI P w x, T) := by
  obtain ⟨w1, w2, -⟩ := hP.2.2.2.2.1 w hw
  unfold J_leads J_leads_39 ldI
  rw [nI_rd (by omega) (by omega), nI_rd (by omega) (by omega), w1, w2]
  simp only [bdS]
  by_cases e1 : P.2.1 2 w = x
  · rw [if_pos e1, if_pos e1]
  · rw [if_neg e1, if_neg e1]
    by_cases e2 : P.2.1 3 w = x
    · rw [if_pos e2, if_pos e2]
    · rw [if_neg e2, if_neg e2]
/-- a way leads to t, on the nearest row -/
def nxQ (P : pvT) (d : Nat → Nat) (at' : Nat) (w t : Nat) : Prop := w < P.1.2.1 ∧ ldI P w (nI at') = nI t ∧ d t + wN P 4 w = d at'
theorem ld_is (hQ : invP P) (h8 : P.1.1 ≤ 8) {w : Nat} (hw : w < P.1.2.1) (x : Int32) : ldI P w x = -1 ∨ ∃ t, t < P.1.1 ∧ ldI P w x = nI t := by
  obtain ⟨⟨a1, a2⟩, ⟨b1, b2⟩, -⟩ := wy_n hQ h8 hw
  unfold ldI
  by_cases e1 : P.2.1 2 w = x
  · rw [if_pos e1]
    exact Or.inr ⟨_, b1, b2⟩
  · rw [if_neg e1]
    by_cases e2 : P.2.1 3 w = x
    · rw [if_pos e2]
      exact Or.inr ⟨_, a1, a2⟩
    · rw [if_neg e2]
      exact Or.inl rfl
/-- the component's next town: the least of all -/
theorem K_next (H : isEnv σ x0 h0 pa va P) (hQ : invP P) {d : Nat → Nat} (hx : isX σ r d) (hd : ∀ t, t < P.1.1 → d t ≤ 100000) {a : Nat} (ha : a < P.1.1) : ∀ (c i n : Nat) (best : Int32), i + c = P.1.2.1 → c < n → (best = -1 ∧ (∀ w t, w < i → t < P.1.1 → ¬ nxQ P d a w t)) ∨ (∃ b, b < P.1.1 ∧ best = nI b ∧ (∃ w, nxQ P d a w b) ∧ ∀ w t, w < i → t < P.1.1 → nxQ P d a w t → b ≤ t) → ∃ v, KX1_nextOf_5 n x0 (nI a) r best (nI i) σ = some v ∧ ((v = -1 ∧ (∀ w t, t < P.1.1 → ¬ nxQ P d a w t)) ∨ (∃ b, b < P.1.1 ∧ v = nI b ∧ (∃ w, nxQ P d a w b) ∧ ∀ w t, t < P.1.1 → nxQ P d a w t → b ≤ t)) := by
  have h8 := ev_8 H
  have h12 := ev_12 H
  obtain ⟨lw, l1, l2, l3, l4⟩ := ev_lw H
  intro c
  induction c with
  | zero =>
    intro i n best hi hn hb
    obtain ⟨n, rfl⟩ : ∃ m, n = m + 1 := ⟨n - 1, by omega⟩
    refine ⟨best, ?_, ?_⟩
    · show BKX1_nextOf_5 (KX1_nextOf_5 n) x0 (nI a) r best (nI i) σ = _
      unfold BKX1_nextOf_5
      simp only [ev_pa H, l1, l2, l3, bdS]
      rw [if_pos (nI_le (by omega) (by omega))]
    · rcases hb with ⟨e, h⟩ | ⟨b, h1, h2, h3, h4⟩
      · exact Or.inl ⟨e, fun w t ht hq => h w t (by have := hq.1; omega) ht hq⟩
      · exact Or.inr ⟨b, h1, h2, h3, fun w t ht hq => h4 w t (by have := hq.1; omega) ht hq⟩
  | succ c ih =>
    intro i n best hi hn hb
    obtain ⟨n, rfl⟩ : ∃ m, n = m + 1 := ⟨n - 1, by omega⟩
    obtain ⟨q, q1, q2, q3, q4, q5, q6, -⟩ := l4 i (by omega)
    obtain ⟨-, -, ⟨c1, c2⟩, -⟩ := wy_n hQ h8 (w := i) (by omega)
    rw [c2] at q5
    show ∃ v, BKX1_nextOf_5 (KX1_nextOf_5 n) x0 (nI a) r best (nI i) σ = _ ∧ _
    unfold BKX1_nextOf_5 KX1_nextOf_82 KX1_nextOf_85
    simp only [ev_pa H, l1, l2, l3, q1, q2, K_from q3 q4, bdS]
    rw [if_neg (nI_ge (show i < P.1.2.1 by omega) (by omega)), nI_add]
    -- nothing is added by way i
    have keep : (∀ t, t < P.1.1 → ¬ nxQ P d a i t) → ∃ v, KX1_nextOf_5 n x0 (nI a) r best (nI (i + 1)) σ = some v ∧ ((v = -1 ∧ (∀ w t, t < P.1.1 → ¬ nxQ P d a w t)) ∨ (∃ b, b < P.1.1 ∧ v = nI b ∧ (∃ w, nxQ P d a w b) ∧ ∀ w t, t < P.1.1 → nxQ P d a w t → b ≤ t)) := by
      intro hno
      refine ih (i + 1) n best (by omega) (by omega) ?_
      rcases hb with ⟨e, h⟩ | ⟨b, h1, h2, h3, h4⟩
      · refine Or.inl ⟨e, fun w t hw ht hq => ?_⟩
        by_cases e9 : w = i
        · subst e9; exact hno t ht hq
        · exact h w t (by omega) ht hq
      · refine Or.inr ⟨b, h1, h2, h3, fun w t hw ht hq => ?_⟩
        by_cases e9 : w = i
        · subst e9; exact absurd hq (hno t ht)
        · exact h4 w t (by omega) ht hq
    rcases ld_is hQ h8 (w := i) (by omega) (nI a) with hl | ⟨t, ht, hl⟩
    · rw [hl, if_pos rfl]
      exact keep fun t ht hq => by
        have h9 := hq.2.1
        rw [hl] at h9
        exact nI_m1 (by omega) h9.symm
    · rw [hl, if_neg (nI_m1 (by omega))]
      have ht1 := hd t ht
      simp only [hx.rd (show t < 8 by omega), hx.rd (show a < 8 by omega), q5, nI_add, bdS]
      have uni : ∀ u, u < P.1.1 → nxQ P d a i u → u = t := fun u hu hq => by
        have h9 := hq.2.1
        rw [hl] at h9
        exact ((nI_eq (by omega) (by omega)).mp h9).symm
      by_cases hs : d t + wN P 4 i = d a
      · have hq : nxQ P d a i t := ⟨by omega, hl, hs⟩
        rw [if_pos (by rw [hs])]
        rcases hb with ⟨rfl, h⟩ | ⟨b, h1, rfl, h3, h4⟩
        · rw [if_pos rfl]
          refine ih (i + 1) n (nI t) (by omega) (by omega) (Or.inr ⟨t, ht, rfl, ⟨i, hq⟩, fun w u hw hu hq2 => ?_⟩)
          by_cases e9 : w = i
          · subst e9; rw [uni u hu hq2]; exact Nat.le_refl _
          · exact absurd hq2 (h w u (by omega) hu)
        · rw [if_neg (nI_m1 (by omega))]
          by_cases e : b ≤ t
          · rw [if_pos (nI_le e (by omega))]
            refine ih (i + 1) n (nI b) (by omega) (by omega) (Or.inr ⟨b, h1, rfl, h3, fun w u hw hu hq2 => ?_⟩)
            by_cases e9 : w = i
            · subst e9; rw [uni u hu hq2]; exact e
            · exact h4 w u (by omega) hu hq2
          · rw [if_neg (nI_ge (by omega) (by omega))]
            refine ih (i + 1) n (nI t) (by omega) (by omega) (Or.inr ⟨t, ht, rfl, ⟨i, hq⟩, fun w u hw hu hq2 => ?_⟩)
            by_cases e9 : w = i
            · subst e9; rw [uni u hu hq2]; exact Nat.le_refl _
            · have := h4 w u (by omega) hu hq2; omega
      · have hda := hd a ha
        rw [if_neg (nI_nn hs (by omega) (by omega))]
        exact keep fun u hu hq => hs (by have e := uni u hu hq; subst e; exact hq.2.2)
/-- the twin's: one town tried -/
theorem J_next_in {D D' : Nat → Nat → Nat} (dD : isD T D D') (hP : isTp T P) (hQ : invP P) (h8 : P.1.1 ≤ 8) (h12 : P.1.2.1 ≤ 12) {d : Nat → Nat} {o : Nat} (ho : o < P.1.1) (hr : ∀ t, t < P.1.1 → rel2 (d t) (D t o)) {a t : Nat} (ha : a < P.1.1) (hda : d a < 100000) (ht : t < P.1.1) (k2 : Int32 → Int32 → Int32 → tw_T → Option (Int32 × tw_T)) : ∀ (c i n : Nat) (s : Int32), i + c = P.1.2.1 → c < n → ((s = nI 1 ∧ ∃ w, nxQ P d a w t) ∨ (s = nI 0 ∧ ∀ w, w < i → ¬ nxQ P d a w t)) → ((∃ w, nxQ P d a w t) ∧ J_nextOn_24 k2 n (nI a) (nI o) (nI t) s (nI i) T = some (nI t, T)) ∨ ((∀ w, ¬ nxQ P d a w t) ∧ J_nextOn_24 k2 n (nI a) (nI o) (nI t) s (nI i) T = k2 (nI a) (nI o) (nI (t + 1)) T) := by
  intro c
  induction c with
  | zero =>
    intro i n s hi hn hs
    obtain ⟨n, rfl⟩ : ∃ m, n = m + 1 := ⟨n - 1, by omega⟩
    have e : J_nextOn_24 k2 (n + 1) (nI a) (nI o) (nI t) s (nI i) T = if s = 0 then k2 (nI a) (nI o) (nI (t + 1)) T else some (nI t, T) := by
      show B_nextOn_24 k2 (J_nextOn_24 k2 n) (nI a) (nI o) (nI t) s (nI i) T = _
      unfold B_nextOn_24 J_nextOn_102
      rw [hP.2.1, if_pos (nI_le (by omega) (by omega)), nI_add]
    rw [e]
    rcases hs with ⟨rfl, h⟩ | ⟨rfl, h⟩
    · rw [if_neg s1_ne]
      exact Or.inl ⟨h, rfl⟩
    · rw [if_pos nI_0]
      exact Or.inr ⟨fun w hq => h w (by have := hq.1; omega) hq, rfl⟩
  | succ c ih =>
    intro i n s hi hn hs
    obtain ⟨n, rfl⟩ : ∃ m, n = m + 1 := ⟨n - 1, by omega⟩
    obtain ⟨-, -, ⟨c1, c2⟩, -⟩ := wy_n hQ h8 (w := i) (by omega)
    obtain ⟨-, -, w3, -⟩ := hP.2.2.2.2.1 i (by omega)
    have m3 : rdI 12 (T.2.2 5) (nI i) = some (nI (wN P 4 i)) := by rw [nI_rd (by omega) (by omega), w3, c2]
    have rt := hr t ht
    have ra := hr a ha
    have rte := rt.le
    have rae := ra.le
    rcases hs with ⟨rfl, h⟩ | ⟨rfl, h⟩
    · have e : J_nextOn_24 k2 (n + 1) (nI a) (nI o) (nI t) (nI 1) (nI i) T = J_nextOn_24 k2 n (nI a) (nI o) (nI t) (nI 1) (nI (i + 1)) T := by
        show B_nextOn_24 k2 (J_nextOn_24 k2 n) (nI a) (nI o) (nI t) (nI 1) (nI i) T = _
        unfold B_nextOn_24 J_nextOn_82 J_nextOn_87
        rw [hP.2.1, if_neg (nI_ge (show i < P.1.2.1 by omega) (by omega)), if_neg s1_ne, nI_add]
      rw [e]
      exact ih (i + 1) n (nI 1) (by omega) (by omega) (Or.inl ⟨rfl, h⟩)
    · have e : J_nextOn_24 k2 (n + 1) (nI a) (nI o) (nI t) (nI 0) (nI i) T = if ldI P i (nI a) = nI t then (if nI (wN P 4 i + D t o) = nI (D a o) then J_nextOn_24 k2 n (nI a) (nI o) (nI t) (nI 1) (nI (i + 1)) T else J_nextOn_24 k2 n (nI a) (nI o) (nI t) (nI 0) (nI (i + 1)) T) else J_nextOn_24 k2 n (nI a) (nI o) (nI t) (nI 0) (nI (i + 1)) T := by
        show B_nextOn_24 k2 (J_nextOn_24 k2 n) (nI a) (nI o) (nI t) (nI 0) (nI i) T = _
        unfold B_nextOn_24 J_nextOn_82 J_nextOn_86 J_nextOn_87
        rw [hP.2.1, if_neg (nI_ge (show i < P.1.2.1 by omega) (by omega)), if_pos nI_0, J_leads_e hP h12 (by omega)]
        simp only [m3, pk_mul, nI_add, (d_rd dD (a := t) (b := o) (by omega) (by omega)).1, (d_rd dD (a := a) (b := o) (by omega) (by omega)).1, bdS]
      rw [e]
      have no : ¬ nxQ P d a i t → ∀ w, w < i + 1 → ¬ nxQ P d a w t := fun hno w hw hq => by
        by_cases e9 : w = i
        · subst e9; exact hno hq
        · exact h w (by omega) hq
      by_cases e1 : ldI P i (nI a) = nI t
      · rw [if_pos e1]
        have hkey : wN P 4 i + D t o = D a o ↔ d t + wN P 4 i = d a := by
          unfold rel2 at rt ra
          omega
        by_cases e2 : wN P 4 i + D t o = D a o
        · rw [if_pos (by rw [e2])]
          exact ih (i + 1) n (nI 1) (by omega) (by omega) (Or.inl ⟨rfl, i, by omega, e1, hkey.mp e2⟩)
        · rw [if_neg (nI_nn e2 (by omega) (by omega))]
          exact ih (i + 1) n (nI 0) (by omega) (by omega) (Or.inr ⟨rfl, no fun hq => e2 (hkey.mpr hq.2.2)⟩)
      · rw [if_neg e1]
        exact ih (i + 1) n (nI 0) (by omega) (by omega) (Or.inr ⟨rfl, no fun hq => e1 hq.2.1⟩)
theorem J_nextE {D D' : Nat → Nat → Nat} (dD : isD T D D') (hP : isTp T P) (hQ : invP P) (hW : wyP P) (h8 : P.1.1 ≤ 8) (h12 : P.1.2.1 ≤ 12) {d : Nat → Nat} {o : Nat} (ho : o < P.1.1) (hr : ∀ t, t < P.1.1 → rel2 (d t) (D t o)) {a : Nat} (ha : a < P.1.1) (hda : d a < 100000) {b : Nat} (hb : b < P.1.1) (hq : ∃ w, nxQ P d a w b) (hmin : ∀ w t, t < P.1.1 → nxQ P d a w t → b ≤ t) : ∀ (c t n : Nat), t ≤ b → t + c = P.1.1 → c < n → J_nextOn_2 n (nI a) (nI o) (nI t) T = some (nI b, T) := by
  intro c
  induction c with
  | zero => intro t n h1 h2; omega
  | succ c ih =>
    intro t n htb hi hn
    obtain ⟨n, rfl⟩ : ∃ m, n = m + 1 := ⟨n - 1, by omega⟩
    have hba : b ≠ a := by
      obtain ⟨w, hw, h1, -⟩ := hq
      intro e
      subst e
      obtain ⟨⟨a1, a2⟩, ⟨b1, b2⟩, -⟩ := wy_n hQ h8 hw
      have hne := hW.1 w hw
      unfold ldI at h1
      split at h1
      · rename_i e1; exact hne (e1.trans h1.symm)
      · split at h1
        · rename_i e1 e2; exact e1 h1
        · exact nI_m1 (by omega) h1.symm
    show B_nextOn_2 (J_nextOn_2 n) (nI a) (nI o) (nI t) T = _
    unfold B_nextOn_2 J_nextOn_102
    rw [hP.1, if_neg (nI_ge (show t < P.1.1 by omega) (by omega)), nI_add]
    by_cases e1 : t = a
    · rw [if_pos (by rw [e1])]
      exact ih (t + 1) n (by omega) (by omega) (by omega)
    · rw [if_neg (nI_nn e1 (by omega) (by omega))]
      rcases J_next_in dD hP hQ h8 h12 ho hr ha hda (t := t) (by omega) (J_nextOn_2 n) P.1.2.1 0 NN (nI 0) (by omega) (by unfold NN; omega) (Or.inr ⟨rfl, fun w hw => by omega⟩) with ⟨⟨w, hqt⟩, e⟩ | ⟨hno, e⟩
      · rw [e, show t = b by have := hmin w t (by omega) hqt; omega]
      · rw [e]
        have hne : t ≠ b := fun e => by
          obtain ⟨w, hw⟩ := hq
          exact hno w (by rw [e]; exact hw)
        exact ih (t + 1) n (by omega) (by omega) (by omega)
/-- a next town is there -/
theorem next_is (hQ : invP P) (hW : wyP P) (h8 : P.1.1 ≤ 8) (h12 : P.1.2.1 ≤ 12) {o a : Nat} (ho : o < P.1.1) (ha : a < P.1.1) (hne : a ≠ o) (hd : bfx (wyE P false 99) P.1.1 o a < 100000) : ∃ w t, t < P.1.1 ∧ nxQ P (bfx (wyE P false 99) P.1.1 o) a w t := by
  have hE := wy_ok (lk := false) (bt := 99) hQ h8 hW
  obtain ⟨h1, h2⟩ := bf_is hE h12 h8 ho a
  rcases h1 with h1 | ⟨h1, L, v, p, k1, k2, k3, k4⟩
  · omega
  · have hL : L ≠ 0 := fun e => by
      subst e
      exact hne (k3.symm.trans k2)
    obtain ⟨w, e1, e2⟩ := k1.2 (L - 1) (by omega)
    rw [show L - 1 + 1 = L by omega] at e1 e2
    rw [k3] at e1
    have ht := wk_lt hE k1 (by rw [k2]; exact ho) (L - 1) (by omega)
    have w1 := wl_pre k1 (i := L - 1) (by omega)
    rw [k2] at w1
    obtain ⟨-, h4⟩ := bf_is hE h12 h8 ho (v (L - 1))
    have h5 := h4 _ _ w1
    obtain ⟨h6, -⟩ := bf_is hE h12 h8 ho (v (L - 1))
    rcases h6 with h6 | ⟨h6, L', h7⟩
    · rw [k4] at e2
      exact absurd h5 (by omega)
    · have h8' := h2 _ _ (wl_app h7 (wl_1 e1))
      rw [k4] at e2
      have ew : (wyE P false 99).2.2.2 w = wN P 4 w := rfl
      rw [ew] at e2 h8'
      obtain ⟨⟨a1, a2⟩, ⟨b1, b2⟩, -⟩ := wy_n hQ h8 (w := w) e1.1
      have hsum : bfx (wyE P false 99) P.1.1 o (v (L - 1)) + wN P 4 w = bfx (wyE P false 99) P.1.1 o a := by omega
      refine ⟨w, v (L - 1), ht, e1.1, ?_, hsum⟩
      unfold ldI
      have hw := hW.1 w e1.1
      rcases e1.2.2 with ⟨g1, g2⟩ | ⟨g1, g2⟩
      · have g1 : wN P 2 w = v (L - 1) := g1
        have g2 : wN P 3 w = a := g2
        rw [if_neg (fun z => hw (z.trans (by rw [b2, g2]))), if_pos (by rw [b2, g2]), a2, g1]
      · have g1 : wN P 3 w = v (L - 1) := g1
        have g2 : wN P 2 w = a := g2
        rw [if_pos (by rw [a2, g2]), b2, g1]
/-- the row, town by town -/
theorem row_loop (H : isEnv σ x0 h0 pa va P) (hQ : invP P) (hW : wyP P) {D D' : Nat → Nat → Nat} (dD : isD T D D') (hP : isTp T P) {o : Nat} (ho : o < P.1.1) (hx : isX σ r (bfx (wyE P false 99) P.1.1 o)) (hr : ∀ t, t < P.1.1 → rel2 (bfx (wyE P false 99) P.1.1 o t) (D t o)) (hz : T.1 0 = 0) {I : Nat} (hI : I < 2 ^ 31) : ∀ (d i a n n' : Nat), a < P.1.1 → bfx (wyE P false 99) P.1.1 o a ≤ d → d < 100000 → d < n → d < n' → i ≤ I →
    (∃ v, KX1_row_48 n x0 (nI o) (nI I) r (nI a) (nI i) σ = some (.inl (v, σ)) ∧ J_row_70 n' (nI o) (nI I) (nI a) (nI i) T = some (v, T)) ∨
    (KX1_row_48 n x0 (nI o) (nI I) r (nI a) (nI i) σ = some (.inr ((nse, σ.2.1), tS σ)) ∧ J_row_70 n' (nI o) (nI I) (nI a) (nI i) T = some (nI 0, tw_F T 0 (nI 1))) := by
  have h8 := ev_8 H
  have h12 := ev_12 H
  intro d
  induction d using Nat.strongRecOn with
  | ind d ih =>
    intro i a n n' ha hd hd2 hn hn' hi
    obtain ⟨n, rfl⟩ : ∃ m, n = m + 1 := ⟨n - 1, by omega⟩
    obtain ⟨n', rfl⟩ : ∃ m, n' = m + 1 := ⟨n' - 1, by omega⟩
    have eK : KX1_row_48 (n + 1) x0 (nI o) (nI I) r (nI a) (nI i) σ = BKX1_row_48 (KX1_row_48 n) x0 (nI o) (nI I) r (nI a) (nI i) σ := rfl
    have eJ : J_row_70 (n' + 1) (nI o) (nI I) (nI a) (nI i) T = B_row_70 (J_row_70 n') (nI o) (nI I) (nI a) (nI i) T := rfl
    rw [eK, eJ]
    unfold BKX1_row_48 B_row_70 KX1_row_65 J_row_97 J_row_109 J_row_122
    by_cases h1 : I ≤ i
    · obtain rfl : i = I := by omega
      rw [if_pos (nI_le h1 (by omega)), if_pos (nI_le h1 (by omega)), if_pos rfl, J_right1 hz]
      simp only [bdS, if_neg s1_ne]
      refine Or.inl ⟨nI a, ?_, ?_⟩ <;> first | rfl | trivial
    · rw [if_neg (nI_ge (by omega) (by omega)), if_neg (nI_ge (by omega) (by omega))]
      by_cases h2 : a = o
      · subst h2
        rw [if_pos rfl, if_pos rfl, if_neg (nI_nn (show i ≠ I by omega) (by omega) (by omega)), J_right0 hz s1_ne]
        simp only [K_found0, xbR, bdS, if_pos nI_0]
        refine Or.inr ⟨?_, ?_⟩ <;> first | rfl | trivial
      · rw [if_neg (nI_nn h2 (by omega) (by omega)), if_neg (nI_nn h2 (by omega) (by omega))]
        obtain ⟨w0, t0, ht0, hq0⟩ := next_is hQ hW h8 h12 ho ha h2 (by omega)
        obtain ⟨v, s1, s2⟩ := K_next H hQ hx (fun t ht => (hr t ht).le.1) ha P.1.2.1 0 NN (-1) (by omega) (by unfold NN; omega) (Or.inl ⟨rfl, fun w t hw => by omega⟩)
        rcases s2 with ⟨-, hno⟩ | ⟨b, hb, rfl, ⟨w, hqb⟩, hmin⟩
        · exact absurd hq0 (hno w0 t0 ht0)
        · have u1 := J_nextE dD hP hQ hW h8 h12 ho hr ha (by omega) hb ⟨w, hqb⟩ hmin P.1.1 0 NN (by omega) (by omega) (by unfold NN; omega)
          have hw4 : 1 ≤ wN P 4 w := by
            obtain ⟨-, -, ⟨c1, c2⟩, -⟩ := hQ.2 w hqb.1
            unfold wN
            omega
          have hlt := hqb.2.2
          have s1 : KX1_nextOf x0 (nI a) r σ = some (nI b) := s1
          have u1 : J_nextOn (nI a) (nI o) T = some (nI b, T) := u1
          simp only [K_found1, xbL, ev_x H, s1, u1, nI_add, bdS]
          exact ih (bfx (wyE P false 99) P.1.1 o b) (by omega) (i + 1) b n n' hb (Nat.le_refl _) (by omega) (by omega) (by omega) (by omega)
theorem o_row (Q : isQ x0 h0 pa va ca P R lo σ T) (hW : wyP P) (x1 x2 x3 : Int32) : ans va 20 200 [(nse, nI 1)] σ T (KX1_row x0 x1 x2 x3 σ) (J_row x1 x2 x3 T) := by
  obtain ⟨T0, e0, Q0, hz, f0⟩ := Q.z
  unfold KX1_row J_row J_row_21
  simp only [e0, bdS, ev_x Q0.1]
  rcases g_town Q0.1 Q0.tp hz x1 with ⟨t, ht, rfl, k1, j1⟩ | ⟨k1, j1⟩
  · rcases g_town Q0.1 Q0.tp hz x2 with ⟨u, hu, rfl, k2, j2⟩ | ⟨k2, j2⟩
    · have h8 := ev_8 Q0.1
      have h12 := ev_12 Q0.1
      obtain ⟨σ1, s1, y1, H1, F1, z1⟩ := K_least (lk := false) Q0 hu
      have s1 : KX2_least pa (nI u) (nI 0) σ = some (σ.2.1, σ1) := s1
      obtain ⟨T1, u1, d1, g1⟩ := J_measures_e Q0.tp Q0.cx.2 hW h8 h12 (m1_99n h12)
      have r1 := y1.rd (t := t) (by omega)
      have r2 := (d_rd d1 (a := t) (b := u) (by omega) (by omega)).1
      have hr : ∀ a, a < P.1.1 → rel2 (bfx (wyE P false 99) P.1.1 u a) (fwx (wyE P false 99) P.1.1 a u) := fun a ha => by
        rw [wy_sy Q0.cx.2 hW h8 ha hu]
        exact wy_rel Q0.cx.2 hW h8 h12 hu ha
      have hrt := hr t ht
      have hle := hrt.le
      have hz1 : T1.1 0 = 0 := g1.z.trans hz
      have F2 := F1.mo (n' := 19) (m' := 194) (fun _ h => h) (by omega) (by omega)
      have F3 : fa (fun q => q = va) 20 200 σ (tS σ1) := (F2.tr fa_tS (fun _ _ h => h))
      simp only [k1, j1, k2, j2, xbL, bdS, if_neg s1_ne, ev_x Q0.1, ev_pa Q0.1, ev_o Q0.1, s1, u1, r1]
      have thr : ∀ k j, k = some (.inr ((nse, σ1.2.1), tS σ1)) → j = some (nI 0, tw_F T1 0 (nI 1)) → ans va 20 200 [(nse, nI 1)] σ T k j := by
        intro k j hk hj
        exact Or.inr ⟨nse, nI 1, σ1.2.1, tS σ1, nI 0, tw_F T1 0 (nI 1), List.mem_cons_self .., hk, hj, F_s, F3, H1.ov, (f0.tr g1.jq).tr jq.t0⟩
      unfold KX1_row_38 KX1_row_39 J_row_54 J_row_55
      simp only [K_found0, xbR, J_right0 hz1 s1_ne, K_found1, xbL, J_right1 hz1, bdS, if_neg s1_ne, if_pos nI_0, pk_mul, nI_add, r2]
      by_cases h3 : x3 < 0
      · rw [if_pos h3, if_pos h3]
        refine thr _ _ ?_ rfl
        split <;> rfl
      · rw [if_neg h3, if_neg h3]
        obtain ⟨I, hI, rfl⟩ := nI_of h3
        rcases hrt with ⟨c1, c2⟩ | ⟨c1, c2⟩
        · rw [if_pos (nI_le (by omega) (by omega)), if_pos (nI_le (by omega) (by omega))]
          exact thr _ _ rfl rfl
        · rw [if_neg (nI_ge (by omega) (by omega)), if_neg (nI_ge (by omega) (by omega))]
          rcases row_loop H1 Q0.cx.2 hW d1 (Q0.tp.jm g1) hu y1 hr hz1 hI (bfx (wyE P false 99) P.1.1 u t) 0 t NN NN ht (Nat.le_refl _) (by omega) (by unfold NN; omega) (by unfold NN; omega) (by omega) with ⟨v, e1, e2⟩ | ⟨e1, e2⟩
          · rw [e1, e2]
            exact ans.ok hz1 (F2.mo (fun _ h => h) (by omega) (by omega)) H1.ov (f0.tr g1.jq)
          · exact thr _ _ e1 e2
    · simp only [k1, j1, k2, j2, xbL, xbR, bdS, if_neg s1_ne, if_pos nI_0, ev_x Q0.1]
      exact ans.th (List.mem_cons_self ..) F_s (by omega) (by omega) Q0.1.ov (f0.tr jq.t0)
  · simp only [k1, j1, xbR, bdS, if_pos nI_0]
    exact ans.th (List.mem_cons_self ..) F_s (by omega) (by omega) Q0.1.ov (f0.tr jq.t0)
end RO
