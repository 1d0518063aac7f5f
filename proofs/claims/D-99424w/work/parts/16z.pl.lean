/-! the plain law: what was seen, is it so -/
set_option maxRecDepth 100000
/-- how many, towns, days, lucks -/
abbrev seT : Type := Nat × (Nat → Nat) × (Nat → Nat) × (Nat → Int32)
/-- the heap below B -/
def cut (B : Nat) (h : Nat → Option vv_E) : Nat → Option vv_E := fun q => if q < B then h q else none
theorem cut_s {B : Nat} {h : Nat → Option vv_E} : sub (cut B h) h := fun q e he => by
  unfold cut at he
  split at he
  · exact he
  · cases he
theorem cut_e {B : Nat} {h h' : Nat → Option vv_E} (e : ∀ q, q < B → h' q = h q) : cut B h' = cut B h := by
  funext q
  unfold cut
  by_cases hq : q < B
  · rw [if_pos hq, if_pos hq, e q hq]
  · rw [if_neg hq, if_neg hq]
def sKh (h : Nat → Option vv_E) (sl : Nat) (S : seT) : Prop := ∃ g, isLi h sl S.1 g ∧ ∀ i, i < S.1 → ∃ (b : Bool) (fe : Nat → Int32), h (g i) = some (b, .inl (.int, 3, .inl fe)) ∧ fe 0 = nI (S.2.1 i) ∧ fe 1 = nI (S.2.2.1 i) ∧ fe 2 = S.2.2.2 i
def sK (B : Nat) (σ : vv_S) (x0 : Nat) (S : seT) : Prop := ∃ sl, gR σ x0 0 8 = some sl ∧ sKh (cut B σ.1) sl S
def sJ (T : tw_T) (S : seT) : Prop := T.1 52 = nI S.1 ∧ ∀ i, i < S.1 → T.2.2 28 (3 * i) = nI (S.2.1 i) ∧ T.2.2 28 (3 * i + 1) = nI (S.2.2.1 i) ∧ T.2.2 28 (3 * i + 2) = S.2.2.2 i
def sOk (P : pvT) (S : seT) : Prop := S.1 ≤ 8 ∧ ∀ i, i < S.1 → S.2.1 i < P.1.1 ∧ S.2.2.1 i ≤ 30
/-- what queries may change -/
def kd (e : Option vv_E) : Prop := (∃ (b : Bool) (fs : List Value), e = some (b, .inr (2, fs))) ∨ ∃ (b : Bool) (n : Nat) (f : Nat → Int32), e = some (b, .inl (.int, n, .inl f)) ∧ n ≠ 3
section SQ
variable {σ : vv_S} {T : tw_T} {x0 pa va ca tc lu a : Nat} {h0 : Nat → Option vv_E} {P : pvT} {R R0 : Nat → Int32} {lo : Int32} {f : Nat → Int32} {x1 : Int32} {d : Nat} {S : seT}
theorem kd_co (h : isCo σ x0 a R lo) {q : Nat} (hq : coA a q) : kd (σ.1 q) := by
  by_cases e : q = a
  · rw [e, h.1]; exact Or.inl ⟨_, _, rfl⟩
  · obtain ⟨g, h1, -⟩ := h.2 (q - (a + 1)) (by have := hq.1; have := hq.2; omega)
    rw [show a + 1 + (q - (a + 1)) = q by have := hq.1; omega] at h1
    rw [h1]
    refine Or.inr ⟨_, _, _, rfl, ?_⟩
    unfold ro_n
    split <;> omega
theorem kd_va (H : isEnv σ x0 h0 pa va P) : kd (σ.1 va) := by
  obtain ⟨-, -, -, -, -, -, u, h⟩ := H
  rw [h]; exact Or.inr ⟨_, _, _, rfl, by omega⟩
theorem kd_lu (L : isLu σ lu f) : kd (σ.1 lu) := by
  unfold isLu at L
  rw [L]; exact Or.inr ⟨_, _, _, rfl, by omega⟩
theorem kd_X (H : isEnv σ x0 h0 pa va P) (h : isCo σ x0 a R lo) (L : isLu σ lu f) {q : Nat} (hq : coX a va lu q) : kd (σ.1 q) := by
  rcases hq with (hq | hq) | hq
  · exact kd_co h hq
  · rw [hq]; exact kd_va H
  · rw [hq]; exact kd_lu L
theorem kd_no {D : Nat → Prop} {σ' : vv_S} (fr1 : fr D σ σ') (hD : ∀ q, D q → kd (σ.1 q)) {q : Nat} (h : ¬ kd (σ.1 q)) : σ'.1 q = σ.1 q := fr1.2 q fun hq => h (hD q hq)
theorem sKh.k {h h' : Nat → Option vv_E} {sl : Nat} (H : sKh h sl S) (hk : ∀ q, ¬ kd (h q) → h' q = h q) : sKh h' sl S := by
  obtain ⟨g, ⟨f1, f2, mc, ee, cap, gg, l1, l2, l3⟩, h3⟩ := H
  refine ⟨g, ⟨f1, f2, mc, ee, cap, gg, ?_, ?_, l3⟩, fun i hi => ?_⟩
  · rw [hk _ (fun h => by
      rw [l1] at h
      rcases h with ⟨b, fs, h⟩ | ⟨b, n, f, h, -⟩
      · have h := Option.some.inj h
        have h := congrArg Prod.snd h
        injection h with h
        have h := congrArg Prod.fst h
        have h : (11 : Nat) = 2 := h
        omega
      · have h := Option.some.inj h
        have h := congrArg Prod.snd h
        cases h)]
    exact l1
  · rw [hk _ (fun h => by
      rw [l2] at h
      rcases h with ⟨b, fs, h⟩ | ⟨b, n, f, h, -⟩
      · have h := Option.some.inj h
        have h := congrArg Prod.snd h
        cases h
      · have h := Option.some.inj h
        have h := congrArg Prod.snd h
        injection h with h
        have h := congrArg Prod.fst h
        cases h)]
    exact l2
  · obtain ⟨b, fe, e1, e2⟩ := h3 i hi
    refine ⟨b, fe, ?_, e2⟩
    rw [hk _ (fun h => by
      rw [e1] at h
      rcases h with ⟨b, fs, h⟩ | ⟨b, n, f, h, hn⟩
      · have h := Option.some.inj h
        have h := congrArg Prod.snd h
        cases h
      · have h := Option.some.inj h
        have h := congrArg Prod.snd h
        injection h with h
        have h := congrArg (fun z => z.2.1) h
        exact hn h.symm)]
    exact e1
theorem sK.fr {B : Nat} {D : Nat → Prop} {σ' : vv_S} (h : sK B σ x0 S) (fr1 : fr D σ σ') (hD : ∀ q, D q → kd (σ.1 q)) (e : σ'.1 x0 = σ.1 x0) : sK B σ' x0 S := by
  obtain ⟨sl, h1, h2⟩ := h
  refine ⟨sl, (gR_eq e).trans h1, h2.k fun q hq => ?_⟩
  unfold cut at hq ⊢
  by_cases hb : q < B
  · rw [if_pos hb] at hq
    rw [if_pos hb, if_pos hb]
    exact kd_no fr1 hD hq
  · rw [if_neg hb, if_neg hb]
theorem sK.at {B : Nat} (h : sK B σ x0 S) : ∃ sl g, gR σ x0 0 8 = some sl ∧ isLi σ.1 sl S.1 g ∧ ∀ i, i < S.1 → ∃ (b : Bool) (fe : Nat → Int32), σ.1 (g i) = some (b, .inl (.int, 3, .inl fe)) ∧ fe 0 = nI (S.2.1 i) ∧ fe 1 = nI (S.2.2.1 i) ∧ fe 2 = S.2.2.2 i := by
  obtain ⟨sl, h1, g, h2, h3⟩ := h
  exact ⟨sl, g, h1, h2.up cut_s, fun i hi => by
    obtain ⟨b, fe, e1, e2⟩ := h3 i hi
    exact ⟨b, fe, cut_s _ _ e1, e2⟩⟩
theorem sJ.q {T' : tw_T} (h : sJ T S) (f : jq T T') : sJ T' S := ⟨(f.1 52 (by omega)).trans h.1, fun i hi => by rw [f.2.1 28 (by omega)]; exact h.2 i hi⟩
/-- is all that was seen so -/
theorem so_chk {B : Nat} (K : sK B σ x0 S) (J : sJ T S) (hS : sOk P S) (h8 : P.1.1 ≤ 8) (E : uE x0 h0 pa va tc lu P R0 f σ T) : ∀ (c i n : Nat), i + c = S.1 → c < n → ∃ b, KX1_isSoBy_94 (KX_fo 80) n x0 (nI i) σ = some (bI b, σ) ∧ J_isSeen_83 n (nI i) T = some (bI b, T) := by
  obtain ⟨sl, g, k1, k2, k3⟩ := K.at
  obtain ⟨H, C, U, L, p, e1, e2⟩ := E
  have h9 := hS.1
  intro c
  induction c with
  | zero =>
    intro i n hi hn
    obtain ⟨n, rfl⟩ : ∃ m, n = m + 1 := ⟨n - 1, by omega⟩
    refine ⟨true, ?_, ?_⟩
    · show BKX1_isSoBy_94 (KX_fo 80) (KX1_isSoBy_94 (KX_fo 80) n) x0 (nI i) σ = _
      unfold BKX1_isSoBy_94
      simp only [k1, li_o k2, li_size k2, bdS]
      rw [if_pos (nI_le (by omega) (by omega))]
      rfl
    · show B_isSeen_83 (J_isSeen_83 n) (nI i) T = _
      unfold B_isSeen_83
      rw [J.1, if_pos (nI_le (by omega) (by omega))]
      rfl
  | succ c ih =>
    intro i n hi hn
    obtain ⟨n, rfl⟩ : ∃ m, n = m + 1 := ⟨n - 1, by omega⟩
    obtain ⟨b1, fe, g1, g2, g3, g4⟩ := k3 i (by omega)
    obtain ⟨t1, t2⟩ := hS.2 i (by omega)
    obtain ⟨j1, j2, j3⟩ := J.2 i (by omega)
    have a0 : aI σ .int (g i) (nI 0) = some (nI (S.2.1 i)) := by rw [aI_at g1 (by omega) (by omega), g2]
    have a1 : aI σ .int (g i) (nI 1) = some (nI (S.2.2.1 i)) := by rw [aI_at g1 (by omega) (by omega), g3]
    have a2 : aI σ .int (g i) (nI 2) = some (S.2.2.2 i) := by rw [aI_at g1 (by omega) (by omega), g4]
    have ia : isA σ (g i) .int = some () := by unfold isA; rw [g1]; rfl
    have al : aI σ .int lu (nI (8 * S.2.2.1 i + S.2.1 i)) = some (f (8 * S.2.2.1 i + S.2.1 i)) := aI_at L (by omega) (by omega)
    have r0 : rdI 24 (T.2.2 28) (nI (3 * i)) = some (nI (S.2.1 i)) := by rw [nI_rd (by omega) (by omega), j1]
    have r1 : rdI 24 (T.2.2 28) (nI (3 * i + 1)) = some (nI (S.2.2.1 i)) := by rw [nI_rd (by omega) (by omega), j2]
    have r2 : rdI 24 (T.2.2 28) (nI (3 * i + 2)) = some (S.2.2.2 i) := by rw [nI_rd (by omega) (by omega), j3]
    have rl : rdI 248 (T.2.2 29) (nI (8 * S.2.2.1 i + S.2.1 i)) = some (f (8 * S.2.2.1 i + S.2.1 i)) := by rw [nI_rd (by omega) (by omega), e1 _ _ t2 t1]
    have hk : KX1_isSoBy_94 (KX_fo 80) (n + 1) x0 (nI i) σ = if f (8 * S.2.2.1 i + S.2.1 i) = S.2.2.2 i then KX1_isSoBy_94 (KX_fo 80) n x0 (nI (i + 1)) σ else some (bI false, σ) := by
      show BKX1_isSoBy_94 (KX_fo 80) (KX1_isSoBy_94 (KX_fo 80) n) x0 (nI i) σ = _
      unfold BKX1_isSoBy_94
      simp only [k1, li_o k2, li_size k2, li_get k2 (show i < S.1 by omega), ia, U.2.1, a0, a1, a2, pk_mul, nI_add, al, bdS]
      rw [if_neg (nI_ge (show i < S.1 by omega) (by omega))]
      rfl
    have hj : J_isSeen_83 (n + 1) (nI i) T = if f (8 * S.2.2.1 i + S.2.1 i) = S.2.2.2 i then J_isSeen_83 n (nI (i + 1)) T else some (bI false, T) := by
      show B_isSeen_83 (J_isSeen_83 n) (nI i) T = _
      unfold B_isSeen_83
      rw [J.1, if_neg (nI_ge (show i < S.1 by omega) (by omega))]
      simp only [pk_mul, nI_add, r0, r1, r2, rl, bdS]
      rfl
    rw [hk, hj]
    by_cases h : f (8 * S.2.2.1 i + S.2.1 i) = S.2.2.2 i
    · rw [if_pos h, if_pos h]
      exact ih (i + 1) n (by omega) (by omega)
    · rw [if_neg h, if_neg h]
      exact ⟨false, rfl, rfl⟩
/-- both, where what was seen is asked for -/
def wQ (B : Nat) (x0 : Nat) (h0 : Nat → Option vv_E) (pa va ca tc lu : Nat) (P : pvT) (R : Nat → Int32) (lo : Int32) (S : seT) (σ : vv_S) (T : tw_T) : Prop := isQ x0 h0 pa va ca P R lo σ T ∧ isU x0 tc lu h0 σ ∧ (∃ R2 lo2, isCo σ x0 tc R2 lo2) ∧ (∃ f, isLu σ lu f) ∧ (ca + 10 ≤ tc ∨ tc + 10 ≤ ca) ∧ (B ≤ σ.2.1 ∧ va < B ∧ x0 < B ∧ ca + 10 ≤ B ∧ tc + 10 ≤ B ∧ lu < B ∧ ∀ q, B ≤ q → h0 q = none) ∧ sK B σ x0 S ∧ sJ T S ∧ sOk P S
theorem wQ.go {B : Nat} {σ' : vv_S} {T' : tw_T} (W : wQ B x0 h0 pa va ca tc lu P R lo S σ T) (H : isEnv σ' x0 h0 pa va P) (C : ∃ R2 lo2, isCo σ' x0 tc R2 lo2) (L : ∃ f, isLu σ' lu f) (f1 : fr (coX tc va lu) σ σ') (g1 : jq T T') : wQ B x0 h0 pa va ca tc lu P R lo S σ' T' := by
  obtain ⟨Q, U, ⟨R2, lo2, C2⟩, ⟨f, L2⟩, hab, hlt, K, J, hS⟩ := W
  have hx : σ'.1 x0 = σ.1 x0 := f1.2 x0 (fun h => by
    rcases h with (h | h) | h
    · exact ev_xco Q.1 C2 h
    · exact va_x Q.1 h
    · exact lu_x Q.1 L2 h)
  refine ⟨⟨H, Q.co.ke fun q h1 h2 => f1.2 q (fun h => ?_), (gR_eq hx).trans Q.gc, fun q hq => Q.dm q (by rw [f1.1] at hq; exact hq), by rw [f1.1]; exact Q.lt, Q.cx, Q.tp.jq g1, Q.rw.jq g1, Q.inv⟩, U.k hx, C, L, hab, by rw [f1.1]; exact hlt, K.fr f1 (fun q hq => kd_X Q.1 C2 L2 hq) hx, J.q g1, hS⟩
  rcases h with (h | h) | h
  · have h : tc ≤ q ∧ q < tc + 10 := h
    omega
  · exact ev_vaco Q.1 Q.co (by rw [← h]; exact ⟨h1, h2⟩)
  · exact lu_co Q.co L2 (by rw [← h]; exact ⟨h1, h2⟩)
theorem so_w {B : Nat} (W : wQ B x0 h0 pa va ca tc lu P R lo S σ T) (hv : lvO P x1 R) (hd : d < 2 ^ 30) : ∃ b σ' T' f', KX1_isSoBy (KX_fo 80) x0 x1 (nI d) σ = some (bI b, σ') ∧ J_isSeen x1 (nI d) T = some (bI b, T') ∧ uE x0 h0 pa va tc lu P R f' σ' T' ∧ wQ B x0 h0 pa va ca tc lu P R lo S σ' T' ∧ fr (coX tc va lu) σ σ' ∧ isT8 T T' := by
  obtain ⟨Q, U, ⟨R2, lo2, C2⟩, ⟨f, L⟩, hab, hlt, K, J, hS⟩ := id W
  have h8 := ev_8 Q.1
  obtain ⟨σ1, s1, C1, C3, f1⟩ := K_be hab Q.co C2
  obtain ⟨T1, u1, r1, z1, g1⟩ := J_tries_e Q.rw
  have hx1 := f1.2 x0 (ev_xco Q.1 C2)
  obtain ⟨σ2, T2, f2, s2, u2, E2, fr2, g2⟩ := so_loop (x1 := x1) (R0 := R) Q.cx hd 31 0 NN σ1 T1 R f ⟨⟨_, ev_co Q.1 C2 U.2.2.1 f1, C3, r1, Q.tp.jf g1, Q.inv⟩, U.k hx1, (f1.2 lu (lu_co C2 L)).trans L, fun _ => hv, fun _ _ _ => rfl, fun i t h => by omega, fun i t h => by omega⟩ (by omega) (by unfold NN; omega)
  have fA : fr (coX tc va lu) σ σ2 := (f1.mo fun q hq => Or.inl (Or.inl hq)).tr fr2
  have gA : isT8 T T2 := (isT8.jf g1).tr g2
  have W2 := W.go E2.1 E2.2.1 ⟨f2, E2.2.2.2.1⟩ fA gA.1
  obtain ⟨b, s3, u3⟩ := so_chk (P := P) W2.2.2.2.2.2.2.1 W2.2.2.2.2.2.2.2.1 hS h8 E2 S.1 0 NN (by omega) (by have := hS.1; unfold NN; omega)
  refine ⟨b, σ2, T2, f2, ?_, ?_, E2, W2, fA, gA⟩
  · unfold KX1_isSoBy
    simp only [U.1, Q.gc, co_o C2, s1, bdS]
    exact s2.trans s3
  · unfold J_isSeen
    simp only [u1, bdS]
    exact u2.trans u3
end SQ
