/-! the plain law: what is sent -/
set_option maxRecDepth 100000
def bI (b : Bool) : Int32 := if b = true then nI 1 else nI 0
def oI (o : Option Nat) : Int32 := match o with
  | none => -1
  | some m => nI m
theorem bI_and {a b : Bool} : bI a &&& bI b = bI (a && b) := by cases a <;> cases b <;> decide
theorem mx_sub {g d : Nat} (hg : g ≤ 99) (hd : d ≤ 100000) : mxI (nI 0) (nI g - nI d) = nI (g - d) := by
  have h0 := ti_n (n := 0) (by omega)
  have h1 := ti_n (n := g) (by omega)
  have h2 := ti_n (n := d) (by omega)
  have h3 : (nI g - nI d).toInt = (g : Int) - d := by rw [ti_sub (by rw [h1, h2]; omega) (by rw [h1, h2]; omega), h1, h2]
  rw [← mx_le]
  by_cases h : d ≤ g
  · rw [pk_sub h]
    by_cases h4 : g - d = 0
    · rw [h4, if_pos (by rw [ti_le]; exact Int.le_refl _)]
    · rw [if_neg (by rw [ti_le, h0, ti_n (by omega)]; omega)]
  · rw [if_pos (by rw [ti_le, h3, h0]; omega), show g - d = 0 by omega]
theorem cm_sub {g d : Nat} (hg : g ≤ 99) (hd : d ≤ 100000) (T : tw_T) : J_comesTo_56 (nI g) (nI d) T = some (nI (g - d), T) := by
  have h1 := ti_n (n := g) (by omega)
  have h2 := ti_n (n := d) (by omega)
  have h3 : (nI g - nI d).toInt = (g : Int) - d := by rw [ti_sub (by rw [h1, h2]; omega) (by rw [h1, h2]; omega), h1, h2]
  unfold J_comesTo_56 J_comesTo_70
  by_cases h : d ≤ g
  · rw [if_pos (by rw [ti_le, h3, ti_0]; omega), pk_sub h]
  · rw [if_neg (by rw [ti_le, h3, ti_0]; omega), show g - d = 0 by omega]
section HS
variable {σ : vv_S} {T : tw_T} {x0 pa va ca r r' : Nat} {h0 : Nat → Option vv_E} {P : pvT} {R : Nat → Int32} {lo : Int32} {x : Nat}
def tN (R : Nat → Int32) (k : Nat) : Nat := (R (55 + k)).toInt.toNat
def lkN (P : pvT) (x t : Nat) : Nat := bfx (wyE P true 99) P.1.1 x t
def cS (P : pvT) (R : Nat → Int32) (x k : Nat) : Nat := if k < P.1.2.2 ∧ liesR R k ∧ R (35 + k) ≠ nI 1 ∧ lkN P x (tN R k) < 100000 then (if R (45 + k) = nI 1 then gr25 R k else gr25 R k - lkN P x (tN R k)) else 0
theorem cS_99 (hI : invR P R) (h10 : P.1.2.2 ≤ 10) (k : Nat) : cS P R x k ≤ 99 := by
  unfold cS
  by_cases h : k < P.1.2.2 ∧ liesR R k ∧ R (35 + k) ≠ nI 1 ∧ lkN P x (tN R k) < 100000
  · have := (gr25_e hI (k := k) (by omega)).1
    rw [if_pos h]
    split <;> omega
  · rw [if_neg h]; omega
theorem tN_e (hI : invR P R) {k : Nat} (hk : k < 10) (hl : liesR R k) : tN R k < P.1.1 ∧ R (55 + k) = nI (tN R k) := by
  obtain ⟨h1, h2⟩ := (hI.2 k hk).2.2.2.1
  have h3 : (R (55 + k)).toInt ≠ -1 := fun e => hl.1 (ti_eq (by rw [e, ti_m1]))
  have h4 : rI (R (55 + k)) 0 ((P.1.1 - 1 : Nat) : Int) := ⟨by omega, by omega⟩
  obtain ⟨h5, h6⟩ := wN_e h4
  refine ⟨?_, h6⟩
  unfold tN
  omega
def isY (σ : vv_S) (r : Nat) (g : Nat → Nat) : Prop := ∃ f, σ.1 r = some (true, .inl (.int, 10, .inl f)) ∧ ∀ t, t < 10 → f t = nI (g t)
theorem isY.rd {g : Nat → Nat} (h : isY σ r g) {t : Nat} (ht : t < 10) : aI σ .int r (nI t) = some (nI (g t)) := by
  obtain ⟨f, h1, h2⟩ := h
  rw [aI_at h1 ht (by omega), h2 t ht]
theorem isY.st {g : Nat → Nat} (h : isY σ r g) {t : Nat} (ht : t < 10) (v : Nat) : ∃ σ', sI σ r (nI t) (nI v) = some σ' ∧ isY σ' r (udN g t v) ∧ fr (fun q => q = r) σ σ' := by
  obtain ⟨f, h1, h2⟩ := h
  obtain ⟨σ', s1, s2, s3⟩ := sI_at h1 (v := nI v) ht (by omega)
  refine ⟨σ', s1, ⟨_, s2, fun q hq => ?_⟩, s3⟩
  by_cases e : q = t
  · subst e; rw [upd_s, udN_s]
  · rw [upd_n e, udN_n e, h2 q hq]
/-- the grains are laid -/
theorem K_s35 (hd : ∀ q, r ≤ q → h0 q = none) (hl : va < r ∧ x0 < r ∧ ca + 10 ≤ r) (hr : r < r') (hI : invR P R) (h10 : P.1.2.2 ≤ 10) (h8 : P.1.1 ≤ 8) (hbE : ∀ t, lkN P x t ≤ 100000) (x2 : Int32) : ∀ (c i n : Nat) (σ : vv_S) (g : Nat → Nat), hB x0 h0 pa va ca P R lo σ → isX σ r (lkN P x) → isY σ r' g → (∀ k, k < i → g k = cS P R x k) → (∀ k, i ≤ k → g k = 0) → i + c = P.1.2.2 → c < n → ∃ σ' g', KX1_sending_35 n x0 x2 r r' (nI i) σ = KX1_sending_155 NN x0 x2 r' (-1) (nI 0) σ' ∧ hB x0 h0 pa va ca P R lo σ' ∧ isY σ' r' g' ∧ (∀ k, k < P.1.2.2 → g' k = cS P R x k) ∧ fr (fun q => q = r') σ σ' := by
  intro c
  induction c with
  | zero =>
    intro i n σ g B X Y g1 g2 hi hn
    obtain ⟨n, rfl⟩ : ∃ m, n = m + 1 := ⟨n - 1, by omega⟩
    refine ⟨σ, g, ?_, B, Y, fun k hk => g1 k (by omega), ⟨rfl, fun _ _ => rfl⟩⟩
    show BKX1_sending_35 (KX1_sending_35 n) x0 x2 r r' (nI i) σ = _
    unfold BKX1_sending_35
    simp only [ev_pa B.1, ev_cr B.1, bdS]
    rw [if_pos (nI_le (by omega) (by omega))]
  | succ c ih =>
    intro i n σ g B X Y g1 g2 hi hn
    obtain ⟨n, rfl⟩ : ∃ m, n = m + 1 := ⟨n - 1, by omega⟩
    have hi10 : i < 10 := by omega
    have skip : cS P R x i = 0 → ∃ σ' g', KX1_sending_35 n x0 x2 r r' (nI (i + 1)) σ = KX1_sending_155 NN x0 x2 r' (-1) (nI 0) σ' ∧ hB x0 h0 pa va ca P R lo σ' ∧ isY σ' r' g' ∧ (∀ k, k < P.1.2.2 → g' k = cS P R x k) ∧ fr (fun q => q = r') σ σ' := fun h => ih (i + 1) n σ g B X Y (fun k hk => by
      by_cases e : k = i
      · subst e; rw [h]; exact g2 k (Nat.le_refl _)
      · exact g1 k (by omega)) (fun k hk => g2 k (by omega)) (by omega) (by omega)
    show ∃ σ' g', BKX1_sending_35 (KX1_sending_35 n) x0 x2 r r' (nI i) σ = _ ∧ _
    unfold BKX1_sending_35 KX1_sending_138 KX1_sending_143
    have l4 : aI σ .int (ca + 1 + 4) (nI i) = some (R (35 + i)) := co_aI B.2.1 (j := 4) (by decide) hi10
    have l6 : aI σ .int (ca + 1 + 6) (nI i) = some (R (55 + i)) := co_aI B.2.1 (j := 6) (by decide) hi10
    have l3 : aI σ .int (ca + 1 + 3) (nI i) = some (R (25 + i)) := co_aI B.2.1 (j := 3) (by decide) hi10
    have l5 : aI σ .int (ca + 1 + 5) (nI i) = some (R (45 + i)) := co_aI B.2.1 (j := 5) (by decide) hi10
    simp only [ev_pa B.1, ev_cr B.1, B.2.2, co_o B.2.1, K_lies B.2.1 hi10, co_R B.2.1 (j := 4) (by decide), co_R B.2.1 (j := 6) (by decide), co_R B.2.1 (j := 3) (by decide), co_R B.2.1 (j := 5) (by decide), l4, l6, l3, l5, nI_add, bdS]
    rw [if_neg (nI_ge (show i < P.1.2.2 by omega) (by omega))]
    by_cases h1 : liesR R i
    · rw [if_pos h1, if_neg s1_ne]
      by_cases h2 : R (35 + i) = nI 1
      · rw [if_pos h2]
        exact skip (by unfold cS; rw [if_neg (fun z => z.2.2.1 h2)])
      · obtain ⟨t1, t2⟩ := tN_e hI hi10 h1
        have hv := X.rd (t := tN R i) (by omega)
        rw [if_neg h2, t2]
        simp only [hv, bdS]
        by_cases h3 : lkN P x (tN R i) < 100000
        · obtain ⟨b1, b2⟩ := gr25_e hI hi10
          rw [if_pos (nI_lt h3 (by omega)), b2]
          have go : ∀ v, v = cS P R x i → ∃ σ' g', ((sI σ r' (nI i) (nI v)).bind fun σ1 => KX1_sending_35 n x0 x2 r r' (nI (i + 1)) σ1) = KX1_sending_155 NN x0 x2 r' (-1) (nI 0) σ' ∧ hB x0 h0 pa va ca P R lo σ' ∧ isY σ' r' g' ∧ (∀ k, k < P.1.2.2 → g' k = cS P R x k) ∧ fr (fun q => q = r') σ σ' := by
            intro v hv
            obtain ⟨σ1, s1, Y1, f1⟩ := Y.st hi10 v
            have X1 : isX σ1 r (lkN P x) := by
              obtain ⟨f, q1, q2⟩ := X
              exact ⟨f, (f1.n1 (by omega)).trans q1, q2⟩
            obtain ⟨σ', g', a1, a2, a3, a4, a5⟩ := ih (i + 1) n σ1 _ (B.fr hd hl (f1.mo fun q hq => by have hq : q = r' := hq; show r ≤ q; omega)) X1 Y1 (fun k hk => by
              by_cases e : k = i
              · subst e; rw [udN_s, hv]
              · rw [udN_n e]; exact g1 k (by omega)) (fun k hk => by rw [udN_n (by omega)]; exact g2 k (by omega)) (by omega) (by omega)
            refine ⟨σ', g', ?_, a2, a3, a4, f1.tr a5⟩
            rw [s1]
            exact a1
          by_cases h4 : R (45 + i) = nI 1
          · rw [if_pos h4, mx_sub b1 (by omega)]
            exact go (gr25 R i - 0) (by unfold cS; rw [if_pos ⟨by omega, h1, h2, h3⟩, if_pos h4]; rfl)
          · rw [if_neg h4, mx_sub b1 (by omega)]
            exact go _ (by unfold cS; rw [if_pos ⟨by omega, h1, h2, h3⟩, if_neg h4])
        · have h5 := hbE (tN R i)
          rw [if_neg (nI_nlt (by omega) (by omega))]
          exact skip (by unfold cS; rw [if_neg (fun z => h3 z.2.2.2)])
    · rw [if_neg h1, if_pos nI_0]
      exact skip (by unfold cS; rw [if_neg (fun z => h1 z.2.1)])
/-- one set is tried -/
theorem K_s178 (H : isEnv σ x0 h0 pa va P) (h10 : P.1.2.2 ≤ 10) {c : Nat → Nat} {g : Nat → Nat} (Y : isY σ r' g) (hg : ∀ k, k < P.1.2.2 → g k = c k) (hc : ∀ k, c k ≤ 99) {G s : Nat} (hG : G ≤ 999) (hs : s < 1024) {o : Option Nat} (ho : ∀ m, o = some m → m < 1024) (k155 : Nat → Int32 → Nat → Int32 → Int32 → vv_S → Option (hX (Int32 × vv_S))) : ∀ (d i n v : Nat) (b : Bool), v ≤ 99 * i → lp (smF c s) d i v = smN c P.1.2.2 s → lp (fun k b => if s.testBit k = true then b && decide (0 < c k) else b) d i b = alB c P.1.2.2 s → i + d = P.1.2.2 → d < n → KX1_sending_178 k155 n x0 (nI G) r' (oI o) (nI s) (nI v) (bI b) (nI i) σ = k155 x0 (nI G) r' (oI (stp (fun s => alB c P.1.2.2 s && decide (G ≤ smN c P.1.2.2 s)) s o)) (nI (s + 1)) σ := by
  intro d
  induction d with
  | zero =>
    intro i n v b hv e1 e2 hi hn
    obtain ⟨n, rfl⟩ : ∃ m, n = m + 1 := ⟨n - 1, by omega⟩
    have e1 : v = smN c P.1.2.2 s := e1
    have e2 : b = alB c P.1.2.2 s := e2
    show BKX1_sending_178 k155 (KX1_sending_178 k155 n) x0 (nI G) r' (oI o) (nI s) (nI v) (bI b) (nI i) σ = _
    unfold BKX1_sending_178 KX1_sending_267 KX1_sending_271 stp
    have kb : ∀ m, m < 1024 → KJ14_bitCount (nI m) = some (nI (pcN m)) := fun m hm => by rw [← pc_bc m hm]; rfl
    simp only [ev_pa H, ev_cr H, nI_add, kb s hs, bdS]
    have hq : (alB c P.1.2.2 s && decide (G ≤ smN c P.1.2.2 s)) = (b && decide (G ≤ v)) := by rw [e1, e2]
    rw [if_pos (nI_le (by omega) (by omega))]
    refine Eq.trans ?_ (congrArg (fun q => k155 x0 (nI G) r' (oI (if (q && lessB s o) = true then some s else o)) (nI (s + 1)) σ) hq.symm)
    show _ = k155 x0 (nI G) r' (oI (if ((b && decide (G ≤ v)) && lessB s o) = true then some s else o)) (nI (s + 1)) σ
    have hb : ∀ b : Bool, b.toNat ≤ 1 := fun b => by cases b <;> decide
    have hpc : ∀ m, pcN m ≤ 10 := fun m => by
      unfold pcN
      have := hb (m.testBit 0); have := hb (m.testBit 1); have := hb (m.testBit 2); have := hb (m.testBit 3); have := hb (m.testBit 4); have := hb (m.testBit 5); have := hb (m.testBit 6); have := hb (m.testBit 7); have := hb (m.testBit 8); have := hb (m.testBit 9)
      omega
    cases b with
    | false => rw [if_pos (by decide), if_neg (by simp)]
    | true =>
      rw [if_neg (by decide)]
      by_cases h1 : G ≤ v
      · rw [if_neg (nI_nlt h1 (by omega)), decide_eq_true h1]
        cases o with
        | none => rw [if_pos (show oI none = -1 from rfl), if_pos (by rfl)]; rfl
        | some m =>
          have hm := ho m rfl
          rw [if_neg (show ¬ oI (some m) = -1 from nI_m1 (by omega))]
          have := hpc s
          have := hpc m
          simp only [show oI (some m) = nI m from rfl, kb m hm, bdS]
          by_cases h2 : pcN s < pcN m
          · rw [if_neg (nI_ge h2 (by omega)), if_pos (by show (true && true && decide (pcN s < pcN m)) = true; rw [decide_eq_true h2]; rfl)]; rfl
          · rw [if_pos (nI_le (by omega) (by omega)), if_neg (by show ¬ (true && true && decide (pcN s < pcN m)) = true; rw [decide_eq_false h2]; decide)]; rfl
      · rw [if_pos (nI_lt (by omega) (by omega)), decide_eq_false h1, if_neg (by simp)]
  | succ d ih =>
    intro i n v b hv e1 e2 hi hn
    obtain ⟨n, rfl⟩ : ∃ m, n = m + 1 := ⟨n - 1, by omega⟩
    have e1 : lp (smF c s) d (i + 1) (smF c s i v) = smN c P.1.2.2 s := e1
    have e2 : lp (fun k b => if s.testBit k = true then b && decide (0 < c k) else b) d (i + 1) (if s.testBit i = true then b && decide (0 < c i) else b) = alB c P.1.2.2 s := e2
    have hci := hc i
    have e3 := ih (i + 1) n _ _ (show smF c s i v ≤ 99 * (i + 1) by unfold smF; split <;> omega) e1 e2 (by omega) (by omega)
    rw [← e3]
    show BKX1_sending_178 k155 (KX1_sending_178 k155 n) x0 (nI G) r' (oI o) (nI s) (nI v) (bI b) (nI i) σ = _
    unfold BKX1_sending_178 KX1_sending_228 KX1_sending_231 smF
    have hY := Y.rd (t := i) (by omega)
    rw [hg i (by omega)] at hY
    simp only [ev_pa H, ev_cr H, K_isOf (show s < 2 ^ 31 by omega) (show i < 31 by omega), hY, nI_add, bdS]
    rw [if_neg (nI_ge (show i < P.1.2.2 by omega) (by omega))]
    by_cases h1 : s.testBit i = true
    · rw [if_pos h1, if_neg s1_ne, if_pos h1, if_pos h1]
      by_cases h2 : 0 < c i
      · rw [if_neg (nI_nle h2 (by omega)), decide_eq_true h2, show bI b &&& nI 1 = bI (b && true) from bI_and (b := true)]
      · rw [if_pos (by rw [show c i = 0 by omega, nI_0, ti_le]; exact Int.le_refl _), decide_eq_false h2, show bI b &&& nI 0 = bI (b && false) from bI_and (b := false)]
    · rw [if_neg h1, if_pos nI_0, if_neg h1, if_neg h1]
theorem stp_lt {q : Nat → Bool} {s : Nat} {o : Option Nat} (hs : s < 1024) (ho : ∀ m, o = some m → m < 1024) : ∀ m, stp q s o = some m → m < 1024 := by
  intro m h
  unfold stp at h
  split at h
  · injection h with h; omega
  · exact ho m h
theorem K_s155 (H : isEnv σ x0 h0 pa va P) (h10 : P.1.2.2 ≤ 10) {c : Nat → Nat} {g : Nat → Nat} (Y : isY σ r' g) (hg : ∀ k, k < P.1.2.2 → g k = c k) (hc : ∀ k, c k ≤ 99) {G : Nat} (hG : G ≤ 999) : ∀ (d s n : Nat) (o : Option Nat), (∀ m, o = some m → m < 1024) → s + d = 2 ^ P.1.2.2 → d < n → KX1_sending_155 n x0 (nI G) r' (oI o) (nI s) σ = some (.inl (oI (lp (stp fun s => alB c P.1.2.2 s && decide (G ≤ smN c P.1.2.2 s)) d s o), σ)) := by
  have h1024 : (2 : Nat) ^ P.1.2.2 ≤ 1024 := by
    rw [show (1024 : Nat) = 2 ^ 10 from rfl]
    exact Nat.pow_le_pow_right (by omega) h10
  intro d
  induction d with
  | zero =>
    intro s n o ho hi hn
    obtain ⟨n, rfl⟩ : ∃ m, n = m + 1 := ⟨n - 1, by omega⟩
    show BKX1_sending_155 (KX1_sending_155 n) x0 (nI G) r' (oI o) (nI s) σ = _
    unfold BKX1_sending_155
    simp only [ev_pa H, ev_cr H, bt_shl (show P.1.2.2 < 31 by omega), bdS]
    rw [if_pos (nI_le (by omega) (by omega))]
    rfl
  | succ d ih =>
    intro s n o ho hi hn
    obtain ⟨n, rfl⟩ : ∃ m, n = m + 1 := ⟨n - 1, by omega⟩
    have e := ih (s + 1) n (stp (fun s => alB c P.1.2.2 s && decide (G ≤ smN c P.1.2.2 s)) s o) (stp_lt (by omega) ho) (by omega) (by omega)
    have e2 := K_s178 H h10 Y hg hc hG (s := s) (by omega) ho (KX1_sending_155 n) P.1.2.2 0 NN 0 true (by omega) rfl rfl (by omega) (by unfold NN; omega)
    show BKX1_sending_155 (KX1_sending_155 n) x0 (nI G) r' (oI o) (nI s) σ = _
    unfold BKX1_sending_155
    simp only [ev_pa H, ev_cr H, bt_shl (show P.1.2.2 < 31 by omega), bdS]
    rw [if_neg (nI_ge (by omega) (by omega))]
    exact e2.trans e
theorem lk_rel (hQ : invP P) (hW : wyP P) (h8 : P.1.1 ≤ 8) (h12 : P.1.2.1 ≤ 12) {t : Nat} (hx : x < P.1.1) (ht : t < P.1.1) : (lkN P x t = 100000 ∧ fwx (wyE P true 99) P.1.1 t x = 99999) ∨ (lkN P x t ≤ 15552 ∧ fwx (wyE P true 99) P.1.1 t x = lkN P x t) := by
  rw [wy_sy hQ hW h8 ht hx]
  exact wy_rel (lk := true) (bt := 99) hQ hW h8 h12 hx ht
/-- what comes of a crate -/
theorem J_comes_e (hr : isRw T 0 R) (hP : isTp T P) (hI : invR P R) (hQ : invP P) (hW : wyP P) (h8 : P.1.1 ≤ 8) (h12 : P.1.2.1 ≤ 12) (h10 : P.1.2.2 ≤ 10) {D : Nat → Nat → Nat} (dD : isD T D (fwx (wyE P true 99) P.1.1)) (hx : x < P.1.1) {k : Nat} (hk : k < P.1.2.2) (hl : liesR R k) (h2 : R (35 + k) ≠ nI 1) : J_comesTo (nI k) (nI x) T = some (nI (cS P R x k), T) := by
  obtain ⟨t1, t2⟩ := tN_e hI (show k < 10 by omega) hl
  obtain ⟨b1, b2⟩ := gr25_e hI (k := k) (by omega)
  have r2 := (d_rd dD (a := tN R k) (b := x) (by omega) (by omega)).2
  unfold J_comesTo
  simp only [nI_add, rd0 hr (show 55 + k < 85 by omega) (us_cp hP (by omega) (by omega) (by omega)), rd0 hr (show 25 + k < 85 by omega) (us_cp hP (by omega) (by omega) (by omega)), rd0 hr (show 45 + k < 85 by omega) (us_cp hP (by omega) (by omega) (by omega)), t2, pk_mul, r2, b2, bdS]
  rcases lk_rel hQ hW h8 h12 hx t1 with ⟨c1, c2⟩ | ⟨c1, c2⟩
  · have e0 : cS P R x k = 0 := by unfold cS; rw [if_neg (by intro z; have := z.2.2.2; omega)]
    rw [c2, if_neg (nI_nlt (Nat.le_refl _) (by omega)), e0]
  · rw [c2, if_pos (nI_lt (by omega) (by omega))]
    have hc : k < P.1.2.2 ∧ liesR R k ∧ R (35 + k) ≠ nI 1 ∧ lkN P x (tN R k) < 100000 := ⟨hk, hl, h2, by omega⟩
    by_cases h4 : R (45 + k) = nI 1
    · have e0 : cS P R x k = gr25 R k - 0 := by unfold cS; rw [if_pos hc, if_pos h4]; rfl
      rw [if_pos h4, e0]
      exact cm_sub b1 (by omega) T
    · have e0 : cS P R x k = gr25 R k - lkN P x (tN R k) := by unfold cS; rw [if_pos hc, if_neg h4]
      rw [if_neg h4, e0]
      exact cm_sub b1 (by omega) T
def mS (P : pvT) (R : Nat → Int32) (x k : Nat) : Bool := decide (liesR R k ∧ R (35 + k) = 0 ∧ lkN P x (tN R k) < 100000)
theorem J_s41 (hr : isRw T 0 R) (hP : isTp T P) (hI : invR P R) (hQ : invP P) (hW : wyP P) (h8 : P.1.1 ≤ 8) (h12 : P.1.2.1 ≤ 12) (h10 : P.1.2.2 ≤ 10) {D : Nat → Nat → Nat} (dD : isD T D (fwx (wyE P true 99) P.1.1)) (hx : x < P.1.1) (x2 : Int32) : ∀ (c i n : Nat) (v : Int32), i + c = P.1.2.2 → c < n → J_sending_41 n (nI x) x2 v (nI i) T = J_sending_122 NN (nI x) x2 (lp (bF (mS P R x)) c i v) (-1) (nI 0) T := by
  intro c
  induction c with
  | zero =>
    intro i n v hi hn
    obtain ⟨n, rfl⟩ : ∃ m, n = m + 1 := ⟨n - 1, by omega⟩
    show B_sending_41 (J_sending_41 n) (nI x) x2 v (nI i) T = _
    unfold B_sending_41
    rw [hP.2.2.1, if_pos (nI_le (by omega) (by omega))]
    rfl
  | succ c ih =>
    intro i n v hi hn
    obtain ⟨n, rfl⟩ : ∃ m, n = m + 1 := ⟨n - 1, by omega⟩
    have e := ih (i + 1) n (bF (mS P R x) i v) (by omega) (by omega)
    show B_sending_41 (J_sending_41 n) (nI x) x2 v (nI i) T = J_sending_122 NN (nI x) x2 (lp (bF (mS P R x)) c (i + 1) (bF (mS P R x) i v)) (-1) (nI 0) T
    rw [← e]
    have skip : mS P R x i = false → J_sending_41 n (nI x) x2 (v ||| nI 0) (nI (i + 1)) T = J_sending_41 n (nI x) x2 (bF (mS P R x) i v) (nI (i + 1)) T := fun h => by
      unfold bF
      rw [if_neg (by rw [h]; decide), or_0]
    unfold B_sending_41 J_sending_107 J_sending_108
    rw [hP.2.2.1, if_neg (nI_ge (show i < P.1.2.2 by omega) (by omega))]
    simp only [J_lies_e hr (by omega) hP.2.2.1 (show i < P.1.2.2 by omega) h10, nI_add, rd0 hr (show 35 + i < 85 by omega) (us_cp hP (by omega) (by omega) (by omega)), rd0 hr (show 55 + i < 85 by omega) (us_cp hP (by omega) (by omega) (by omega)), bdS]
    by_cases h1 : liesR R i
    · obtain ⟨t1, t2⟩ := tN_e hI (show i < 10 by omega) h1
      have r2 := (d_rd dD (a := tN R i) (b := x) (by omega) (by omega)).2
      rw [if_pos h1, if_neg s1_ne]
      by_cases h2 : R (35 + i) = 0
      · rw [if_pos h2, t2]
        simp only [pk_mul, nI_add, r2, bdS]
        rcases lk_rel hQ hW h8 h12 hx t1 with ⟨c1, c2⟩ | ⟨c1, c2⟩
        · rw [c2, if_pos (nI_le (Nat.le_refl _) (by omega))]
          exact skip (decide_eq_false fun z => by have := z.2.2; omega)
        · rw [c2, if_neg (nI_ge (by omega) (by omega))]
          unfold bF
          rw [if_pos (show mS P R x i = true from decide_eq_true ⟨h1, h2, by omega⟩)]
      · rw [if_neg h2]
        exact skip (decide_eq_false fun z => h2 z.2.1)
    · rw [if_neg h1, if_pos nI_0]
      exact skip (decide_eq_false fun z => h1 z.1)
end HS
