/-! the plain law: ways, as both reckon them -/
set_option maxRecDepth 100000
theorem mn_nI {u v : Nat} (hu : u < 2 ^ 31) (hv : v < 2 ^ 31) : mnI (nI u) (nI v) = nI (min u v) := by
  unfold mnI
  by_cases h : v < u
  · rw [if_pos (nI_lt h hu), Nat.min_eq_right (by omega)]
  · rw [if_neg (nI_nlt (by omega) hv), Nat.min_eq_left (by omega)]
def wN (P : pvT) (j w : Nat) : Nat := (P.2.1 j w).toInt.toNat
/-- ways: no two alike -/
def wyP (P : pvT) : Prop := (∀ w, w < P.1.2.1 → P.2.1 2 w ≠ P.2.1 3 w) ∧ ∀ w u, w < P.1.2.1 → u < P.1.2.1 → w ≠ u → ¬ (P.2.1 2 w = P.2.1 2 u ∧ P.2.1 3 w = P.2.1 3 u) ∧ ¬ (P.2.1 2 w = P.2.1 3 u ∧ P.2.1 3 w = P.2.1 2 u)
def wyE (P : pvT) (lk : Bool) (bt : Nat) : wyT := ((P.1.2.1, bt), wN P 2, wN P 3, fun w => if lk = true then wN P 4 w * wN P 5 w else wN P 4 w)
section WY
variable {σ : vv_S} {T : tw_T} {x0 pa va ca r : Nat} {h0 : Nat → Option vv_E} {P : pvT} {R : Nat → Int32} {lo : Int32} {bt : Nat} {lk : Bool}
theorem wN_e {x : Int32} {m : Nat} (h : rI x 0 m) : x.toInt.toNat ≤ m ∧ x = nI x.toInt.toNat := by
  obtain ⟨h1, h2⟩ := h
  obtain ⟨k, hk, e⟩ := nI_of (x := x) (by rw [ti_lt, ti_0]; omega)
  have h3 : x.toInt = (k : Int) := by rw [e, ti_n hk]
  have h4 : x.toInt.toNat = k := by rw [h3]; exact Int.toNat_natCast k
  rw [h4]
  exact ⟨by omega, e⟩
theorem wy_n (hQ : invP P) (h8 : P.1.1 ≤ 8) {w : Nat} (hw : w < P.1.2.1) : (wN P 2 w < P.1.1 ∧ P.2.1 2 w = nI (wN P 2 w)) ∧ (wN P 3 w < P.1.1 ∧ P.2.1 3 w = nI (wN P 3 w)) ∧ (wN P 4 w ≤ 9 ∧ P.2.1 4 w = nI (wN P 4 w)) ∧ (wN P 5 w ≤ 9 ∧ P.2.1 5 w = nI (wN P 5 w)) := by
  obtain ⟨⟨a1, a2⟩, ⟨b1, b2⟩, ⟨c1, c2⟩, d⟩ := hQ.2 w hw
  have e1 := wN_e (x := P.2.1 2 w) (m := P.1.1 - 1) ⟨a1, by omega⟩
  have e2 := wN_e (x := P.2.1 3 w) (m := P.1.1 - 1) ⟨b1, by omega⟩
  have e3 := wN_e (x := P.2.1 4 w) (m := 9) ⟨by omega, c2⟩
  have e4 := wN_e (x := P.2.1 5 w) (m := 9) d
  have hn : 0 < P.1.1 := by omega
  unfold wN
  exact ⟨⟨by have := e1.1; omega, e1.2⟩, ⟨by have := e2.1; omega, e2.2⟩, e3, e4⟩
theorem wy_ok (hQ : invP P) (h8 : P.1.1 ≤ 8) (hW : wyP P) : okE (wyE P lk bt) P.1.1 := by
  intro w hw
  obtain ⟨⟨a1, a2⟩, ⟨b1, b2⟩, ⟨c1, c2⟩, ⟨d1, d2⟩⟩ := wy_n hQ h8 (w := w) hw
  refine ⟨a1, b1, fun e => hW.1 w hw (by rw [a2, b2]; exact congrArg nI e), ?_⟩
  show (if lk = true then wN P 4 w * wN P 5 w else wN P 4 w) ≤ 81
  split
  · exact Nat.le_trans (Nat.mul_le_mul c1 d1) (by omega)
  · omega
theorem wy_un (hQ : invP P) (h8 : P.1.1 ≤ 8) (hW : wyP P) : unE (wyE P lk bt) := by
  intro w u hw hu hne
  obtain ⟨⟨a1, a2⟩, ⟨b1, b2⟩, -⟩ := wy_n hQ h8 (w := w) hw
  obtain ⟨⟨c1, c2⟩, ⟨d1, d2⟩, -⟩ := wy_n hQ h8 (w := u) hu
  obtain ⟨h1, h2⟩ := hW.2 w u hw hu hne
  refine ⟨fun z => h1 ⟨?_, ?_⟩, fun z => h2 ⟨?_, ?_⟩⟩
  · rw [a2, c2]; exact congrArg nI z.1
  · rw [b2, d2]; exact congrArg nI z.2
  · rw [a2, d2]; exact congrArg nI z.1
  · rw [b2, c2]; exact congrArg nI z.2
theorem ev_lw (H : isEnv σ x0 h0 pa va P) : ∃ lw, gR σ pa 1 2 = some lw ∧ isO σ lw 11 = some () ∧ KJ2_size lw σ = some (nI P.1.2.1) ∧ ∀ w, w < P.1.2.1 → ∃ q, KJ2_get lw (nI w) σ = some q ∧ isO σ q 6 = some () ∧ gI σ q 6 0 = some (P.2.1 2 w) ∧ gI σ q 6 1 = some (P.2.1 3 w) ∧ gI σ q 6 2 = some (P.2.1 4 w) ∧ gI σ q 6 3 = some (P.2.1 5 w) ∧ ∃ e, h0 q = some e := by
  obtain ⟨hs, ⟨-, fl, lm, ls, lw, gm, gs, gw, od, h1, -, -, -, -, h2, h3, -⟩, -⟩ := H
  refine ⟨lw, by unfold gR gV; rw [hs _ _ h1]; rfl, li_o (h2.up hs), li_size (h2.up hs), fun w hw => ?_⟩
  obtain ⟨f, h9⟩ := h3 w hw
  have e := hs _ _ h9
  refine ⟨gw w, li_get (h2.up hs) hw, ?_, ?_, ?_, ?_, ?_, ⟨_, h9⟩⟩
  · unfold isO; rw [e]; rfl
  · unfold gI gV; rw [e]; rfl
  · unfold gI gV; rw [e]; rfl
  · unfold gI gV; rw [e]; rfl
  · unfold gI gV; rw [e]; rfl
/-- eight numbers in an array -/
def isX (σ : vv_S) (r : Nat) (x : Nat → Nat) : Prop := ∃ f, σ.1 r = some (true, .inl (.int, 8, .inl f)) ∧ ∀ t, t < 8 → f t = nI (x t)
theorem isX.rd {x : Nat → Nat} (h : isX σ r x) {t : Nat} (ht : t < 8) : aI σ .int r (nI t) = some (nI (x t)) := by
  obtain ⟨f, h1, h2⟩ := h
  rw [aI_at h1 ht (by omega), h2 t ht]
theorem isX.st {x : Nat → Nat} (h : isX σ r x) {t : Nat} (ht : t < 8) (v : Nat) : ∃ σ', sI σ r (nI t) (nI v) = some σ' ∧ isX σ' r (udN x t v) ∧ fr (fun q => q = r) σ σ' := by
  obtain ⟨f, h1, h2⟩ := h
  obtain ⟨σ', s1, s2, s3⟩ := sI_at h1 (v := nI v) ht (by omega)
  refine ⟨σ', s1, ⟨_, s2, fun q hq => ?_⟩, s3⟩
  by_cases e : q = t
  · subst e; rw [upd_s, udN_s]
  · rw [upd_n e, udN_n e, h2 q hq]
theorem isX.no {x : Nat → Nat} (h : isX σ r x) {q ci : Nat} (ho : isO σ q ci = some ()) : q ≠ r := by
  intro e
  obtain ⟨f, h1, -⟩ := h
  unfold isO at ho
  rw [e, h1] at ho
  cases ho
theorem isX.nv {x : Nat → Nat} (h : isX σ r x) (hv : okV σ va) : va ≠ r := by
  intro e
  obtain ⟨f, h1, -⟩ := h
  obtain ⟨u, h2⟩ := hv
  rw [e, h1] at h2
  have h3 := Option.some.inj h2
  have h4 := congrArg Prod.snd h3
  injection h4 with h5
  injection h5 with h6 h7
  injection h7 with h8
  omega
theorem isX.ev {x : Nat → Nat} (h : isX σ r x) (H : isEnv σ x0 h0 pa va P) (hr : h0 r = none) {σ' : vv_S} (f : fr (fun q => q = r) σ σ') : isEnv σ' x0 h0 pa va P := H.fr f (fun q hq => by rw [show q = r from hq]; exact hr) (h.no (ev_x H)) (h.nv H.ov)
theorem K_rlx (H : isEnv σ x0 h0 pa va P) (hQ : invP P) (hr : h0 r = none) {x : Nat → Nat} (hx : isX σ r x) (hb : ∀ t, x t ≤ 100000) {w q c : Nat} (hw : w < P.1.2.1) (hne : w ≠ bt) (hc : c ≤ 81) (hcE : (wyE P lk bt).2.2.2 w = c) (o : isO σ q 6 = some ()) (g0 : gI σ q 6 0 = some (P.2.1 2 w)) (g1 : gI σ q 6 1 = some (P.2.1 3 w)) (k42 : Nat → Int32 → Int32 → Nat → Int32 → vv_S → Option (Nat × vv_S)) (k54 : Nat → Int32 → Int32 → Nat → Int32 → Int32 → vv_S → Option (Nat × vv_S)) (x2 x3 x5 x6 : Int32) : ∃ σ', KX2_least_2_116 k42 k54 (nI c) pa x2 x3 r x5 x6 q σ = KX2_least_2_178 k42 k54 pa x2 x3 r x5 x6 σ' ∧ isX σ' r (rlx (wyE P lk bt) w x) ∧ isEnv σ' x0 h0 pa va P ∧ fr (fun q => q = r) σ σ' := by
  have h8 := ev_8 H
  obtain ⟨⟨a1, a2⟩, ⟨b1, b2⟩, -⟩ := wy_n hQ h8 hw
  rw [a2] at g0
  rw [b2] at g1
  have hq := hx.no o
  obtain ⟨σ1, s1, y1, f1⟩ := hx.st (t := wN P 3 w) (by omega) (min (x (wN P 3 w)) (x (wN P 2 w) + c))
  have H1 := hx.ev H hr f1
  have e1 := f1.n1 hq
  have bB := hb (wN P 3 w)
  have bA := hb (wN P 2 w)
  have e2 : udN x (wN P 3 w) (min (x (wN P 3 w)) (x (wN P 2 w) + c)) (wN P 2 w) ≤ 100000 := by
    by_cases e : wN P 2 w = wN P 3 w
    · rw [e, udN_s]; omega
    · rw [udN_n e]; exact bA
  have e3 : udN x (wN P 3 w) (min (x (wN P 3 w)) (x (wN P 2 w) + c)) (wN P 3 w) ≤ 100000 := by rw [udN_s]; omega
  obtain ⟨σ2, s2, y2, f2⟩ := y1.st (t := wN P 2 w) (by omega) (min (udN x (wN P 3 w) (min (x (wN P 3 w)) (x (wN P 2 w) + c)) (wN P 2 w)) (udN x (wN P 3 w) (min (x (wN P 3 w)) (x (wN P 2 w) + c)) (wN P 3 w) + c))
  refine ⟨σ2, ?_, ?_, y1.ev H1 hr f2, f1.tr f2⟩
  · unfold KX2_least_2_116
    simp only [g0, g1, hx.rd (show wN P 3 w < 8 by omega), hx.rd (show wN P 2 w < 8 by omega), nI_add, mn_nI (show x (wN P 3 w) < 2 ^ 31 by omega) (show x (wN P 2 w) + c < 2 ^ 31 by omega), s1, gI_eq e1, y1.rd (show wN P 3 w < 8 by omega), y1.rd (show wN P 2 w < 8 by omega), mn_nI (show udN x (wN P 3 w) (min (x (wN P 3 w)) (x (wN P 2 w) + c)) (wN P 2 w) < 2 ^ 31 by omega) (show udN x (wN P 3 w) (min (x (wN P 3 w)) (x (wN P 2 w) + c)) (wN P 3 w) + c < 2 ^ 31 by omega), s2, bdS]
  · have e : rlx (wyE P lk bt) w x = udN (udN x (wN P 3 w) (min (x (wN P 3 w)) (x (wN P 2 w) + c))) (wN P 2 w) (min (udN x (wN P 3 w) (min (x (wN P 3 w)) (x (wN P 2 w) + c)) (wN P 2 w)) (udN x (wN P 3 w) (min (x (wN P 3 w)) (x (wN P 2 w) + c)) (wN P 3 w) + c)) := by
      unfold rlx
      rw [if_neg (show ¬ w = (wyE P lk bt).1.2 from hne), hcE]
      rfl
    rw [e]
    exact y2
theorem K_ways (hQ : invP P) (hr : h0 r = none) {but : Int32} (hbt : ∀ w, w < P.1.2.1 → (nI w = but ↔ w = bt)) (k42 : Nat → Int32 → Int32 → Nat → Int32 → vv_S → Option (Nat × vv_S)) (x5 : Int32) : ∀ (c i n : Nat) (σ : vv_S) (x : Nat → Nat), isEnv σ x0 h0 pa va P → isX σ r x → (∀ t, x t ≤ 100000) → i + c = P.1.2.1 → c < n → ∃ σ', KX2_least_2_54 k42 n pa (if lk = true then nI 1 else nI 0) but r x5 (nI i) σ = k42 pa (if lk = true then nI 1 else nI 0) but r (x5 + nI 1) σ' ∧ isX σ' r (lp (rlx (wyE P lk bt)) c i x) ∧ isEnv σ' x0 h0 pa va P ∧ fr (fun q => q = r) σ σ' := by
  intro c
  induction c with
  | zero =>
    intro i n σ x H hx hb hi hn
    obtain ⟨n, rfl⟩ : ∃ m, n = m + 1 := ⟨n - 1, by omega⟩
    have h12 := ev_12 H
    obtain ⟨lw, l1, l2, l3, l4⟩ := ev_lw H
    refine ⟨σ, ?_, hx, H, fr.rf⟩
    show BKX2_least_2_54 k42 (KX2_least_2_54 k42 n) pa _ but r x5 (nI i) σ = _
    unfold BKX2_least_2_54
    simp only [l1, l2, l3, bdS]
    rw [if_pos (nI_le (by omega) (by omega))]
  | succ c ih =>
    intro i n σ x H hx hb hi hn
    obtain ⟨n, rfl⟩ : ∃ m, n = m + 1 := ⟨n - 1, by omega⟩
    have h12 := ev_12 H
    have h8 := ev_8 H
    obtain ⟨lw, l1, l2, l3, l4⟩ := ev_lw H
    obtain ⟨q, q1, q2, q3, q4, q5, q6, -⟩ := l4 i (by omega)
    obtain ⟨-, -, ⟨c1, c2⟩, ⟨d1, d2⟩⟩ := wy_n hQ h8 (w := i) (by omega)
    show ∃ σ', BKX2_least_2_54 k42 (KX2_least_2_54 k42 n) pa _ but r x5 (nI i) σ = _ ∧ isX σ' r (lp (rlx (wyE P lk bt)) c (i + 1) (rlx (wyE P lk bt) i x)) ∧ _
    unfold BKX2_least_2_54
    simp only [l1, l2, l3, q1, q2, q5, q6, bdS]
    rw [if_neg (nI_ge (show i < P.1.2.1 by omega) (by omega))]
    have hb' : ∀ t, rlx (wyE P lk bt) i x t ≤ 100000 := fun t => Nat.le_trans rlx_le (hb t)
    have go : ∀ σ1, isX σ1 r (rlx (wyE P lk bt) i x) → isEnv σ1 x0 h0 pa va P → fr (fun q => q = r) σ σ1 → ∃ σ', KX2_least_2_178 k42 (KX2_least_2_54 k42 n) pa (if lk = true then nI 1 else nI 0) but r x5 (nI i) σ1 = k42 pa (if lk = true then nI 1 else nI 0) but r (x5 + nI 1) σ' ∧ isX σ' r (lp (rlx (wyE P lk bt)) c (i + 1) (rlx (wyE P lk bt) i x)) ∧ isEnv σ' x0 h0 pa va P ∧ fr (fun q => q = r) σ σ' := by
      intro σ1 y1 H1 f1
      obtain ⟨σ2, s2, y2, H2, f2⟩ := ih (i + 1) n σ1 _ H1 y1 hb' (by omega) (by omega)
      refine ⟨σ2, ?_, y2, H2, f1.tr f2⟩
      unfold KX2_least_2_178
      rw [nI_add]
      exact s2
    by_cases hib : i = bt
    · rw [if_pos ((hbt i (by omega)).mpr hib)]
      have e : rlx (wyE P lk bt) i x = x := by
        unfold rlx
        rw [if_pos (show i = (wyE P lk bt).1.2 from hib)]
      have g := go σ (by rw [e]; exact hx) H fr.rf
      exact g
    · rw [if_neg (fun z => hib ((hbt i (by omega)).mp z))]
      cases lk with
      | false =>
        rw [show (if (false : Bool) = true then nI 1 else nI 0) = nI 0 from rfl, if_pos nI_0, c2]
        obtain ⟨σ1, s1, y1, H1, f1⟩ := K_rlx (lk := false) H hQ hr hx hb (w := i) (c := wN P 4 i) (by omega) hib (by omega) rfl q2 q3 q4 k42 (KX2_least_2_54 k42 n) (nI 0) but x5 (nI i)
        rw [s1]
        exact go σ1 y1 H1 f1
      | true =>
        rw [show (if (true : Bool) = true then nI 1 else nI 0) = nI 1 from rfl, if_neg s1_ne, c2, d2, pk_mul]
        have hm : wN P 4 i * wN P 5 i ≤ 81 := Nat.le_trans (Nat.mul_le_mul c1 d1) (by omega)
        obtain ⟨σ1, s1, y1, H1, f1⟩ := K_rlx (lk := true) H hQ hr hx hb (w := i) (c := wN P 4 i * wN P 5 i) (by omega) hib hm rfl q2 q3 q4 k42 (KX2_least_2_54 k42 n) (nI 1) but x5 (nI i)
        rw [s1]
        exact go σ1 y1 H1 f1
theorem K_rounds (hQ : invP P) (hr : h0 r = none) {but : Int32} (hbt : ∀ w, w < P.1.2.1 → (nI w = but ↔ w = bt)) : ∀ (c i n : Nat) (σ : vv_S) (x : Nat → Nat), isEnv σ x0 h0 pa va P → isX σ r x → (∀ t, x t ≤ 100000) → i + c = P.1.1 → c < n → ∃ σ', KX2_least_2_42 n pa (if lk = true then nI 1 else nI 0) but r (nI i) σ = some (r, σ') ∧ isX σ' r (lp (fun _ x => lp (rlx (wyE P lk bt)) P.1.2.1 0 x) c i x) ∧ isEnv σ' x0 h0 pa va P ∧ fr (fun q => q = r) σ σ' := by
  intro c
  induction c with
  | zero =>
    intro i n σ x H hx hb hi hn
    obtain ⟨n, rfl⟩ : ∃ m, n = m + 1 := ⟨n - 1, by omega⟩
    have h8 := ev_8 H
    refine ⟨σ, ?_, hx, H, fr.rf⟩
    show BKX2_least_2_42 (KX2_least_2_42 n) pa _ but r (nI i) σ = _
    unfold BKX2_least_2_42
    simp only [ev_o H, ev_tw H, bdS]
    rw [if_pos (nI_le (by omega) (by omega))]
  | succ c ih =>
    intro i n σ x H hx hb hi hn
    obtain ⟨n, rfl⟩ : ∃ m, n = m + 1 := ⟨n - 1, by omega⟩
    have h8 := ev_8 H
    have h12 := ev_12 H
    obtain ⟨σ1, s1, y1, H1, f1⟩ := K_ways (lk := lk) hQ hr hbt (KX2_least_2_42 n) (nI i) P.1.2.1 0 NN σ x H hx hb (by omega) (by unfold NN; omega)
    obtain ⟨σ2, s2, y2, H2, f2⟩ := ih (i + 1) n σ1 _ H1 y1 (fun t => Nat.le_trans (rlx_ls _ _ x t) (hb t)) (by omega) (by omega)
    refine ⟨σ2, ?_, y2, H2, f1.tr f2⟩
    show BKX2_least_2_42 (KX2_least_2_42 n) pa _ but r (nI i) σ = _
    unfold BKX2_least_2_42
    simp only [ev_o H, ev_tw H, bdS]
    rw [if_neg (nI_ge (show i < P.1.1 by omega) (by omega)), s1, nI_add]
    exact s2
theorem K_begin (x2 but : Int32) {f : Nat} (hf : f < 8) : ∀ (c i n : Nat) (σ : vv_S) (x : Nat → Nat), isX σ r x → (∀ t, t < i → x t = bf0 f t) → i + c = 8 → c < n → ∃ σ', KX2_least_2_9 n pa (nI f) x2 but r (nI i) σ = KX2_least_2_42 NN pa x2 but r (nI 0) σ' ∧ isX σ' r (bf0 f) ∧ fr (fun q => q = r) σ σ' := by
  intro c
  induction c with
  | zero =>
    intro i n σ x hx hb hi hn
    obtain ⟨n, rfl⟩ : ∃ m, n = m + 1 := ⟨n - 1, by omega⟩
    obtain ⟨g, g1, g2⟩ := hx
    refine ⟨σ, ?_, ⟨g, g1, fun t ht => by rw [g2 t ht, hb t (by omega)]⟩, fr.rf⟩
    show BKX2_least_2_9 (KX2_least_2_9 n) pa (nI f) x2 but r (nI i) σ = _
    unfold BKX2_least_2_9
    rw [if_pos (nI_le (by omega) (by omega))]
  | succ c ih =>
    intro i n σ x hx hb hi hn
    obtain ⟨n, rfl⟩ : ∃ m, n = m + 1 := ⟨n - 1, by omega⟩
    obtain ⟨σ1, s1, y1, f1⟩ := hx.st (t := i) (by omega) (bf0 f i)
    obtain ⟨σ2, s2, y2, f2⟩ := ih (i + 1) n σ1 _ y1 (fun t ht => by
      by_cases e : t = i
      · subst e; rw [udN_s]
      · rw [udN_n e, hb t (by omega)]) (by omega) (by omega)
    refine ⟨σ2, ?_, y2, f1.tr f2⟩
    show BKX2_least_2_9 (KX2_least_2_9 n) pa (nI f) x2 but r (nI i) σ = _
    unfold BKX2_least_2_9 KX2_least_2_32
    rw [if_neg (nI_ge (show i < 8 by omega) (by omega)), nI_add]
    unfold bf0 at s1
    by_cases e : i = f
    · rw [if_pos e] at s1
      rw [if_pos (by rw [e]), s1]
      exact s2
    · rw [if_neg e] at s1
      rw [if_neg (nI_nn e (by omega) (by omega)), s1]
      exact s2
theorem nw8 {σ : vv_S} {k : Nat} (hk : k < 100) : ∃ σ1, nwA σ .int (nI k) = some σ1 ∧ σ1.2 = (σ.2.1 + 1, σ.2.2 + k) ∧ σ1.1 σ.2.1 = some (true, .inl (.int, k, .inl (fun _ => 0))) ∧ ∀ q, q ≠ σ.2.1 → σ1.1 q = σ.1 q := by
  refine ⟨(vv_up σ.1 σ.2.1 (true, .inl (.int, k, .inl (fun _ => 0))), σ.2.1 + 1, σ.2.2 + k), ?_, rfl, vv_up_at, fun q hq => up_n hq⟩
  unfold nwA
  rw [if_neg (by rw [nI_clamp (by omega)]; intro h; rcases h with h | h; exact nI_pos (by omega) h; omega), nI_clamp (by omega)]
/-- the least from a town to all -/
theorem K_least2 (Q : isQ x0 h0 pa va ca P R lo σ T) {but : Int32} (hbt : ∀ w, w < P.1.2.1 → (nI w = but ↔ w = bt)) {f : Nat} (hf : f < P.1.1) : ∃ σ', KX2_least_2 pa (nI f) (if lk = true then nI 1 else nI 0) but σ = some (σ.2.1, σ') ∧ isX σ' σ.2.1 (bfx (wyE P lk bt) P.1.1 f) ∧ isEnv σ' x0 h0 pa va P ∧ fa (fun q => q = va) 1 8 σ σ' ∧ σ'.2.1 = σ.2.1 + 1 := by
  have h8 := ev_8 Q.1
  obtain ⟨σ1, s1, z1, n1, k1⟩ := nw8 (σ := σ) (k := 8) (by omega)
  have H1 := Q.1.up Q.dm Q.lt.1 Q.lt.2.1 (fun q hq => k1 q (by omega))
  have hr : h0 σ.2.1 = none := Q.dm _ (Nat.le_refl _)
  have y1 : isX σ1 σ.2.1 (fun _ => 0) := ⟨_, n1, fun _ _ => rfl⟩
  obtain ⟨σ2, s2, y2, f2⟩ := K_begin (pa := pa) (if lk = true then nI 1 else nI 0) but (f := f) (by omega) 8 0 NN σ1 _ y1 (fun t ht => by omega) (by omega) (by unfold NN; omega)
  have H2 := y1.ev H1 hr f2
  obtain ⟨σ3, s3, y3, H3, f3⟩ := K_rounds (lk := lk) Q.cx.2 hr hbt P.1.1 0 NN σ2 _ H2 y2 (fun t => by unfold bf0; split <;> omega) (by omega) (by unfold NN; omega)
  refine ⟨σ3, ?_, y3, H3, ⟨?_, fun q hq _ => ?_⟩, ?_⟩
  · unfold KX2_least_2
    simp only [s1, bdS, s2, s3]
  · rw [f3.1, f2.1, z1]
    exact ⟨Nat.le_add_right _ _, Nat.le_refl _, Nat.le_add_right _ _, Nat.le_refl _⟩
  · rw [f3.n1 (by omega), f2.n1 (by omega), k1 q (by omega)]
  · rw [f3.1, f2.1, z1]
theorem m1_99 (hQ : isEnv σ x0 h0 pa va P) : ∀ w, w < P.1.2.1 → (nI w = -1 ↔ w = 99) := fun w hw => by
  have := ev_12 hQ
  exact ⟨fun e => absurd e (nI_m1 (by omega)), fun e => by omega⟩
theorem K_least (Q : isQ x0 h0 pa va ca P R lo σ T) {f : Nat} (hf : f < P.1.1) : ∃ σ', KX2_least pa (nI f) (if lk = true then nI 1 else nI 0) σ = some (σ.2.1, σ') ∧ isX σ' σ.2.1 (bfx (wyE P lk 99) P.1.1 f) ∧ isEnv σ' x0 h0 pa va P ∧ fa (fun q => q = va) 1 8 σ σ' ∧ σ'.2.1 = σ.2.1 + 1 := by
  obtain ⟨σ1, s1, h⟩ := K_least2 (lk := lk) Q (m1_99 Q.1) hf
  refine ⟨σ1, ?_, h⟩
  unfold KX2_least
  simp only [ev_o Q.1, s1, bdS]
/-! the twin's -/
def isD (T : tw_T) (D D' : Nat → Nat → Nat) : Prop := ∀ a b, a < 8 → b < 8 → T.2.2 24 (8 * a + b) = nI (D a b) ∧ T.2.2 25 (8 * a + b) = nI (D' a b)
def jm (T T' : tw_T) : Prop := T'.1 = T.1 ∧ ∀ r, r ≠ 24 → r ≠ 25 → T'.2.2 r = T.2.2 r
theorem jm.rf {T : tw_T} : jm T T := ⟨rfl, fun _ _ _ => rfl⟩
theorem jm.tr {T T1 T2 : tw_T} (h1 : jm T T1) (h2 : jm T1 T2) : jm T T2 := ⟨h2.1.trans h1.1, fun r a b => (h2.2 r a b).trans (h1.2 r a b)⟩
theorem jm.jq {T T' : tw_T} (h : jm T T') : jq T T' := ⟨fun k _ => congrFun h.1 k, fun r hr => h.2 r (by omega) (by omega), fun q _ => by rw [h.2 20 (by omega) (by omega)]⟩
theorem jm.a24 {T : tw_T} {f : Nat → Int32} : jm T (tw_A T 24 f) := ⟨rfl, fun _ h _ => A_n h⟩
theorem jm.a25 {T : tw_T} {f : Nat → Int32} : jm T (tw_A T 25 f) := ⟨rfl, fun _ _ h => A_n h⟩
theorem isTp.jm {T T' : tw_T} (h : isTp T P) (f : jm T T') : isTp T' P := h.jq f.jq
theorem d_rd {D D' : Nat → Nat → Nat} (h : isD T D D') {a b : Nat} (ha : a < 8) (hb : b < 8) : rdI 64 (T.2.2 24) (nI (8 * a + b)) = some (nI (D a b)) ∧ rdI 64 (T.2.2 25) (nI (8 * a + b)) = some (nI (D' a b)) := by
  obtain ⟨h1, h2⟩ := h a b ha hb
  rw [nI_rd (by omega) (by omega), nI_rd (by omega) (by omega), h1, h2]
  exact ⟨rfl, rfl⟩
theorem d_s24 {D D' : Nat → Nat → Nat} (h : isD T D D') {a b : Nat} (ha : a < 8) (hb : b < 8) (v : Nat) : ∃ T', stA T 24 64 (nI (8 * a + b)) (nI v) = some T' ∧ isD T' (ud2 D a b v) D' ∧ jm T T' := by
  refine ⟨_, nI_st (by omega) (by omega), fun i j hi hj => ⟨?_, ?_⟩, jm.a24⟩
  · rw [A_s]
    by_cases e : i = a ∧ j = b
    · obtain ⟨rfl, rfl⟩ := e; rw [upd_s, ud2_s]
    · rw [upd_n (by omega), ud2_n e]; exact (h i j hi hj).1
  · rw [A_n (by decide)]; exact (h i j hi hj).2
theorem d_s25 {D D' : Nat → Nat → Nat} (h : isD T D D') {a b : Nat} (ha : a < 8) (hb : b < 8) (v : Nat) : ∃ T', stA T 25 64 (nI (8 * a + b)) (nI v) = some T' ∧ isD T' D (ud2 D' a b v) ∧ jm T T' := by
  refine ⟨_, nI_st (by omega) (by omega), fun i j hi hj => ⟨?_, ?_⟩, jm.a25⟩
  · rw [A_n (by decide)]; exact (h i j hi hj).1
  · rw [A_s]
    by_cases e : i = a ∧ j = b
    · obtain ⟨rfl, rfl⟩ := e; rw [upd_s, ud2_s]
    · rw [upd_n (by omega), ud2_n e]; exact (h i j hi hj).2
theorem rm_n {a d : Nat} (ha : a < 2 ^ 31) (h0 : 0 < d) (hd : d < 2 ^ 31) : rmI (nI a) (nI d) = some (nI (a % d)) := by
  unfold rmI
  rw [if_neg (nI_ne0 h0 hd), pk_rem ha h0 hd]
theorem J_mbeg (but : Int32) : ∀ (c i n : Nat) (T : tw_T), (∀ q, q < i → T.2.2 24 q = nI (fw0 (q / 8) (q % 8)) ∧ T.2.2 25 q = nI (fw0 (q / 8) (q % 8))) → i + c = 64 → c < n → ∃ T', J_measures_2 n but (nI i) T = J_measures_52 NN but (nI 0) T' ∧ isD T' fw0 fw0 ∧ jm T T' := by
  intro c
  induction c with
  | zero =>
    intro i n T h hi hn
    obtain ⟨n, rfl⟩ : ∃ m, n = m + 1 := ⟨n - 1, by omega⟩
    refine ⟨T, ?_, fun a b ha hb => ?_, jm.rf⟩
    · show B_measures_2 (J_measures_2 n) but (nI i) T = _
      unfold B_measures_2
      rw [if_pos (nI_le (by omega) (by omega))]
    · have h1 := h (8 * a + b) (by omega)
      rw [show (8 * a + b) / 8 = a by omega, show (8 * a + b) % 8 = b by omega] at h1
      exact h1
  | succ c ih =>
    intro i n T h hi hn
    obtain ⟨n, rfl⟩ : ∃ m, n = m + 1 := ⟨n - 1, by omega⟩
    have go : ∀ v, v = fw0 (i / 8) (i % 8) → ∃ T', J_measures_31 (J_measures_2 n) (nI i) (nI v) but (nI i) T = J_measures_52 NN but (nI 0) T' ∧ isD T' fw0 fw0 ∧ jm T T' := by
      intro v hv
      have f1 : jm T (tw_A T 24 (upd (T.2.2 24) i (nI v))) := jm.a24
      have e1 : rdI 64 ((tw_A T 24 (upd (T.2.2 24) i (nI v))).2.2 24) (nI i) = some (nI v) := by rw [nI_rd (by omega) (by omega), A_s, upd_s]
      obtain ⟨T', s1, s2, s3⟩ := ih (i + 1) n (tw_A (tw_A T 24 (upd (T.2.2 24) i (nI v))) 25 (upd ((tw_A T 24 (upd (T.2.2 24) i (nI v))).2.2 25) i (nI v))) (fun q hq => by
        rw [A_s, A_n (by decide), A_s, A_n (by decide)]
        by_cases e : q = i
        · subst e; rw [upd_s, upd_s, hv]; exact ⟨rfl, rfl⟩
        · rw [upd_n e, upd_n e]; exact h q (by omega)) (by omega) (by omega)
      refine ⟨T', ?_, s2, (f1.tr jm.a25).tr s3⟩
      unfold J_measures_31
      rw [nI_st (show i < 64 by omega) (by omega)]
      simp only [bdS, e1]
      rw [nI_st (show i < 64 by omega) (by omega)]
      simp only [bdS]
      rw [nI_add]
      exact s1
    show ∃ T', B_measures_2 (J_measures_2 n) but (nI i) T = _ ∧ _
    unfold B_measures_2
    rw [if_neg (nI_ge (show i < 64 by omega) (by omega)), dv_n (by omega) (by omega), pk_div (by omega) (by omega) (by omega), rm_n (by omega) (by omega) (by omega)]
    simp only [bdS]
    by_cases e : i / 8 = i % 8
    · rw [if_pos (by rw [e])]
      exact go 0 (by unfold fw0; rw [if_pos e])
    · rw [if_neg (nI_nn e (by omega) (by omega))]
      exact go 99999 (by unfold fw0; rw [if_neg e])
theorem J_mway (hQ : invP P) (h8 : P.1.1 ≤ 8) (h12 : P.1.2.1 ≤ 12) {but : Int32} (hbt : ∀ w, w < P.1.2.1 → (nI w = but ↔ w = bt)) : ∀ (c i n : Nat) (T : tw_T) (D D' : Nat → Nat → Nat), isD T D D' → isTp T P → i + c = P.1.2.1 → c < n → ∃ T', J_measures_52 n but (nI i) T = J_measures_168 NN (nI 0) T' ∧ isD T' (lp (fwE (wyE P false bt)) c i D) (lp (fwE (wyE P true bt)) c i D') ∧ jm T T' := by
  intro c
  induction c with
  | zero =>
    intro i n T D D' h hP hi hn
    obtain ⟨n, rfl⟩ : ∃ m, n = m + 1 := ⟨n - 1, by omega⟩
    refine ⟨T, ?_, h, jm.rf⟩
    show B_measures_52 (J_measures_52 n) but (nI i) T = _
    unfold B_measures_52
    rw [hP.2.1, if_pos (nI_le (by omega) (by omega))]
  | succ c ih =>
    intro i n T D D' h hP hi hn
    obtain ⟨n, rfl⟩ : ∃ m, n = m + 1 := ⟨n - 1, by omega⟩
    obtain ⟨⟨a1, a2⟩, ⟨b1, b2⟩, ⟨c1, c2⟩, ⟨d1, d2⟩⟩ := wy_n hQ h8 (w := i) (by omega)
    show ∃ T', B_measures_52 (J_measures_52 n) but (nI i) T = _ ∧ isD T' (lp (fwE (wyE P false bt)) c (i + 1) (fwE (wyE P false bt) i D)) (lp (fwE (wyE P true bt)) c (i + 1) (fwE (wyE P true bt) i D')) ∧ _
    unfold B_measures_52 J_measures_160
    rw [hP.2.1, if_neg (nI_ge (show i < P.1.2.1 by omega) (by omega)), nI_add]
    by_cases hib : i = bt
    · rw [if_pos ((hbt i (by omega)).mpr hib)]
      have e0 : ∀ (lk : Bool) (D : Nat → Nat → Nat), fwE (wyE P lk bt) i D = D := fun lk D => by
        unfold fwE
        rw [if_pos (show i = (wyE P lk bt).1.2 from hib)]
      rw [e0, e0]
      exact ih (i + 1) n T D D' h hP (by omega) (by omega)
    · rw [if_neg (fun z => hib ((hbt i (by omega)).mp z))]
      have rw3 : ∀ {T1 : tw_T}, isTp T1 P → rdI 12 (T1.2.2 3) (nI i) = some (nI (wN P 2 i)) ∧ rdI 12 (T1.2.2 4) (nI i) = some (nI (wN P 3 i)) ∧ rdI 12 (T1.2.2 5) (nI i) = some (nI (wN P 4 i)) ∧ rdI 12 (T1.2.2 6) (nI i) = some (nI (wN P 5 i)) := by
        intro T1 hP1
        obtain ⟨w1, w2, w3, w4⟩ := hP1.2.2.2.2.1 i (by omega)
        rw [nI_rd (by omega) (by omega), nI_rd (by omega) (by omega), nI_rd (by omega) (by omega), nI_rd (by omega) (by omega), w1, w2, w3, w4]
        exact ⟨congrArg some a2, congrArg some b2, congrArg some c2, congrArg some d2⟩
      obtain ⟨r1, r2, r3, r4⟩ := rw3 hP
      obtain ⟨T1, s1, h1, f1⟩ := d_s24 h (a := wN P 2 i) (b := wN P 3 i) (by omega) (by omega) (wN P 4 i)
      have p1 := hP.jm f1
      obtain ⟨-, -, r5, -⟩ := rw3 p1
      obtain ⟨T2, s2, h2, f2⟩ := d_s24 h1 (a := wN P 3 i) (b := wN P 2 i) (by omega) (by omega) (wN P 4 i)
      have p2 := p1.jm f2
      obtain ⟨-, -, r6, r7⟩ := rw3 p2
      obtain ⟨T3, s3, h3, f3⟩ := d_s25 h2 (a := wN P 2 i) (b := wN P 3 i) (by omega) (by omega) (wN P 4 i * wN P 5 i)
      have p3 := p2.jm f3
      have r8 := (d_rd h3 (a := wN P 2 i) (b := wN P 3 i) (by omega) (by omega)).2
      rw [ud2_s] at r8
      obtain ⟨T4, s4, h4, f4⟩ := d_s25 h3 (a := wN P 3 i) (b := wN P 2 i) (by omega) (by omega) (wN P 4 i * wN P 5 i)
      have p4 := p3.jm f4
      have e0 : fwE (wyE P false bt) i D = ud2 (ud2 D (wN P 2 i) (wN P 3 i) (wN P 4 i)) (wN P 3 i) (wN P 2 i) (wN P 4 i) := by
        unfold fwE
        rw [if_neg (show ¬ i = (wyE P false bt).1.2 from hib)]
        rfl
      have e1 : fwE (wyE P true bt) i D' = ud2 (ud2 D' (wN P 2 i) (wN P 3 i) (wN P 4 i * wN P 5 i)) (wN P 3 i) (wN P 2 i) (wN P 4 i * wN P 5 i) := by
        unfold fwE
        rw [if_neg (show ¬ i = (wyE P true bt).1.2 from hib)]
        rfl
      rw [← e0] at h4
      rw [← e1] at h4
      obtain ⟨T5, s5, h5, f5⟩ := ih (i + 1) n T4 _ _ h4 p4 (by omega) (by omega)
      refine ⟨T5, ?_, h5, (((f1.tr f2).tr f3).tr f4).tr f5⟩
      simp only [r1, r2, r3, pk_mul, nI_add, s1, r5, s2, r6, r7, s3, r8, s4, bdS]
      exact s5
theorem J_m189 (h8 : P.1.1 ≤ 8) (k168 : Int32 → tw_T → Option tw_T) (k178 : Int32 → Int32 → tw_T → Option tw_T) {m a : Nat} (hm : m < 8) (ha : a < 8) : ∀ (c k n : Nat) (T : tw_T) (D D' : Nat → Nat → Nat), isD T D D' → isTp T P → (∀ i j, D i j ≤ 99999) → (∀ i j, D' i j ≤ 99999) → k + c = P.1.1 → c < n → ∃ T', J_measures_189 k168 k178 n (nI m) (nI a) (nI k) T = k178 (nI m) (nI (a + 1)) T' ∧ isD T' (lp (fwB m a) c k D) (lp (fwB m a) c k D') ∧ jm T T' := by
  intro c
  induction c with
  | zero =>
    intro k n T D D' h hP hD hD' hi hn
    obtain ⟨n, rfl⟩ : ∃ m, n = m + 1 := ⟨n - 1, by omega⟩
    refine ⟨T, ?_, h, jm.rf⟩
    show B_measures_189 k168 k178 (J_measures_189 k168 k178 n) (nI m) (nI a) (nI k) T = _
    unfold B_measures_189
    rw [hP.1, if_pos (nI_le (by omega) (by omega)), nI_add]
  | succ c ih =>
    intro k n T D D' h hP hD hD' hi hn
    obtain ⟨n, rfl⟩ : ∃ m, n = m + 1 := ⟨n - 1, by omega⟩
    obtain ⟨r1, r2⟩ := d_rd h (a := a) (b := k) ha (by omega)
    obtain ⟨r3, r4⟩ := d_rd h (a := a) (b := m) ha hm
    obtain ⟨r5, r6⟩ := d_rd h (a := m) (b := k) hm (by omega)
    have b1 := hD a k
    have b2 := hD a m
    have b3 := hD m k
    have b4 := hD' a k
    have b5 := hD' a m
    have b6 := hD' m k
    obtain ⟨T1, s1, h1, f1⟩ := d_s24 h (a := a) (b := k) ha (by omega) (min (D a k) (D a m + D m k))
    obtain ⟨-, q2⟩ := d_rd h1 (a := a) (b := k) ha (by omega)
    obtain ⟨-, q4⟩ := d_rd h1 (a := a) (b := m) ha hm
    obtain ⟨-, q6⟩ := d_rd h1 (a := m) (b := k) hm (by omega)
    obtain ⟨T2, s2, h2, f2⟩ := d_s25 h1 (a := a) (b := k) ha (by omega) (min (D' a k) (D' a m + D' m k))
    obtain ⟨T3, s3, h3, f3⟩ := ih (k + 1) n T2 (fwB m a k D) (fwB m a k D') h2 ((hP.jm f1).jm f2) (fun i j => Nat.le_trans fwB_le (hD i j)) (fun i j => Nat.le_trans fwB_le (hD' i j)) (by omega) (by omega)
    refine ⟨T3, ?_, h3, (f1.tr f2).tr f3⟩
    show B_measures_189 k168 k178 (J_measures_189 k168 k178 n) (nI m) (nI a) (nI k) T = _
    unfold B_measures_189
    rw [hP.1, if_neg (nI_ge (show k < P.1.1 by omega) (by omega))]
    simp only [pk_mul, nI_add, r1, r3, r5, J_lesser_e, mn_nI (show D a k < 2 ^ 31 by omega) (show D a m + D m k < 2 ^ 31 by omega), s1, q2, q4, q6, mn_nI (show D' a k < 2 ^ 31 by omega) (show D' a m + D' m k < 2 ^ 31 by omega), s2, bdS]
    exact s3
theorem J_m178 (h8 : P.1.1 ≤ 8) (k168 : Int32 → tw_T → Option tw_T) {m : Nat} (hm : m < 8) : ∀ (c k n : Nat) (T : tw_T) (D D' : Nat → Nat → Nat), isD T D D' → isTp T P → (∀ i j, D i j ≤ 99999) → (∀ i j, D' i j ≤ 99999) → k + c = P.1.1 → c < n → ∃ T', J_measures_178 k168 n (nI m) (nI k) T = k168 (nI (m + 1)) T' ∧ isD T' (lp (fwA P.1.1 m) c k D) (lp (fwA P.1.1 m) c k D') ∧ jm T T' := by
  intro c
  induction c with
  | zero =>
    intro k n T D D' h hP hD hD' hi hn
    obtain ⟨n, rfl⟩ : ∃ m, n = m + 1 := ⟨n - 1, by omega⟩
    refine ⟨T, ?_, h, jm.rf⟩
    show B_measures_178 k168 (J_measures_178 k168 n) (nI m) (nI k) T = _
    unfold B_measures_178
    rw [hP.1, if_pos (nI_le (by omega) (by omega)), nI_add]
  | succ c ih =>
    intro k n T D D' h hP hD hD' hi hn
    obtain ⟨n, rfl⟩ : ∃ m, n = m + 1 := ⟨n - 1, by omega⟩
    obtain ⟨T1, s1, h1, f1⟩ := J_m189 h8 k168 (J_measures_178 k168 n) hm (a := k) (by omega) P.1.1 0 NN T D D' h hP hD hD' (by omega) (by unfold NN; omega)
    obtain ⟨T3, s3, h3, f3⟩ := ih (k + 1) n T1 (fwA P.1.1 m k D) (fwA P.1.1 m k D') h1 (hP.jm f1) (fun i j => Nat.le_trans fwA_le (hD i j)) (fun i j => Nat.le_trans fwA_le (hD' i j)) (by omega) (by omega)
    refine ⟨T3, ?_, h3, f1.tr f3⟩
    show B_measures_178 k168 (J_measures_178 k168 n) (nI m) (nI k) T = _
    unfold B_measures_178
    rw [hP.1, if_neg (nI_ge (show k < P.1.1 by omega) (by omega)), s1]
    exact s3
theorem J_m168 (h8 : P.1.1 ≤ 8) : ∀ (c k n : Nat) (T : tw_T) (D D' : Nat → Nat → Nat), isD T D D' → isTp T P → (∀ i j, D i j ≤ 99999) → (∀ i j, D' i j ≤ 99999) → k + c = P.1.1 → c < n → ∃ T', J_measures_168 n (nI k) T = some T' ∧ isD T' (lp (fwM P.1.1) c k D) (lp (fwM P.1.1) c k D') ∧ jm T T' := by
  intro c
  induction c with
  | zero =>
    intro k n T D D' h hP hD hD' hi hn
    obtain ⟨n, rfl⟩ : ∃ m, n = m + 1 := ⟨n - 1, by omega⟩
    refine ⟨T, ?_, h, jm.rf⟩
    show B_measures_168 (J_measures_168 n) (nI k) T = _
    unfold B_measures_168
    rw [hP.1, if_pos (nI_le (by omega) (by omega))]
  | succ c ih =>
    intro k n T D D' h hP hD hD' hi hn
    obtain ⟨n, rfl⟩ : ∃ m, n = m + 1 := ⟨n - 1, by omega⟩
    obtain ⟨T1, s1, h1, f1⟩ := J_m178 h8 (J_measures_168 n) (m := k) (by omega) P.1.1 0 NN T D D' h hP hD hD' (by omega) (by unfold NN; omega)
    obtain ⟨T3, s3, h3, f3⟩ := ih (k + 1) n T1 (fwM P.1.1 k D) (fwM P.1.1 k D') h1 (hP.jm f1) (fun i j => Nat.le_trans (fwAs_le P.1.1 0 D) (hD i j)) (fun i j => Nat.le_trans (fwAs_le P.1.1 0 D') (hD' i j)) (by omega) (by omega)
    refine ⟨T3, ?_, h3, f1.tr f3⟩
    show B_measures_168 (J_measures_168 n) (nI k) T = _
    unfold B_measures_168
    rw [hP.1, if_neg (nI_ge (show k < P.1.1 by omega) (by omega)), s1]
    exact s3
theorem J_measures_e (hP : isTp T P) (hQ : invP P) (hW : wyP P) (h8 : P.1.1 ≤ 8) (h12 : P.1.2.1 ≤ 12) {but : Int32} (hbt : ∀ w, w < P.1.2.1 → (nI w = but ↔ w = bt)) : ∃ T', J_measures but T = some T' ∧ isD T' (fwx (wyE P false bt) P.1.1) (fwx (wyE P true bt) P.1.1) ∧ jm T T' := by
  have hD : ∀ (lk : Bool) i j, lp (fwE (wyE P lk bt)) P.1.2.1 0 fw0 i j ≤ 99999 := fun lk i j => by
    have h1 : fwS (wyE P lk bt) (lp (fwE (wyE P lk bt)) P.1.2.1 0 fw0) := lp_inv (p := fwS (wyE P lk bt)) _ _ _ fw_s0 fun w _ h2 D hD => fw_sE (wy_ok hQ h8 hW) (by show w < P.1.2.1; omega) hD
    rcases h1 i j with h2 | ⟨h2, -⟩ <;> omega
  obtain ⟨T1, s1, h1, f1⟩ := J_mbeg but 64 0 NN T (fun q hq => by omega) (by omega) (by unfold NN; omega)
  obtain ⟨T2, s2, h2, f2⟩ := J_mway hQ h8 h12 hbt P.1.2.1 0 NN T1 _ _ h1 (hP.jm f1) (by omega) (by unfold NN; omega)
  obtain ⟨T3, s3, h3, f3⟩ := J_m168 h8 P.1.1 0 NN T2 _ _ h2 ((hP.jm f1).jm f2) (hD false) (hD true) (by omega) (by unfold NN; omega)
  exact ⟨T3, s1.trans (s2.trans s3), h3, (f1.tr f2).tr f3⟩
end WY
