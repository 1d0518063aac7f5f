/-! the plain law: frozen heaps, lists, provinces, what a Coast's methods do -/
set_option maxRecDepth 100000
def sub (h h' : Nat → Option vv_E) : Prop := ∀ q e, h q = some e → h' q = some e
theorem sub.fr {h : Nat → Option vv_E} {S : Nat → Prop} {σ σ' : vv_S} (hs : sub h σ.1) (hf : fr S σ σ') (hS : ∀ q, S q → h q = none) : sub h σ'.1 := by
  intro q e he
  rw [hf.2 q (fun hq => by rw [hS q hq] at he; cases he)]
  exact hs q e he
def isLi (h : Nat → Option vv_E) (l n : Nat) (g : Nat → Nat) : Prop := ∃ (f1 f2 : Bool) (mc : Int32) (e cap : Nat) (gg : Nat → Option Nat), h l = some (f1, .inr (11, [.int mc, .ref e, .int (nI n)])) ∧ h e = some (f2, .inl (.object "java/lang/Object", cap, .inr (.inr (.inr (.inr gg))))) ∧ n ≤ cap ∧ cap < 1048576 ∧ ∀ i, i < n → gg i = some (g i)
theorem isLi.up {h h' : Nat → Option vv_E} {l n : Nat} {g : Nat → Nat} (H : isLi h l n g) (hs : sub h h') : isLi h' l n g := by
  obtain ⟨f1, f2, mc, e, cap, gg, h1, h2, h3⟩ := H
  exact ⟨f1, f2, mc, e, cap, gg, hs _ _ h1, hs _ _ h2, h3⟩
section LI
variable {σ : vv_S} {l n : Nat} {g : Nat → Nat}
theorem li_o (H : isLi σ.1 l n g) : isO σ l 11 = some () := by
  obtain ⟨f1, f2, mc, e, cap, gg, h1, -⟩ := H
  unfold isO
  rw [h1]
  rfl
theorem li_size (H : isLi σ.1 l n g) : KJ2_size l σ = some (nI n) := by
  obtain ⟨f1, f2, mc, e, cap, gg, h1, -⟩ := H
  unfold KJ2_size gI gV
  rw [h1]
  rfl
theorem li_get (H : isLi σ.1 l n g) {i : Nat} (hi : i < n) : KJ2_get l (nI i) σ = some (g i) := by
  obtain ⟨f1, f2, mc, e, cap, gg, h1, h2, h3, h4, h5⟩ := id H
  have hg : gI σ l 11 2 = some (nI n) := by unfold gI gV; rw [h1]; rfl
  have hr : gR σ l 11 1 = some e := by unfold gR gV; rw [h1]; rfl
  have hq : aQ σ e (nI i) = some (g i) := by
    unfold aQ
    rw [h2]
    show (if (FieldType.object "java/lang/Object").isReference = true ∧ ¬ ((nI i) < 0 ∨ cap ≤ (nI i).toNatClampNeg) then gg (nI i).toNatClampNeg else none) = _
    rw [if_pos ⟨rfl, nI_in (by omega) (by omega)⟩, nI_clamp (by omega), h5 i hi]
  unfold KJ2_get KJ2_elementData KJ17_checkIndex KJ11_checkIndex
  simp only [hg, hr, li_o H, hq, Option.bind_some, if_neg (nI_pos (show i < 2 ^ 31 by omega)), if_pos (nI_lt hi (show n < 2 ^ 31 by omega))]
end LI
def isIn (h : Nat → Option vv_E) (q : Nat) (v : Int32) : Prop := ∃ f : Bool, h q = some (f, .inr (12, [.int v]))
theorem in_o {σ : vv_S} {q : Nat} {v : Int32} (H : isIn σ.1 q v) : isO σ q 12 = some () := by
  obtain ⟨f, h1⟩ := H
  unfold isO
  rw [h1]
  rfl
theorem in_v {σ : vv_S} {q : Nat} {v : Int32} (H : isIn σ.1 q v) : KJ14_intValue q σ = some v := by
  obtain ⟨f, h1⟩ := H
  unfold KJ14_intValue gI gV
  rw [h1]
  rfl
/-- a province: towns, ways, crates; makes, stakes, ways' a b days leak; odds -/
abbrev pvT : Type := (Nat × Nat × Nat) × (Nat → Nat → Int32) × Option ((Nat → Int32) → Int32)
def isFm (h : Nat → Option vv_E) (f : Nat) (ev : (Nat → Int32) → Int32) : Prop := ∀ σ : vv_S, sub h σ.1 → ∀ (vs : Nat) (b : Bool) (u : Nat → Int32), σ.1 vs = some (b, .inl (.int, 6, .inl u)) → KX_fo 80 f vs σ = some (ev u)
def isPv (h : Nat → Option vv_E) (pa : Nat) (P : pvT) : Prop := (P.1.1 ≤ 8 ∧ P.1.2.1 ≤ 12 ∧ P.1.2.2 ≤ 10) ∧ ∃ (fl : Bool) (lm ls lw : Nat) (gm gs gw : Nat → Nat) (od : Value), h pa = some (fl, .inr (1, [.ref lm, .ref ls, .ref lw, .int (nI P.1.2.2), od])) ∧
  isLi h lm P.1.1 gm ∧ (∀ t, t < P.1.1 → isIn h (gm t) (P.2.1 0 t)) ∧ isLi h ls P.1.1 gs ∧ (∀ t, t < P.1.1 → isIn h (gs t) (P.2.1 1 t)) ∧
  isLi h lw P.1.2.1 gw ∧ (∀ w, w < P.1.2.1 → ∃ f : Bool, h (gw w) = some (f, .inr (6, [.int (P.2.1 2 w), .int (P.2.1 3 w), .int (P.2.1 4 w), .int (P.2.1 5 w)]))) ∧
  match P.2.2 with
  | none => od = .null
  | some ev => ∃ fa, od = .ref fa ∧ isFm h fa ev
/-- the province, the row of values -/
def isEnv (σ : vv_S) (x0 : Nat) (h0 : Nat → Option vv_E) (pa va : Nat) (P : pvT) : Prop := sub h0 σ.1 ∧ isPv h0 pa P ∧ isO σ x0 0 = some () ∧ gR σ x0 0 1 = some pa ∧ gR σ x0 0 0 = some va ∧ h0 va = none ∧ ∃ u, σ.1 va = some (true, .inl (.int, 6, .inl u))
theorem gV_eq {σ σ' : vv_S} {a ci k : Nat} (h : σ'.1 a = σ.1 a) : gV σ' a ci k = gV σ a ci k := by unfold gV; rw [h]
theorem gR_eq {σ σ' : vv_S} {a ci k : Nat} (h : σ'.1 a = σ.1 a) : gR σ' a ci k = gR σ a ci k := by unfold gR; rw [gV_eq h]
theorem gI_eq {σ σ' : vv_S} {a ci k : Nat} (h : σ'.1 a = σ.1 a) : gI σ' a ci k = gI σ a ci k := by unfold gI; rw [gV_eq h]
theorem isO_eq {σ σ' : vv_S} {a ci : Nat} (h : σ'.1 a = σ.1 a) : isO σ' a ci = isO σ a ci := by unfold isO; rw [h]
theorem isEnv.fr {σ σ' : vv_S} {x0 pa va : Nat} {h0 : Nat → Option vv_E} {P : pvT} {S : Nat → Prop} (H : isEnv σ x0 h0 pa va P) (hf : fr S σ σ') (hS : ∀ q, S q → h0 q = none) (hx : ¬ S x0) (hv : ¬ S va) : isEnv σ' x0 h0 pa va P := by
  obtain ⟨h1, h2, h3, h4, h5, h6, h7⟩ := H
  have e := hf.2 _ hx
  exact ⟨h1.fr hf hS, h2, (isO_eq e).trans h3, (gR_eq e).trans h4, (gR_eq e).trans h5, h6, by rw [hf.2 _ hv]; exact h7⟩
section ENV
variable {σ : vv_S} {x0 pa va : Nat} {h0 : Nat → Option vv_E} {P : pvT}
theorem ev_8 (H : isEnv σ x0 h0 pa va P) : P.1.1 ≤ 8 := H.2.1.1.1
theorem ev_12 (H : isEnv σ x0 h0 pa va P) : P.1.2.1 ≤ 12 := H.2.1.1.2.1
theorem ev_10 (H : isEnv σ x0 h0 pa va P) : P.1.2.2 ≤ 10 := H.2.1.1.2.2
theorem ev_cr (H : isEnv σ x0 h0 pa va P) : gI σ pa 1 3 = some (nI P.1.2.2) := by
  obtain ⟨hs, ⟨-, fl, lm, ls, lw, gm, gs, gw, od, h1, -⟩, -⟩ := H
  unfold gI gV
  rw [hs _ _ h1]
  rfl
theorem ev_o (H : isEnv σ x0 h0 pa va P) : isO σ pa 1 = some () := by
  obtain ⟨hs, ⟨-, fl, lm, ls, lw, gm, gs, gw, od, h1, -⟩, -⟩ := H
  unfold isO
  rw [hs _ _ h1]
  rfl
theorem ev_tw (H : isEnv σ x0 h0 pa va P) : KX2_towns pa σ = some (nI P.1.1) := by
  obtain ⟨hs, ⟨-, fl, lm, ls, lw, gm, gs, gw, od, h1, h2, -⟩, -⟩ := H
  have hr : gR σ pa 1 0 = some lm := by unfold gR gV; rw [hs _ _ h1]; rfl
  unfold KX2_towns
  simp only [hr, li_o (h2.up hs), li_size (h2.up hs), Option.bind_some]
theorem ev_mk (H : isEnv σ x0 h0 pa va P) {t : Nat} (ht : t < P.1.1) : ∃ lm q, gR σ pa 1 0 = some lm ∧ isO σ lm 11 = some () ∧ KJ2_get lm (nI t) σ = some q ∧ isO σ q 12 = some () ∧ KJ14_intValue q σ = some (P.2.1 0 t) := by
  obtain ⟨hs, ⟨-, fl, lm, ls, lw, gm, gs, gw, od, h1, h2, h3, -⟩, -⟩ := H
  obtain ⟨f, h9⟩ := h3 t ht
  exact ⟨lm, gm t, by unfold gR gV; rw [hs _ _ h1]; rfl, li_o (h2.up hs), li_get (h2.up hs) ht, in_o ⟨f, hs _ _ h9⟩, in_v ⟨f, hs _ _ h9⟩⟩
theorem ev_st (H : isEnv σ x0 h0 pa va P) {t : Nat} (ht : t < P.1.1) : ∃ ls q, gR σ pa 1 1 = some ls ∧ isO σ ls 11 = some () ∧ KJ2_get ls (nI t) σ = some q ∧ isO σ q 12 = some () ∧ KJ14_intValue q σ = some (P.2.1 1 t) := by
  obtain ⟨hs, ⟨-, fl, lm, ls, lw, gm, gs, gw, od, h1, -, -, h2, h3, -⟩, -⟩ := H
  obtain ⟨f, h9⟩ := h3 t ht
  exact ⟨ls, gs t, by unfold gR gV; rw [hs _ _ h1]; rfl, li_o (h2.up hs), li_get (h2.up hs) ht, in_o ⟨f, hs _ _ h9⟩, in_v ⟨f, hs _ _ h9⟩⟩
end ENV
/-! rows: what the methods do -/
abbrev liesR (R : Nat → Int32) (k : Nat) : Prop := R (55 + k) ≠ -1 ∧ R (65 + k) = 0
def shipR (R : Nat → Int32) (k : Nat) : Nat → Int32 :=
  let R1 := if R (45 + k) = 0 then upd R (25 + k) (mxI (nI 0) (R (25 + k) - R (75 + k))) else R
  upd R1 (65 + k) (R1 (65 + k) - nI 1)
def giveR (R : Nat → Int32) (t : Nat) (v : Int32) : Nat → Int32 := upd R (1 + t) (mnI (nI 9999) (R (1 + t) + v))
def fares75 (R : Nat → Int32) (t : Nat) : Nat → Int32 :=
  let R1 := upd R (1 + t) (R (1 + t) - mnI (R (1 + t)) (R (9 + t)))
  upd R1 (9 + t) (R1 (9 + t) - mnI (R (1 + t)) (R (9 + t)))
def faresR (P : pvT) (R : Nat → Int32) (t : Nat) (w : Bool) : Nat → Int32 :=
  if w = true then
    let R1 := upd R (17 + t) (R (17 + t) + P.2.1 1 t)
    fares75 (upd R1 (1 + t) (mxI (nI 0) (R1 (1 + t) - P.2.1 1 t))) t
  else
    let R1 := upd R (17 + t) (R (17 + t) + -(P.2.1 1 t))
    fares75 (giveR R1 t (P.2.1 1 t / nI 2)) t
def loseR (R : Nat → Int32) (k : Nat) : Nat → Int32 := upd (upd (upd R (25 + k) (nI 0)) (55 + k) (-1)) (65 + k) (nI 0)
section CM
variable {σ : vv_S} {x0 a : Nat} {R : Nat → Int32} {lo : Int32}
theorem zr1 : zrI (nI 1) = some (nI 1) := by decide
theorem zr0 : zrI (nI 0) = some (nI 0) := by decide
theorem K_lies (h : isCo σ x0 a R lo) {k : Nat} (hk : k < 10) : KX3_lies a (nI k) σ = some (if liesR R k then nI 1 else nI 0) := by
  have e6 : aI σ .int (a + 1 + 6) (nI k) = some (R (55 + k)) := co_aI h (j := 6) (by decide) hk
  have e7 : aI σ .int (a + 1 + 7) (nI k) = some (R (65 + k)) := co_aI h (j := 7) (by decide) hk
  unfold KX3_lies KX3_lies_23 KX3_lies_24
  simp only [co_R h (j := 6) (by decide), co_R h (j := 7) (by decide), e6, e7, Option.bind_some, zr1, zr0]
  by_cases h1 : R (55 + k) = -1
  · rw [if_pos h1, if_neg (fun q => q.1 h1)]
  · rw [if_neg h1]
    by_cases h2 : R (65 + k) = 0
    · rw [if_pos h2, if_pos ⟨h1, h2⟩]
    · rw [if_neg h2, if_neg (fun q => h2 q.2)]
theorem K_goes (h : isCo σ x0 a R lo) {k : Nat} (hk : k < 10) : KX3_goes a (nI k) σ = some (if R (65 + k) ≤ 0 then nI 0 else nI 1) := by
  have e7 : aI σ .int (a + 1 + 7) (nI k) = some (R (65 + k)) := co_aI h (j := 7) (by decide) hk
  unfold KX3_goes KX3_goes_14
  simp only [co_R h (j := 7) (by decide), e7, Option.bind_some, zr1, zr0]
  split <;> rfl
theorem K_give (h : isCo σ x0 a R lo) {t : Nat} (ht : t < 8) {v : Int32} : ∃ σ', KX3_give a (nI t) v σ = some σ' ∧ isCo σ' x0 a (giveR R t v) lo ∧ fr (coA a) σ σ' := by
  have e0 : aI σ .int (a + 1 + 0) (nI t) = some (R (1 + t)) := co_aI h (j := 0) (by decide) ht
  obtain ⟨σ', s1, s2, s3⟩ := co_sI h (j := 0) (i := t) (v := mnI (nI 9999) (R (1 + t) + v)) (by decide) ht
  refine ⟨σ', ?_, s2, s3⟩
  unfold KX3_give
  simp only [co_R h (j := 0) (by decide), e0, s1, Option.bind_some]
theorem K_ship (h : isCo σ x0 a R lo) {k : Nat} (hk : k < 10) : ∃ σ', KX3_ship a (nI k) σ = some σ' ∧ isCo σ' x0 a (shipR R k) lo ∧ fr (coA a) σ σ' := by
  have e3 : aI σ .int (a + 1 + 3) (nI k) = some (R (25 + k)) := co_aI h (j := 3) (by decide) hk
  have e5 : aI σ .int (a + 1 + 5) (nI k) = some (R (45 + k)) := co_aI h (j := 5) (by decide) hk
  have e8 : aI σ .int (a + 1 + 8) (nI k) = some (R (75 + k)) := co_aI h (j := 8) (by decide) hk
  unfold KX3_ship
  simp only [co_R h (j := 5) (by decide), co_R h (j := 3) (by decide), co_R h (j := 8) (by decide), e3, e5, e8, Option.bind_some]
  have last : ∀ {σ1 : vv_S} {R1 : Nat → Int32}, isCo σ1 x0 a R1 lo → fr (coA a) σ σ1 → ∃ σ', KX3_ship_32 a (nI k) σ1 = some σ' ∧ isCo σ' x0 a (upd R1 (65 + k) (R1 (65 + k) - nI 1)) lo ∧ fr (coA a) σ σ' := by
    intro σ1 R1 h1 f1
    have e7 : aI σ1 .int (a + 1 + 7) (nI k) = some (R1 (65 + k)) := co_aI h1 (j := 7) (by decide) hk
    obtain ⟨σ', s1, s2, s3⟩ := co_sI h1 (j := 7) (i := k) (v := R1 (65 + k) - nI 1) (by decide) hk
    refine ⟨σ', ?_, s2, f1.tr s3⟩
    unfold KX3_ship_32
    simp only [co_R h1 (j := 7) (by decide), e7, s1, Option.bind_some]
  unfold shipR
  by_cases hc : R (45 + k) = 0
  · rw [if_pos hc, if_pos hc]
    obtain ⟨σ1, s1, s2, s3⟩ := co_sI h (j := 3) (i := k) (v := mxI (nI 0) (R (25 + k) - R (75 + k))) (by decide) hk
    simp only [s1, Option.bind_some]
    exact last s2 s3
  · rw [if_neg hc, if_neg hc]
    exact last h fr.rf
theorem K_lose (h : isCo σ x0 a R lo) {k : Nat} (hk : k < 10) : ∃ σ', KX3_lose a (nI k) σ = some σ' ∧ isCo σ' x0 a (loseR R k) lo ∧ fr (coA a) σ σ' := by
  obtain ⟨σ1, s1, s2, s3⟩ := co_sI h (j := 3) (i := k) (v := nI 0) (by decide) hk
  obtain ⟨σ2, t1, t2, t3⟩ := co_sI s2 (j := 6) (i := k) (v := -1) (by decide) hk
  obtain ⟨σ3, u1, u2, u3⟩ := co_sI t2 (j := 7) (i := k) (v := nI 0) (by decide) hk
  refine ⟨σ3, ?_, u2, (s3.tr t3).tr u3⟩
  unfold KX3_lose
  simp only [co_R h (j := 3) (by decide), co_R s2 (j := 6) (by decide), co_R t2 (j := 7) (by decide), s1, t1, u1, Option.bind_some]
theorem K_fares75 (h : isCo σ x0 a R lo) {t : Nat} (ht : t < 8) : ∃ σ', KX3_fares_75 a (nI t) σ = some σ' ∧ isCo σ' x0 a (fares75 R t) lo ∧ fr (coA a) σ σ' := by
  have e0 : aI σ .int (a + 1 + 0) (nI t) = some (R (1 + t)) := co_aI h (j := 0) (by decide) ht
  have e1 : aI σ .int (a + 1 + 1) (nI t) = some (R (9 + t)) := co_aI h (j := 1) (by decide) ht
  obtain ⟨σ1, s1, s2, s3⟩ := co_sI h (j := 0) (i := t) (v := R (1 + t) - mnI (R (1 + t)) (R (9 + t))) (by decide) ht
  have e2 : aI σ1 .int (a + 1 + 1) (nI t) = some (upd R (1 + t) (R (1 + t) - mnI (R (1 + t)) (R (9 + t))) (9 + t)) := co_aI s2 (j := 1) (by decide) ht
  obtain ⟨σ2, t1, t2, t3⟩ := co_sI s2 (j := 1) (i := t) (v := upd R (1 + t) (R (1 + t) - mnI (R (1 + t)) (R (9 + t))) (9 + t) - mnI (R (1 + t)) (R (9 + t))) (by decide) ht
  refine ⟨σ2, ?_, t2, s3.tr t3⟩
  unfold KX3_fares_75
  simp only [co_R h (j := 0) (by decide), co_R h (j := 1) (by decide), co_R s2 (j := 1) (by decide), e0, e1, e2, s1, t1, Option.bind_some]
end CM
