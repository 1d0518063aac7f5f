/-! the plain law: component and twin, alike for good -/
set_option maxRecDepth 100000
/-- the component's own cell: addresses by its fields -/
abbrev xF (a : Nat → Nat) (i4 i5 : Int32) (v9 v10 v11 : Value) (sd : Int32) : List Value := [.ref (a 0), .ref (a 1), .ref (a 2), .ref (a 3), .int i4, .int i5, .ref (a 6), .ref (a 7), .ref (a 8), v9, v10, v11, .ref (a 12), .ref (a 13), .int sd]
/-- which cells belong to the k-th: the fields' numbers; 17, 18 what lies behind the lists, 20 the object, 21 what the law writes, 22 the twin -/
def rg (a : Nat → Nat) (k q : Nat) : Prop := if k = 2 ∨ k = 12 then coA (a k) q else if k = 22 then a k ≤ q ∧ q < a k + 34 else q = a k
def Mm (k : Nat) : Prop := k = 0 ∨ k = 2 ∨ k = 3 ∨ k = 6 ∨ k = 7 ∨ k = 8 ∨ k = 12 ∨ k = 13 ∨ k = 17 ∨ k = 18 ∨ k = 20 ∨ k = 21 ∨ k = 22
/-- every cell that may change has one owner -/
def okO (ad a own : Nat → Nat) (N : Nat) : Prop := ∀ k q, Mm k → (k = 17 ∨ k = 18 → a k ≠ ad 0 ∧ a k ≠ ad 1) → rg a k q → own q = k + 1 ∧ q < N
/-- what is never written again -/
def frz (h0 : Nat → Option vv_E) (own : Nat → Nat) (N : Nat) : Prop := ∀ q e, h0 q = some e → own q = 0 ∧ q < N
/-- no cell of this owner has changed -/
def Kp (own : Nat → Nat) (t : Nat) (σ σ' : vv_S) : Prop := ∀ q, q < σ.2.1 → own q = t → σ'.1 q = σ.1 q
/-- constants of the launch -/
def cnK (hC : Nat → Option vv_E) (ad : Nat → Nat) (B : Nat) : Prop := adK hC ad B ∧ (∃ b gg, hC (ad 1) = some (obE b 0 gg)) ∧ ad 0 ≠ ad 1
theorem isCo.up {h h' : Nat → Option vv_E} {z z' : Nat × Nat} {x0 b : Nat} {R : Nat → Int32} {lo : Int32} (H : isCo (h, z) x0 b R lo) (hs : sub h h') : isCo (h', z') x0 b R lo := by
  refine ⟨hs _ _ H.1, fun j hj => ?_⟩
  obtain ⟨f, h1, h2⟩ := H.2 j hj
  exact ⟨f, hs _ _ h1, h2⟩
theorem isMc.up {h h' : Nat → Option vv_E} {z z' : Nat × Nat} {ad : Nat → Nat} {l e cap n : Nat} {g : Nat → Nat} (H : isMc (h, z) ad l e cap n g) (hs : sub h h') : isMc (h', z') ad l e cap n g := by
  obtain ⟨mc, b, gg, k1, k2, k3, k4, k5, k6, k7, k8⟩ := H
  refine ⟨mc, b, gg, hs _ _ k1, hs _ _ k2, k3, k4, k5, k6, fun i hi => ⟨(k7 i hi).1, ?_⟩, k8⟩
  have h9 := (k7 i hi).2
  unfold anyK at h9 ⊢
  dsimp only at h9 ⊢
  cases h1 : h (g i) with
  | none => rw [h1] at h9; cases h9
  | some w => rw [hs _ _ h1]; rw [h1] at h9; exact h9
def rlM (ad : Nat → Nat) (hC : Nat → Option vv_E) (a own : Nat → Nat) (h0 : Nat → Option vv_E) (σ : vv_S) : Prop := okO ad a own σ.2.1 ∧ frz h0 own σ.2.1 ∧ sub h0 σ.1 ∧ sub hC h0 ∧ cnK hC ad σ.2.1
def rlP (h0 : Nat → Option vv_E) (pa : Nat) (P : pvT) : Prop := isPv h0 pa P ∧ six P ∧ invP P ∧ wyP P
def rlC (a : Nat → Nat) (P : pvT) (R : Nat → Int32) (lo : Int32) (σ : vv_S) : Prop := okV σ (a 0) ∧ isCo σ (a 20) (a 2) R lo ∧ invR P R
def rlU (a : Nat → Nat) (σ : vv_S) : Prop := (∃ R2 lo2, isCo σ (a 20) (a 12) R2 lo2) ∧ ∃ f, isLu σ (a 13) f
def rlT (a : Nat → Nat) (σ : vv_S) (T : tw_T) : Prop := ∃ tf, σ.1 (a 3) = some (true, .inl (.byte, 700, .inl tf)) ∧ ∀ q, q < 700 → rI (tf q) (-128) 127 ∧ T.2.2 8 q = tf q &&& nI 255
def rlF (a : Nat → Nat) (σ : vv_S) (T : tw_T) : Prop := ∃ rf, σ.1 (a 6) = some (true, .inl (.int, 3, .inl rf)) ∧ ∀ k, k < 3 → rf k = T.2.2 9 k
/-- kept Coasts, their rows -/
def keO (h0 : Nat → Option vv_E) (x0 : Nat) (P : pvT) (n : Nat) (gA : Nat → Nat) (A : Nat → Nat → Int32) : Prop := ∀ i, i < n → (∃ lo, isCo (h0, 0, 0) x0 (gA i) (A i) lo) ∧ invR P (A i)
def seO (h0 : Nat → Option vv_E) (S : seT) (gS : Nat → Nat) : Prop := ∀ i, i < S.1 → ∃ (b : Bool) (fe : Nat → Int32), h0 (gS i) = some (b, .inl (.int, 3, .inl fe)) ∧ fe 0 = nI (S.2.1 i) ∧ fe 1 = nI (S.2.2.1 i) ∧ fe 2 = S.2.2.2 i
def rlA (ad a : Nat → Nat) (h0 : Nat → Option vv_E) (P : pvT) (n : Nat) (A : Nat → Nat → Int32) (σ : vv_S) : Prop := ∃ cap gA, isMc σ ad (a 7) (a 17) cap n gA ∧ cap ≤ 64 ∧ keO h0 (a 20) P n gA A
def rlS (ad a : Nat → Nat) (h0 : Nat → Option vv_E) (S : seT) (σ : vv_S) : Prop := ∃ cap gS, isMc σ ad (a 8) (a 18) cap S.1 gS ∧ cap ≤ 64 ∧ seO h0 S gS
def rlI (ad a : Nat → Nat) (h0 : Nat → Option vv_E) (P : pvT) (v9 v10 v11 : Value) (T : tw_T) : Prop := v9 = .null ∧ T.1 57 = nI 0 ∨ ∃ c9 l10 e10 l11 e11 RI loI nI' AI SI gA gS, v9 = .ref c9 ∧ v10 = .ref l10 ∧ v11 = .ref l11 ∧ isCo (h0, 0, 0) (a 20) c9 RI loI ∧ invR P RI ∧ isMc (h0, 0, 0) ad l10 e10 nI' nI' gA ∧ keO h0 (a 20) P nI' gA AI ∧ isMc (h0, 0, 0) ad l11 e11 SI.1 SI.1 gS ∧ seO h0 SI gS ∧ sOk P SI ∧ isIm T RI nI' AI SI
/-- the twin's side -/
def rlJ (P : pvT) (R : Nat → Int32) (n : Nat) (A : Nat → Nat → Int32) (S : seT) (tp : Nat) (i5 : Int32) (T : tw_T) : Prop := isTp T P ∧ isRw T 0 R ∧ isAc T n A ∧ sJ T S ∧ sOk P S ∧ T.1 13 = nI tp ∧ tp ≤ 700 ∧ T.1 15 = i5
def Rl (ad : Nat → Nat) (hC : Nat → Option vv_E) (a own : Nat → Nat) (h0 : Nat → Option vv_E) (P : pvT) (R : Nat → Int32) (lo : Int32) (n : Nat) (A : Nat → Nat → Int32) (S : seT) (tp : Nat) (i5 : Int32) (v9 v10 v11 : Value) (sd : Int32) (σ : vv_S) (T : tw_T) : Prop :=
  rlM ad hC a own h0 σ ∧ σ.1 (a 20) = some (true, .inr (0, xF a (nI tp) i5 v9 v10 v11 sd)) ∧ rlP h0 (a 1) P ∧ rlC a P R lo σ ∧ rlU a σ ∧ rlT a σ T ∧ rlF a σ T ∧ rlA ad a h0 P n A σ ∧ rlS ad a h0 S σ ∧ rlI ad a h0 P v9 v10 v11 T ∧ rlJ P R n A S tp i5 T
/-- component at x0, what the law writes at ot, the twin at o -/
def RL (ad : Nat → Nat) (hC : Nat → Option vv_E) (x0 ot o : Nat) (σ : vv_S) (T : tw_T) : Prop := ∃ a own h0 P R lo n A S tp i5 v9 v10 v11 sd, a 20 = x0 ∧ a 21 = ot ∧ a 22 = o ∧ Rl ad hC a own h0 P R lo n A S tp i5 v9 v10 v11 sd σ T
section RM
variable {ad a own : Nat → Nat} {hC h0 : Nat → Option vv_E} {P : pvT} {R : Nat → Int32} {lo : Int32} {n : Nat} {A : Nat → Nat → Int32} {S : seT} {tp : Nat} {i5 : Int32} {v9 v10 v11 : Value} {sd : Int32} {σ σ' : vv_S} {T T' : tw_T}
theorem okO.at (h : okO ad a own n) {k : Nat} (hk : Mm k) (h1 : ¬ (k = 17 ∨ k = 18)) {q : Nat} (hq : rg a k q) : own q = k + 1 ∧ q < n := h k q hk (fun z => absurd z h1) hq
theorem rg_1 {k : Nat} (h : ¬ (k = 2 ∨ k = 12)) (h2 : k ≠ 22) : rg a k (a k) := by unfold rg; rw [if_neg h, if_neg h2]
theorem rg_c {k q : Nat} (h : k = 2 ∨ k = 12) (hq : coA (a k) q) : rg a k q := by unfold rg; rw [if_pos h]; exact hq
/-- a single cell -/
theorem okO.o1 (h : okO ad a own n) {k : Nat} (hk : Mm k) (h1 : ¬ (k = 17 ∨ k = 18)) (h2 : ¬ (k = 2 ∨ k = 12)) (h3 : k ≠ 22) : own (a k) = k + 1 ∧ a k < n := h.at hk h1 (rg_1 h2 h3)
theorem okO.m0 (h : okO ad a own n) : own (a 0) = 1 ∧ a 0 < n := h.o1 (by unfold Mm; omega) (by omega) (by omega) (by omega)
theorem okO.m3 (h : okO ad a own n) : own (a 3) = 4 ∧ a 3 < n := h.o1 (by unfold Mm; omega) (by omega) (by omega) (by omega)
theorem okO.m6 (h : okO ad a own n) : own (a 6) = 7 ∧ a 6 < n := h.o1 (by unfold Mm; omega) (by omega) (by omega) (by omega)
theorem okO.m7 (h : okO ad a own n) : own (a 7) = 8 ∧ a 7 < n := h.o1 (by unfold Mm; omega) (by omega) (by omega) (by omega)
theorem okO.m8 (h : okO ad a own n) : own (a 8) = 9 ∧ a 8 < n := h.o1 (by unfold Mm; omega) (by omega) (by omega) (by omega)
theorem okO.m13 (h : okO ad a own n) : own (a 13) = 14 ∧ a 13 < n := h.o1 (by unfold Mm; omega) (by omega) (by omega) (by omega)
theorem okO.m20 (h : okO ad a own n) : own (a 20) = 21 ∧ a 20 < n := h.o1 (by unfold Mm; omega) (by omega) (by omega) (by omega)
theorem okO.m21 (h : okO ad a own n) : own (a 21) = 22 ∧ a 21 < n := h.o1 (by unfold Mm; omega) (by omega) (by omega) (by omega)
theorem okO.m2 (h : okO ad a own n) {q : Nat} (hq : coA (a 2) q) : own q = 3 ∧ q < n := h.at (by unfold Mm; omega) (by omega) (rg_c (by omega) hq)
theorem okO.m12 (h : okO ad a own n) {q : Nat} (hq : coA (a 12) q) : own q = 13 ∧ q < n := h.at (by unfold Mm; omega) (by omega) (rg_c (by omega) hq)
theorem okO.m22 (h : okO ad a own n) {q : Nat} (hq : a 22 ≤ q ∧ q < a 22 + 34) : own q = 23 ∧ q < n := h.at (by unfold Mm; omega) (by omega) (by unfold rg; rw [if_neg (by omega), if_pos rfl]; exact hq)
theorem okO.up {m : Nat} (h : okO ad a own n) (hm : n ≤ m) : okO ad a own m := fun k q h1 h2 h3 => ⟨(h k q h1 h2 h3).1, Nat.lt_of_lt_of_le (h k q h1 h2 h3).2 hm⟩
theorem frz.up {m : Nat} (h : frz h0 own n) (hm : n ≤ m) : frz h0 own m := fun q e he => ⟨(h q e he).1, Nat.lt_of_lt_of_le (h q e he).2 hm⟩
theorem frz.no (h : frz h0 own n) {q : Nat} (hq : own q ≠ 0) : h0 q = none := by
  cases h1 : h0 q with
  | none => rfl
  | some e => exact absurd (h q e h1).1 hq
theorem frz.ge (h : frz h0 own n) {q : Nat} (hq : n ≤ q) : h0 q = none := by
  cases h1 : h0 q with
  | none => rfl
  | some e => have := (h q e h1).2; omega
theorem cnK.up {B B' : Nat} (h : cnK hC ad B) (hb : B ≤ B') : cnK hC ad B' := by
  obtain ⟨⟨h1, h2, b, gg, h3, h4⟩, h5⟩ := h
  exact ⟨⟨by omega, h2, b, gg, h3, fun v hv => by obtain ⟨q, q1, q2, q3⟩ := h4 v hv; exact ⟨q, q1, by omega, q3⟩⟩, h5⟩
theorem adK.sub {h h' : Nat → Option vv_E} {B : Nat} (H : adK h ad B) (hs : sub h h') : adK h' ad B := by
  obtain ⟨h1, ⟨b1, g1, h2⟩, b, gg, h3, h4⟩ := H
  exact ⟨h1, ⟨b1, g1, hs _ _ h2⟩, b, gg, hs _ _ h3, fun v hv => by
    obtain ⟨q, q1, q2, f, q3⟩ := h4 v hv
    exact ⟨q, q1, q2, f, hs _ _ q3⟩⟩
theorem rlM.aK (h : rlM ad hC a own h0 σ) : adK h0 ad σ.2.1 := h.2.2.2.2.1.sub h.2.2.2.1
theorem rlM.e1 (h : rlM ad hC a own h0 σ) : (∃ b gg, σ.1 (ad 1) = some (obE b 0 gg)) ∧ ad 1 < σ.2.1 := by
  obtain ⟨b, gg, h9⟩ := h.2.2.2.2.2.1
  exact ⟨⟨b, gg, h.2.2.1 _ _ (h.2.2.2.1 _ _ h9)⟩, (h.2.1 _ _ (h.2.2.2.1 _ _ h9)).2⟩
theorem rlM.e0 (h : rlM ad hC a own h0 σ) : (∃ b gg, σ.1 (ad 0) = some (obE b 0 gg)) ∧ ad 0 < σ.2.1 := by
  obtain ⟨b, gg, h9⟩ := h.2.2.2.2.1.2.1
  exact ⟨⟨b, gg, h.2.2.1 _ _ (h.2.2.2.1 _ _ h9)⟩, (h.2.1 _ _ (h.2.2.2.1 _ _ h9)).2⟩
/-- old cells that are never written keep -/
theorem rlM.k {D : Nat → Prop} {c m : Nat} (h : rlM ad hC a own h0 σ) (f : fa (fun q => D (own q)) c m σ σ') (hD : ¬ D 0) : rlM ad hC a own h0 σ' := by
  obtain ⟨h1, h2, h3, h4, h5⟩ := h
  have hz : σ.2.1 ≤ σ'.2.1 := f.1.1
  refine ⟨h1.up hz, h2.up hz, fun q e he => ?_, h4, h5.up hz⟩
  rw [f.2 q (h2 q e he).2 (by show ¬ D (own q); rw [(h2 q e he).1]; exact hD)]
  exact h3 q e he
theorem fa.kp {D : Nat → Prop} {c m t : Nat} (f : fa (fun q => D (own q)) c m σ σ') (hD : ¬ D t) : Kp own t σ σ' := fun q h1 h2 => f.2 q h1 (by show ¬ D (own q); rw [h2]; exact hD)
theorem rlC.k (h : rlC a P R lo σ) (ho : okO ad a own σ.2.1) (k1 : Kp own 1 σ σ') (k3 : Kp own 3 σ σ') : rlC a P R lo σ' := by
  obtain ⟨⟨u, h1⟩, h2, h3⟩ := h
  exact ⟨⟨u, (k1 _ ho.m0.2 ho.m0.1).trans h1⟩, h2.ke fun q a1 a2 => k3 q (ho.m2 ⟨a1, a2⟩).2 (ho.m2 ⟨a1, a2⟩).1, h3⟩
theorem rlU.k (h : rlU a σ) (ho : okO ad a own σ.2.1) (k1 : Kp own 13 σ σ') (k3 : Kp own 14 σ σ') : rlU a σ' := by
  obtain ⟨⟨R2, lo2, h2⟩, f, h3⟩ := h
  exact ⟨⟨R2, lo2, h2.ke fun q a1 a2 => k1 q (ho.m12 ⟨a1, a2⟩).2 (ho.m12 ⟨a1, a2⟩).1⟩, f, (k3 _ ho.m13.2 ho.m13.1).trans h3⟩
theorem rlT.k (h : rlT a σ T) (ho : okO ad a own σ.2.1) (k1 : Kp own 4 σ σ') (hT : T'.2.2 8 = T.2.2 8) : rlT a σ' T' := by
  obtain ⟨tf, h1, h2⟩ := h
  exact ⟨tf, (k1 _ ho.m3.2 ho.m3.1).trans h1, fun q hq => by rw [hT]; exact h2 q hq⟩
theorem rlF.k (h : rlF a σ T) (ho : okO ad a own σ.2.1) (k1 : Kp own 7 σ σ') (hT : T'.2.2 9 = T.2.2 9) : rlF a σ' T' := by
  obtain ⟨tf, h1, h2⟩ := h
  exact ⟨tf, (k1 _ ho.m6.2 ho.m6.1).trans h1, fun q hq => by rw [hT]; exact h2 q hq⟩
theorem keO.any {gA : Nat → Nat} (h : keO h0 (a 20) P n gA A) (hs : sub h0 σ.1) : ∀ i, i < n → anyK σ "java/lang/Object" (gA i) = true := fun i hi => by
  obtain ⟨⟨lo, h1⟩, -⟩ := h i hi
  unfold anyK
  rw [hs _ _ h1.1]
  rfl
theorem seO.any {gS : Nat → Nat} (h : seO h0 S gS) (hs : sub h0 σ.1) : ∀ i, i < S.1 → anyK σ "java/lang/Object" (gS i) = true := fun i hi => by
  obtain ⟨b, fe, h1, -⟩ := h i hi
  unfold anyK
  rw [hs _ _ h1]
  rfl
theorem mc_e {l e cap k : Nat} {g : Nat → Nat} (h : isMc σ ad l e cap n g) (ho : okO ad a own σ.2.1) (hk : k = 17 ∨ k = 18) (he : a k = e) (kk : Kp own (k + 1) σ σ') (hC0 : σ'.1 (ad 0) = σ.1 (ad 0)) (hC1 : σ'.1 (ad 1) = σ.1 (ad 1)) : σ'.1 e = σ.1 e := by
  by_cases h9 : e = ad 0 ∨ e = ad 1
  · rcases h9 with h9 | h9 <;> rw [h9] <;> assumption
  · have h8 := ho k e (by unfold Mm; omega) (fun _ => by rw [he]; exact ⟨fun z => h9 (Or.inl z), fun z => h9 (Or.inr z)⟩) (by rw [← he]; exact rg_1 (by omega) (by omega))
    exact kk e h8.2 h8.1
theorem rlM.c0 (h : rlM ad hC a own h0 σ) (h' : rlM ad hC a own h0 σ') : σ'.1 (ad 0) = σ.1 (ad 0) ∧ σ'.1 (ad 1) = σ.1 (ad 1) := by
  obtain ⟨b, gg, h9⟩ := h.2.2.2.2.1.2.1
  obtain ⟨b1, gg1, h8⟩ := h.2.2.2.2.2.1
  exact ⟨(h'.2.2.1 _ _ (h.2.2.2.1 _ _ h9)).trans (h.2.2.1 _ _ (h.2.2.2.1 _ _ h9)).symm, (h'.2.2.1 _ _ (h.2.2.2.1 _ _ h8)).trans (h.2.2.1 _ _ (h.2.2.2.1 _ _ h8)).symm⟩
theorem rlA.k (h : rlA ad a h0 P n A σ) (hM : rlM ad hC a own h0 σ) (hM' : rlM ad hC a own h0 σ') (k1 : Kp own 8 σ σ') (k2 : Kp own 18 σ σ') : rlA ad a h0 P n A σ' := by
  obtain ⟨cap, gA, h1, h2, h3⟩ := h
  have hc := hM.c0 hM'
  exact ⟨cap, gA, h1.ke (k1 _ hM.1.m7.2 hM.1.m7.1) (mc_e h1 hM.1 (Or.inl rfl) rfl k2 hc.1 hc.2) (fun i hi _ => h3.any hM'.2.2.1 i hi), h2, h3⟩
theorem rlS.k (h : rlS ad a h0 S σ) (hM : rlM ad hC a own h0 σ) (hM' : rlM ad hC a own h0 σ') (k1 : Kp own 9 σ σ') (k2 : Kp own 19 σ σ') : rlS ad a h0 S σ' := by
  obtain ⟨cap, gA, h1, h2, h3⟩ := h
  have hc := hM.c0 hM'
  exact ⟨cap, gA, h1.ke (k1 _ hM.1.m8.2 hM.1.m8.1) (mc_e h1 hM.1 (Or.inr rfl) rfl k2 hc.1 hc.2) (fun i hi _ => h3.any hM'.2.2.1 i hi), h2, h3⟩
theorem isIm.k {RI : Nat → Int32} {m : Nat} {AI : Nat → Nat → Int32} {SI : seT} (h : isIm T RI m AI SI) (h1 : ∀ k, 57 ≤ k → k ≤ 59 → T'.1 k = T.1 k) (h2 : ∀ r, 31 ≤ r → r ≤ 33 → T'.2.2 r = T.2.2 r) (u1 : T'.1 1 = T.1 1) (u3 : T'.1 3 = T.1 3) : isIm T' RI m AI SI := by
  obtain ⟨a1, a2, a3, a4, a5, a6, a7, a8⟩ := h
  exact ⟨(h1 57 (by omega) (by omega)).trans a1, (h1 58 (by omega) (by omega)).trans a2, a3, (h1 59 (by omega) (by omega)).trans a4, a5, fun q hq hu => by rw [h2 31 (by omega) (by omega)]; exact a6 q hq (hu.k u1.symm u3.symm), fun i k hi hk hu => by rw [h2 32 (by omega) (by omega)]; exact a7 i k hi hk (hu.k u1.symm u3.symm), by rw [h2 33 (by omega) (by omega)]; exact a8⟩
theorem rlI.k (h : rlI ad a h0 P v9 v10 v11 T) (h1 : ∀ k, 57 ≤ k → k ≤ 59 → T'.1 k = T.1 k) (h2 : ∀ r, 31 ≤ r → r ≤ 33 → T'.2.2 r = T.2.2 r) (u1 : T'.1 1 = T.1 1) (u3 : T'.1 3 = T.1 3) : rlI ad a h0 P v9 v10 v11 T' := by
  rcases h with ⟨h3, h4⟩ | ⟨c9, l10, e10, l11, e11, RI, loI, nI', AI, SI, gA, gS, h3⟩
  · exact Or.inl ⟨h3, (h1 57 (by omega) (by omega)).trans h4⟩
  · obtain ⟨b1, b2, b3, b4, b5, b6, b7, b8, b9, b10, b11⟩ := h3
    exact Or.inr ⟨c9, l10, e10, l11, e11, RI, loI, nI', AI, SI, gA, gS, b1, b2, b3, b4, b5, b6, b7, b8, b9, b10, b11.k h1 h2 u1 u3⟩
theorem rlJ.q (h : rlJ P R n A S tp i5 T) (f : jq T T') : rlJ P R n A S tp i5 T' := by
  obtain ⟨a1, a2, ⟨c1, c2, c3⟩, a4, a5, a6, a7, a8⟩ := h
  exact ⟨a1.jq f, a2.jq f, ⟨(f.1 44 (by omega)).trans c1, c2, fun i k hi hk hu => by rw [f.2.1 21 (by omega)]; exact c3 i k hi hk (hu.k (f.1 1 (by omega)).symm (f.1 3 (by omega)).symm)⟩, a4.q f, a5, (f.1 13 (by omega)).trans a6, a7, (f.1 15 (by omega)).trans a8⟩
/-- a query from the relation -/
theorem Rl.env (H : Rl ad hC a own h0 P R lo n A S tp i5 v9 v10 v11 sd σ T) : isEnv σ (a 20) h0 (a 1) (a 0) P := by
  obtain ⟨hM, hX, hP, hc, -⟩ := H
  refine ⟨hM.2.2.1, hP.1, ?_, ?_, ?_, hM.2.1.no (by rw [hM.1.m0.1]; omega), hc.1⟩
  · unfold isO; rw [hX]; rfl
  · unfold gR gV; rw [hX]; rfl
  · unfold gR gV; rw [hX]; rfl
theorem Rl.isQ (H : Rl ad hC a own h0 P R lo n A S tp i5 v9 v10 v11 sd σ T) : isQ (a 20) h0 (a 1) (a 0) (a 2) P R lo σ T := by
  refine ⟨H.env, ?_⟩
  obtain ⟨hM, hX, hP, hc, hU, hT, hF, hA, hS, hI, hJ⟩ := H
  refine ⟨hc.2.1, by unfold gR gV; rw [hX]; rfl, fun q hq => hM.2.1.ge hq, ⟨hM.1.m0.2, hM.1.m20.2, ?_⟩, ⟨hP.2.1, hP.2.2.1⟩, hJ.1, hJ.2.1, hc.2.2⟩
  have := (hM.1.m2 (q := a 2 + 9) ⟨by omega, by omega⟩).2
  omega
theorem Rl.wQ (H : Rl ad hC a own h0 P R lo n A S tp i5 v9 v10 v11 sd σ T) : wQ σ.2.1 (a 20) h0 (a 1) (a 0) (a 2) (a 12) (a 13) P R lo S σ T := by
  refine ⟨H.isQ, ?_⟩
  obtain ⟨hM, hX, hP, hc, hU, hT, hF, hA, hS, hI, hJ⟩ := id H
  have hl := H.isQ.lt
  have h12 := (hM.1.m12 (q := a 12 + 9) ⟨by omega, by omega⟩).2
  refine ⟨⟨by unfold gR gV; rw [hX]; rfl, by unfold gR gV; rw [hX]; rfl, fun q hq => hM.2.1.no (by rw [(hM.1.m12 hq).1]; omega), hM.2.1.no (by rw [hM.1.m13.1]; omega)⟩, hU.1, hU.2, ?_, ⟨Nat.le_refl _, hl.1, hl.2.1, hl.2.2, by omega, hM.1.m13.2, fun q hq => hM.2.1.ge hq⟩, ?_, hJ.2.2.2.1, hJ.2.2.2.2.1⟩
  · by_cases h1 : a 2 + 10 ≤ a 12
    · exact Or.inl h1
    · by_cases h2 : a 12 + 10 ≤ a 2
      · exact Or.inr h2
      · exfalso
        by_cases h3 : a 2 ≤ a 12
        · have e1 := (hM.1.m2 (q := a 12) ⟨h3, by omega⟩).1
          have e2 := (hM.1.m12 (q := a 12) ⟨by omega, by omega⟩).1
          omega
        · have e1 := (hM.1.m2 (q := a 2) ⟨by omega, by omega⟩).1
          have e2 := (hM.1.m12 (q := a 2) ⟨by omega, by omega⟩).1
          omega
  · obtain ⟨cap, gS, s1, s2, s3⟩ := hS
    have hs : sub h0 (cut σ.2.1 σ.1) := fun q e he => by
      unfold cut
      rw [if_pos (hM.2.1 q e he).2]
      exact hM.2.2.1 q e he
    obtain ⟨mc, b, gg, k1, k2, k3, k4, k5, k6, k7, k8⟩ := s1
    refine ⟨a 8, by unfold gR gV; rw [hX]; rfl, gS, ⟨true, b, mc, a 18, cap, gg, ?_, ?_, k5, k6, fun i hi => (k7 i hi).1⟩, fun i hi => ?_⟩
    · unfold cut; rw [if_pos hM.1.m8.2]; exact k1
    · unfold cut
      rw [if_pos ?_]
      · exact k2
      · by_cases h9 : a 18 = ad 0 ∨ a 18 = ad 1
        · rcases h9 with h9 | h9
          · rw [h9]; exact hM.e0.2
          · rw [h9]; exact hM.e1.2
        · exact (hM.1 18 (a 18) (by unfold Mm; omega) (fun _ => ⟨fun z => h9 (Or.inl z), fun z => h9 (Or.inr z)⟩) (rg_1 (by omega) (by omega))).2
    · obtain ⟨b', fe, e1, e2⟩ := s3 i hi
      exact ⟨b', fe, hs _ _ e1, e2⟩
theorem Rl.cnH (H : Rl ad hC a own h0 P R lo n A S tp i5 v9 v10 v11 sd σ T) : cnH (a 20) σ T := by
  obtain ⟨hM, hX, hP, hc, hU, hT, hF, hA, hS, hI, hJ⟩ := H
  obtain ⟨cA, gA, a1, -⟩ := hA
  obtain ⟨cS, gS, s1, -⟩ := hS
  obtain ⟨rf, f1, f2⟩ := hF
  refine ⟨⟨a 7, n, gA, by unfold gR gV; rw [hX]; rfl, a1.li, hJ.2.2.1.1⟩, ⟨a 8, S.1, gS, by unfold gR gV; rw [hX]; rfl, s1.li, hJ.2.2.2.1.1⟩, ?_, a 6, by unfold gR gV; rw [hX]; rfl, fun k hk => ?_⟩
  · unfold gI gV; rw [hX, hJ.2.2.2.2.2.1]; rfl
  · rw [aI_at f1 hk (by omega), f2 k hk]
end RM
