set_option maxRecDepth 100000
/-! ===== the model's reader: tokens ===== -/
/-- the tape for the model's reader -/
def TkB (t : St) (T : Nat → Int) (n : Nat) : Prop := si t 0 14 = iI n ∧ (∀ k, k < 400 → si t 10 k = iI (T k % 256)) ∧ n ≤ 400 ∧ ∀ k, k < 400 → -128 ≤ T k ∧ T k ≤ 127
def Stk (a j : Nat) : Prop := (a = 0 ∧ 15 ≤ j ∧ j ≤ 17) ∨ (a = 100 ∧ j = 18)
theorem TkB.go {S : Nat → Nat → Prop} {t t' : St} {T : Nat → Int} {n : Nat} (h : TkB t T n) (hf : Fm S t t') (hS : ¬ S 0 14 ∧ ∀ k, ¬ S 10 k) : TkB t' T n :=
  ⟨by rw [hf.i _ _ hS.1]; exact h.1, fun k hk => by rw [hf.i _ _ (hS.2 k)]; exact h.2.1 k hk, h.2.2⟩
theorem TkB.tk {t t' : St} {T : Nat → Int} {n : Nat} (h : TkB t T n) (hf : Fm Stk t t') : TkB t' T n := h.go hf ⟨by unfold Stk; omega, fun k => by unfold Stk; omega⟩
theorem e_X5_isSmall (t : St) {c : Int} (h : 0 ≤ c ∧ c ≤ 255) : F_X5_isSmall t (iI c) = some (iI (bZ (97 ≤ c ∧ c ≤ 122)), t) := by
  unfold F_X5_isSmall
  rw [k_97, k_122, k_0, k_1]
  by_cases a : c < 97
  · rw [if_pos (by rw [iI_lt (by omega) (by omega)]; exact a), bZ_f (by omega)]
  · rw [if_neg (by rw [iI_lt (by omega) (by omega)]; exact a)]
    by_cases b : 122 < c
    · rw [if_pos (by rw [iI_lt (by omega) (by omega)]; exact b), bZ_f (by omega)]
    · rw [if_neg (by rw [iI_lt (by omega) (by omega)]; exact b), bZ_t (by omega)]
theorem e_X5_isDigit (t : St) {c : Int} (h : 0 ≤ c ∧ c ≤ 255) : F_X5_isDigit t (iI c) = some (iI (bZ (48 ≤ c ∧ c ≤ 57)), t) := by
  unfold F_X5_isDigit
  rw [k_48, k_57, k_0, k_1]
  by_cases a : c < 48
  · rw [if_pos (by rw [iI_lt (by omega) (by omega)]; exact a), bZ_f (by omega)]
  · rw [if_neg (by rw [iI_lt (by omega) (by omega)]; exact a)]
    by_cases b : 57 < c
    · rw [if_pos (by rw [iI_lt (by omega) (by omega)]; exact b), bZ_f (by omega)]
    · rw [if_neg (by rw [iI_lt (by omega) (by omega)]; exact b), bZ_t (by omega)]
/-- the worth of a word, of digits -/
def hsh (T : Nat → Int) (p : Nat) : Nat → Int
  | 0 => 0
  | j + 1 => hsh T p j * 32 + T (p + j) - 96
def hsC (T : Nat → Int) (p j : Nat) : Int := if j ≤ 10 then hsh T p j else -1
def dgC (T : Nat → Int) (p : Nat) : Nat → Int
  | 0 => 0
  | j + 1 => if 1000000 < dgC T p j then dgC T p j else dgC T p j * 10 + T (p + j) - 48
theorem dgC_r {T : Nat → Int} {p : Nat} : ∀ (j : Nat), (∀ k, k < j → 48 ≤ T (p + k) ∧ T (p + k) ≤ 57) → 0 ≤ dgC T p j ∧ dgC T p j ≤ 10000009
  | 0, _ => by rw [dgC]; omega
  | j + 1, h => by
    have := dgC_r j fun k hk => h k (by omega)
    have := h j (by omega)
    rw [dgC]
    split <;> omega
theorem hsh_r {T : Nat → Int} {p : Nat} : ∀ (j : Nat), (∀ k, k < j → 97 ≤ T (p + k) ∧ T (p + k) ≤ 122) → 0 ≤ hsh T p j ∧ hsh T p j < 32 ^ j
  | 0, _ => by rw [hsh]; decide
  | j + 1, h => by
    have h1 := hsh_r j fun k hk => h k (by omega)
    have h2 := h j (by omega)
    rw [hsh, Int.pow_succ]
    omega
theorem p32 {j : Nat} (h : j ≤ 10) : (32 : Int) ^ j ≤ 1125899906842624 := by
  have : j = 0 ∨ j = 1 ∨ j = 2 ∨ j = 3 ∨ j = 4 ∨ j = 5 ∨ j = 6 ∨ j = 7 ∨ j = 8 ∨ j = 9 ∨ j = 10 := by omega
  rcases this with rfl | rfl | rfl | rfl | rfl | rfl | rfl | rfl | rfl | rfl | rfl <;> decide
theorem hsC_r {T : Nat → Int} {p j : Nat} (h : ∀ k, k < j → 97 ≤ T (p + k) ∧ T (p + k) ≤ 122) : -1 ≤ hsC T p j ∧ hsC T p j ≤ 1125899906842624 := by
  unfold hsC
  split
  · rename_i hj
    have := hsh_r j h
    have := p32 hj
    omega
  · omega
/-- the token's worth -/
noncomputable def worZ (T : Nat → Int) (n p : Nat) : Int := @ite _ (isL T n p) (Classical.propDecidable _) (hsC T p (tkE T n p - p)) (@ite _ (isD T n p) (Classical.propDecidable _) (dgC T p (tkE T n p - p)) (if p < n then T p % 256 else 0))
noncomputable def sortZ (T : Nat → Int) (n p : Nat) : Int := @ite _ (isL T n p) (Classical.propDecidable _) 1 (@ite _ (isD T n p) (Classical.propDecidable _) 2 (if p < n then 3 else 0))
/-- the model's reader at a token -/
def TkE (t : St) (T : Nat → Int) (n p : Nat) : Prop := TkB t T n ∧ p ≤ n ∧ si t 0 15 = iI p ∧ si t 0 16 = iI (tkE T n p) ∧ si t 0 17 = iI (sortZ T n p) ∧ sl t 0 18 = lI (worZ T n p)
theorem TkE.go {S : Nat → Nat → Prop} {t t' : St} {T : Nat → Int} {n p : Nat} (h : TkE t T n p) (hf : Fm S t t') (hS : (∀ j, 14 ≤ j → j ≤ 17 → ¬ S 0 j) ∧ (∀ k, ¬ S 10 k) ∧ ¬ S 100 18) : TkE t' T n p :=
  ⟨h.1.go hf ⟨hS.1 14 (by omega) (by omega), hS.2.1⟩, h.2.1, by rw [hf.i _ _ (hS.1 15 (by omega) (by omega))]; exact h.2.2.1, by rw [hf.i _ _ (hS.1 16 (by omega) (by omega))]; exact h.2.2.2.1, by rw [hf.i _ _ (hS.1 17 (by omega) (by omega))]; exact h.2.2.2.2.1, by rw [hf.l _ _ hS.2.2]; exact h.2.2.2.2.2⟩
theorem TkB.at {t : St} {T : Nat → Int} {n : Nat} (h : TkB t T n) {k : Nat} (hk : k < n) : si t 10 k = iI (T k % 256) ∧ (-128 ≤ T k ∧ T k ≤ 127) := ⟨h.2.1 k (by have := h.2.2.1; omega), h.2.2.2 k (by have := h.2.2.1; omega)⟩
theorem e_X5_next_243 {T : Nat → Int} {n p : Nat} : ∀ (k j : Nat) (t : St), TkB t T n → p + j ≤ n → si t 0 17 = iI 2 → si t 0 16 = iI ((p + j : Nat) : Int) → sl t 0 18 = lI (dgC T p j) → (∀ i, i < j → 48 ≤ T (p + i) ∧ T (p + i) ≤ 57) → n - (p + j) = k → ∀ fu, k < fu → ∃ t', F_X5_next_243 fu t = some ((), t') ∧ si t' 0 16 = iI (rn T n 48 57 k (p + j) : Nat) ∧ sl t' 0 18 = lI (dgC T p (rn T n 48 57 k (p + j) - p)) ∧ Fm (fun a j => (a = 0 ∧ j = 16) ∨ (a = 100 ∧ j = 18)) t t' := by
  intro k
  induction k with
  | zero =>
    intro j t hB hp h17 h16 h18 hd hk fu hfu
    obtain ⟨g, rfl⟩ : ∃ g, fu = g + 1 := ⟨fu - 1, by omega⟩
    have hn := hB.2.2.1
    refine ⟨t, ?_, h16, by rw [rn, show p + j - p = j by omega]; exact h18, Fm.rf⟩
    simp only [F_X5_next_243]
    rw [h17, hB.1, h16, k_2, if_pos rfl, if_pos (by rw [iI_le (by omega) (by omega)]; omega)]
  | succ k ih =>
    intro j t hB hp h17 h16 h18 hd hk fu hfu
    obtain ⟨g, rfl⟩ : ∃ g, fu = g + 1 := ⟨fu - 1, by omega⟩
    have hn := hB.2.2.1
    have hT := hB.at (k := p + j) (by omega)
    have hdr := dgC_r j hd
    have key : ∀ z : Int, z = dgC T p (j + 1) → (48 ≤ T (p + j) ∧ T (p + j) ≤ 57) → ∃ t', F_X5_next_319 (F_X5_next_243 g) t (lI z) = some ((), t') ∧ si t' 0 16 = iI (rn T n 48 57 (k + 1) (p + j) : Nat) ∧ sl t' 0 18 = lI (dgC T p (rn T n 48 57 (k + 1) (p + j) - p)) ∧ Fm (fun a j => (a = 0 ∧ j = 16) ∨ (a = 100 ∧ j = 18)) t t' := fun z hz hdj => by
      have f : Fm (fun a j => (a = 0 ∧ j = 16) ∨ (a = 100 ∧ j = 18)) t (setI (setL t 0 18 (lI z)) 0 16 (iI ((p + (j + 1) : Nat) : Int))) := (Fm.setL (Or.inr ⟨rfl, rfl⟩)).tr (Fm.set (Or.inl ⟨rfl, rfl⟩))
      obtain ⟨t', e, h1, h2, h3⟩ := ih (j + 1) (setI (setL t 0 18 (lI z)) 0 16 (iI ((p + (j + 1) : Nat) : Int))) (hB.go f ⟨by omega, fun k => by omega⟩) (by omega) (by rw [f.i _ _ (by omega)]; exact h17) (by rw [si_set, if_pos rfl, if_pos rfl]) (by rw [← hz]; show sl (setL t 0 18 (lI z)) 0 18 = _; rw [sl_set, if_pos rfl, if_pos rfl]) (fun i hi => by
        by_cases e : i = j
        · rw [e]; exact hdj
        · exact hd i (by omega)) (by omega) g (by omega)
      refine ⟨t', ?_, ?_, ?_, f.tr h3⟩
      · unfold F_X5_next_319
        rw [nam_v, show si (setL t 0 18 (lI z)) 0 16 = iI ((p + j : Nat) : Int) from h16, iI_su, nam_v]
        exact e
      · rw [rn_s ⟨by omega, hdj⟩]; exact h1
      · rw [rn_s ⟨by omega, hdj⟩]; exact h2
    simp only [F_X5_next_243]
    rw [h17, hB.1, h16, k_2, if_pos rfl, if_neg (by rw [iI_le (by omega) (by omega)]; omega), inb_g (by omega), iI_nat (by omega), Int.toNat_natCast, hT.1, e_X5_isDigit t (by omega), bnd_s, h18, k_0]
    by_cases a : 48 ≤ T (p + j) ∧ T (p + j) ≤ 57
    · rw [if_neg (by rw [bZ_i0]; omega), K_1000000]
      by_cases b : dgC T p j ≤ 1000000
      · rw [if_pos (by rw [lI_le (by omega) (by omega)]; exact b), h16, inb_g (by omega), iI_nat (by omega), Int.toNat_natCast, hT.1, iI_l (by omega), K_10, K_48, lI_mul, lI_add, lI_sub]
        exact key _ (by rw [dgC, if_neg (by omega)]; omega) a
      · rw [if_neg (by rw [lI_le (by omega) (by omega)]; exact b)]
        exact key _ (by rw [dgC, if_pos (by omega)]) a
    · rw [if_pos (by rw [bZ_i0]; omega)]
      refine ⟨t, rfl, ?_, ?_, Fm.rf⟩
      · rw [rn, if_neg (fun z => a z.2)]; exact h16
      · rw [rn, if_neg (fun z => a z.2), show p + j - p = j by omega]; exact h18
theorem e_X5_next_243n {t : St} (h : si t 0 17 ≠ iI 2) {fu : Nat} (hfu : 0 < fu) : F_X5_next_243 fu t = some ((), t) := by
  obtain ⟨g, rfl⟩ : ∃ g, fu = g + 1 := ⟨fu - 1, by omega⟩
  simp only [F_X5_next_243]
  rw [k_2, if_neg h]
theorem e_X5_next_149 {T : Nat → Int} {n p : Nat} : ∀ (k j : Nat) (t : St), TkB t T n → p + j ≤ n → si t 0 17 = iI 1 → si t 0 15 = iI p → si t 0 16 = iI ((p + j : Nat) : Int) → sl t 0 18 = lI (hsC T p j) → (∀ i, i < j → 97 ≤ T (p + i) ∧ T (p + i) ≤ 122) → n - (p + j) = k → ∀ fu, k < fu → ∃ t', F_X5_next_149 fu t = some ((), t') ∧ si t' 0 16 = iI (rn T n 97 122 k (p + j) : Nat) ∧ sl t' 0 18 = lI (hsC T p (rn T n 97 122 k (p + j) - p)) ∧ Fm (fun a j => (a = 0 ∧ j = 16) ∨ (a = 100 ∧ j = 18)) t t' := by
  intro k
  induction k with
  | zero =>
    intro j t hB hp h17 h15 h16 h18 hd hk fu hfu
    obtain ⟨g, rfl⟩ : ∃ g, fu = g + 1 := ⟨fu - 1, by omega⟩
    have hn := hB.2.2.1
    refine ⟨t, ?_, h16, by rw [rn, show p + j - p = j by omega]; exact h18, Fm.rf⟩
    simp only [F_X5_next_149]
    rw [h17, hB.1, h16, k_1, if_pos rfl, if_pos (by rw [iI_le (by omega) (by omega)]; omega)]
    exact e_X5_next_243n (by rw [h17]; decide) (FU_ge (by omega))
  | succ k ih =>
    intro j t hB hp h17 h15 h16 h18 hd hk fu hfu
    obtain ⟨g, rfl⟩ : ∃ g, fu = g + 1 := ⟨fu - 1, by omega⟩
    have hn := hB.2.2.1
    have hT := hB.at (k := p + j) (by omega)
    have key : ∀ z : Int, z = hsC T p (j + 1) → (97 ≤ T (p + j) ∧ T (p + j) ≤ 122) → ∃ t', F_X5_next_227 (F_X5_next_149 g) t (lI z) = some ((), t') ∧ si t' 0 16 = iI (rn T n 97 122 (k + 1) (p + j) : Nat) ∧ sl t' 0 18 = lI (hsC T p (rn T n 97 122 (k + 1) (p + j) - p)) ∧ Fm (fun a j => (a = 0 ∧ j = 16) ∨ (a = 100 ∧ j = 18)) t t' := fun z hz hdj => by
      have f : Fm (fun a j => (a = 0 ∧ j = 16) ∨ (a = 100 ∧ j = 18)) t (setI (setL t 0 18 (lI z)) 0 16 (iI ((p + (j + 1) : Nat) : Int))) := (Fm.setL (Or.inr ⟨rfl, rfl⟩)).tr (Fm.set (Or.inl ⟨rfl, rfl⟩))
      obtain ⟨t', e, h1, h2, h3⟩ := ih (j + 1) (setI (setL t 0 18 (lI z)) 0 16 (iI ((p + (j + 1) : Nat) : Int))) (hB.go f ⟨by omega, fun k => by omega⟩) (by omega) (by rw [f.i _ _ (by omega)]; exact h17) (by rw [f.i _ _ (by omega)]; exact h15) (by rw [si_set, if_pos rfl, if_pos rfl]) (by rw [← hz]; show sl (setL t 0 18 (lI z)) 0 18 = _; rw [sl_set, if_pos rfl, if_pos rfl]) (fun i hi => by
        by_cases e : i = j
        · rw [e]; exact hdj
        · exact hd i (by omega)) (by omega) g (by omega)
      refine ⟨t', ?_, ?_, ?_, f.tr h3⟩
      · unfold F_X5_next_227
        rw [nam_v, show si (setL t 0 18 (lI z)) 0 16 = iI ((p + j : Nat) : Int) from h16, iI_su, nam_v]
        exact e
      · rw [rn_s ⟨by omega, hdj⟩]; exact h1
      · rw [rn_s ⟨by omega, hdj⟩]; exact h2
    simp only [F_X5_next_149]
    rw [h17, hB.1, h16, k_1, if_pos rfl, if_neg (by rw [iI_le (by omega) (by omega)]; omega), inb_g (by omega), iI_nat (by omega), Int.toNat_natCast, hT.1, e_X5_isSmall t (by omega), bnd_s, h18, k_0, h15, k_10, h16, iI_sub]
    by_cases a : 97 ≤ T (p + j) ∧ T (p + j) ≤ 122
    · rw [if_neg (by rw [bZ_i0]; omega)]
      by_cases b : 10 ≤ j
      · rw [if_pos (by rw [iI_le (by omega) (by omega)]; omega), K_m1]
        exact key _ (by unfold hsC; rw [if_neg (by omega)]) a
      · rw [if_neg (by rw [iI_le (by omega) (by omega)]; omega), inb_g (by omega), iI_nat (by omega), Int.toNat_natCast, hT.1, iI_l (by omega), K_32, K_96, lI_mul, lI_add, lI_sub]
        refine key _ ?_ a
        unfold hsC
        rw [if_pos (by omega), if_pos (by omega), hsh]
        omega
    · rw [if_pos (by rw [bZ_i0]; omega)]
      rw [e_X5_next_243n (by rw [h17]; decide) (FU_ge (by omega))]
      refine ⟨t, rfl, ?_, ?_, Fm.rf⟩
      · rw [rn, if_neg (fun z => a z.2)]; exact h16
      · rw [rn, if_neg (fun z => a z.2), show p + j - p = j by omega]; exact h18
theorem e_X5_next_149n {t : St} (h : si t 0 17 ≠ iI 1) {fu : Nat} (hfu : 0 < fu) : F_X5_next_149 fu t = F_X5_next_243 FU t := by
  obtain ⟨g, rfl⟩ : ∃ g, fu = g + 1 := ⟨fu - 1, by omega⟩
  simp only [F_X5_next_149]
  rw [k_1, if_neg h]
theorem e_X5_next_46 {T : Nat → Int} {n p : Nat} {t : St} (hB : TkB t T n) (hp : p ≤ n) (h15 : si t 0 15 = iI p) : ∃ t', F_X5_next_46 t = some ((), t') ∧ TkE t' T n p ∧ Fm Stk t t' := by
  have hn := hB.2.2.1
  have f1 : Fm Stk t (setL (setI t 0 16 (iI p)) 0 18 (lI 0)) := (Fm.set (by unfold Stk; omega)).tr (Fm.setL (by unfold Stk; omega))
  have hB1 := hB.tk f1
  have g15 : si (setL (setI t 0 16 (iI p)) 0 18 (lI 0)) 0 15 = iI p := h15
  have g16 : si (setL (setI t 0 16 (iI p)) 0 18 (lI 0)) 0 16 = iI p := by
    show si (setI t 0 16 (iI p)) 0 16 = _
    rw [si_set, if_pos rfl, if_pos rfl]
  have g18 : sl (setL (setI t 0 16 (iI p)) 0 18 (lI 0)) 0 18 = lI 0 := by rw [sl_set, if_pos rfl, if_pos rfl]
  unfold F_X5_next_46
  rw [h15, nam_v, K_0, nam_v]
  generalize setL (setI t 0 16 (iI p)) 0 18 (lI 0) = t1 at f1 hB1 g15 g16 g18 ⊢
  rw [g15, hB1.1]
  have key : ∀ z : Int, (z = 0 ∨ z = 1 ∨ z = 2) → z = sortZ T n p → ∃ t', F_X5_next_114 t1 (iI z) = some ((), t') ∧ TkE t' T n p ∧ Fm Stk t t' := fun z hz e => by
    have f2 : Fm Stk t1 (setI t1 0 17 (iI z)) := Fm.set (by unfold Stk; omega)
    have hB2 := hB1.tk f2
    have i15 : si (setI t1 0 17 (iI z)) 0 15 = iI p := by rw [si_set, if_pos rfl, if_neg (by omega)]; exact g15
    have i16 : si (setI t1 0 17 (iI z)) 0 16 = iI p := by rw [si_set, if_pos rfl, if_neg (by omega)]; exact g16
    have i17 : si (setI t1 0 17 (iI z)) 0 17 = iI z := by rw [si_set, if_pos rfl, if_pos rfl]
    have i18 : sl (setI t1 0 17 (iI z)) 0 18 = lI 0 := g18
    unfold F_X5_next_114
    rw [nam_v, i17, k_3, if_neg (by rw [iI_eq (by omega) (by omega)]; omega)]
    generalize setI t1 0 17 (iI z) = t2 at f2 hB2 i15 i16 i17 i18 ⊢
    have gg : ∀ a j, ((a = 0 ∧ j = 16) ∨ (a = 100 ∧ j = 18)) → Stk a j := fun a j h => by unfold Stk; omega
    unfold sortZ at e
    by_cases a : isL T n p
    · rw [if_pos a] at e
      subst e
      obtain ⟨t', e', h1, h2, h3⟩ := e_X5_next_149 (T := T) (n := n) (p := p) (n - p) 0 t2 hB2 (by omega) i17 i15 i16 i18 (fun i hi => by omega) (by omega) FU (FU_ge (by omega))
      have f3 := (f1.tr f2).tr (h3.le gg)
      refine ⟨t', e', ⟨hB.tk f3, hp, by rw [h3.i _ _ (by omega)]; exact i15, ?_, ?_, ?_⟩, f3⟩
      · unfold tkE; rw [if_pos a]; exact h1
      · unfold sortZ; rw [if_pos a, h3.i _ _ (by omega)]; exact i17
      · unfold worZ tkE; rw [if_pos a, if_pos a]; exact h2
    · rw [if_neg a] at e
      rw [e_X5_next_149n (by rw [i17]; intro q; rw [iI_eq (by omega) (by omega)] at q; subst q; split at e <;> first | omega | (split at e <;> omega)) (FU_ge (by omega))]
      by_cases b : isD T n p
      · rw [if_pos b] at e
        subst e
        obtain ⟨t', e', h1, h2, h3⟩ := e_X5_next_243 (T := T) (n := n) (p := p) (n - p) 0 t2 hB2 (by omega) i17 i16 i18 (fun i hi => by omega) (by omega) FU (FU_ge (by omega))
        have f3 := (f1.tr f2).tr (h3.le gg)
        refine ⟨t', e', ⟨hB.tk f3, hp, by rw [h3.i _ _ (by omega)]; exact i15, ?_, ?_, ?_⟩, f3⟩
        · unfold tkE; rw [if_neg a, if_pos b]; exact h1
        · unfold sortZ; rw [if_neg a, if_pos b, h3.i _ _ (by omega)]; exact i17
        · unfold worZ tkE; rw [if_neg a, if_pos b, if_neg a, if_pos b]; exact h2
      · rw [if_neg b] at e
        have hpn : ¬ p < n := fun c => by rw [if_pos c] at e; omega
        rw [if_neg hpn] at e
        subst e
        rw [e_X5_next_243n (by rw [i17]; decide) (FU_ge (by omega))]
        refine ⟨t2, rfl, ⟨hB2, hp, i15, ?_, ?_, ?_⟩, f1.tr f2⟩
        · unfold tkE; rw [if_neg a, if_neg b, if_neg hpn]; exact i16
        · unfold sortZ; rw [if_neg a, if_neg b, if_neg hpn]; exact i17
        · unfold worZ; rw [if_neg a, if_neg b, if_neg hpn]; exact i18
  by_cases c : p = n
  · rw [if_pos (by rw [c]), k_0]
    refine key 0 (by omega) ?_
    unfold sortZ
    rw [if_neg (fun z => by have := z.1; omega), if_neg (fun z => by have := z.1; omega), if_neg (by omega)]
  · have hT := hB1.at (k := p) (by omega)
    rw [if_neg (by rw [iI_eq (by omega) (by omega)]; omega), inb_g (by omega), iI_nat (by omega), Int.toNat_natCast, hT.1, e_X5_isSmall t1 (by omega), bnd_s, k_0, k_1, k_2, k_3]
    by_cases a : isL T n p
    · have a2 := a.2
      rw [if_neg (by rw [bZ_i0]; omega)]
      refine key 1 (by omega) ?_
      unfold sortZ
      rw [if_pos a]
    · have a2 : ¬ (97 ≤ T p ∧ T p ≤ 122) := fun z => a ⟨by omega, z⟩
      rw [if_pos (by rw [bZ_i0]; omega), g15, inb_g (by omega), iI_nat (by omega), Int.toNat_natCast, hT.1, e_X5_isDigit t1 (by omega), bnd_s]
      by_cases b : isD T n p
      · have b2 := b.2
        rw [if_neg (by rw [bZ_i0]; omega)]
        refine key 2 (by omega) ?_
        unfold sortZ
        rw [if_neg a, if_pos b]
      · have b2 : ¬ (48 ≤ T p ∧ T p ≤ 57) := fun z => b ⟨by omega, z⟩
        have f2 : Fm Stk t1 (setI t1 0 17 (iI 3)) := Fm.set (by unfold Stk; omega)
        have hB2 := hB1.tk f2
        have f3 : Fm Stk (setI t1 0 17 (iI 3)) (setI (setL (setI t1 0 17 (iI 3)) 0 18 (lI (T p % 256))) 0 16 (iI ((p + 1 : Nat) : Int))) := (Fm.setL (by unfold Stk; omega)).tr (Fm.set (by unfold Stk; omega))
        have i17 : si (setI (setL (setI t1 0 17 (iI 3)) 0 18 (lI (T p % 256))) 0 16 (iI ((p + 1 : Nat) : Int))) 0 17 = iI 3 := rfl
        have i17' : si (setI t1 0 17 (iI 3)) 0 17 = iI 3 := rfl
        rw [if_pos (by rw [bZ_i0]; omega)]
        unfold F_X5_next_114
        rw [nam_v, k_3, i17', if_pos rfl, show si (setI t1 0 17 (iI 3)) 0 15 = iI p from g15, inb_g (by omega), iI_nat (by omega), Int.toNat_natCast, show si (setI t1 0 17 (iI 3)) 10 p = iI (T p % 256) from hT.1, iI_l (by omega), nam_v, show si (setL (setI t1 0 17 (iI 3)) 0 18 (lI (T p % 256))) 0 16 = iI p from g16, iI_su, nam_v, e_X5_next_149n (by rw [i17]; decide) (FU_ge (by omega)), e_X5_next_243n (by rw [i17]; decide) (FU_ge (by omega))]
        refine ⟨_, rfl, ⟨hB2.tk f3, hp, g15, ?_, ?_, ?_⟩, (f1.tr f2).tr f3⟩
        · unfold tkE; rw [if_neg a, if_neg b, if_pos (by omega), si_set, if_pos rfl, if_pos rfl]
        · unfold sortZ; rw [if_neg a, if_neg b, if_pos (by omega)]; rfl
        · unfold worZ; rw [if_neg a, if_neg b, if_pos (by omega)]; rfl
theorem e_X5_next_8 {T : Nat → Int} {n : Nat} : ∀ (k p : Nat) (t : St), TkB t T n → p ≤ n → si t 0 15 = iI p → n - p = k → ∀ fu, k < fu → ∃ t', F_X5_next_8 fu t = some ((), t') ∧ TkE t' T n (rn T n 32 32 k p) ∧ Fm Stk t t' := by
  intro k
  induction k with
  | zero =>
    intro p t hB hp h15 hk fu hfu
    obtain ⟨g, rfl⟩ : ∃ g, fu = g + 1 := ⟨fu - 1, by omega⟩
    have hn := hB.2.2.1
    simp only [F_X5_next_8]
    rw [hB.1, h15, if_pos (by rw [iI_le (by omega) (by omega)]; omega), rn]
    exact e_X5_next_46 hB hp h15
  | succ k ih =>
    intro p t hB hp h15 hk fu hfu
    obtain ⟨g, rfl⟩ : ∃ g, fu = g + 1 := ⟨fu - 1, by omega⟩
    have hn := hB.2.2.1
    have hT := hB.at (k := p) (by omega)
    simp only [F_X5_next_8]
    rw [hB.1, h15, if_neg (by rw [iI_le (by omega) (by omega)]; omega), inb_g (by omega), iI_nat (by omega), Int.toNat_natCast, hT.1, k_32, rn]
    by_cases a : T p = 32
    · have f : Fm Stk t (setI t 0 15 (iI ((p + 1 : Nat) : Int))) := Fm.set (by unfold Stk; omega)
      rw [if_pos (by rw [iI_eq (by omega) (by omega)]; omega), if_pos ⟨by omega, by omega⟩, iI_su, nam_v]
      obtain ⟨t', e, h1, h2⟩ := ih (p + 1) _ (hB.tk f) (by omega) (by rw [si_set, if_pos rfl, if_pos rfl]) (by omega) g (by omega)
      exact ⟨t', e, h1, f.tr h2⟩
    · rw [if_neg (by rw [iI_eq (by omega) (by omega)]; omega), if_neg (by omega)]
      exact e_X5_next_46 hB hp h15
theorem e_X5_next0 {T : Nat → Int} {n q : Nat} {t : St} (hB : TkB t T n) (hq : q ≤ n) (h16 : si t 0 16 = iI q) : ∃ t', F_X5_next t = some ((), t') ∧ TkE t' T n (skp T n q) ∧ Fm Stk t t' := by
  have f : Fm Stk t (setI t 0 15 (iI q)) := Fm.set (by unfold Stk; omega)
  obtain ⟨t', e, h1, h2⟩ := e_X5_next_8 (n - q) q _ (hB.tk f) hq (by rw [si_set, if_pos rfl, if_pos rfl]) rfl FU (FU_ge (by have := hB.2.2.1; omega))
  unfold F_X5_next
  rw [h16, nam_v]
  exact ⟨t', e, h1, f.tr h2⟩
theorem e_X5_next {T : Nat → Int} {n p : Nat} {t : St} (h : TkE t T n p) : ∃ t', F_X5_next t = some ((), t') ∧ TkE t' T n (nxt T n p) ∧ Fm Stk t t' := e_X5_next0 h.1 (tkE_r h.2.1).2.1 h.2.2.2.1
