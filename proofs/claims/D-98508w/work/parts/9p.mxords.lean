set_option maxRecDepth 100000
/-! ===== the model: orders ===== -/
theorem wcpH {w : WR} {a b : Nat} {i j n k : Int} (h : j ≤ k ∧ k < j + n) : wcp w a i b j n b k = w a (i + (k - j)) := if_pos ⟨rfl, h⟩
theorem wcpN {w : WR} {a b r : Nat} {i j n k : Int} (h : r ≠ b) : wcp w a i b j n r k = w r k := if_neg fun z => h z.1
/-- what was before, kept -/
def AhM (t : St) (w : WR) : Prop := (∀ k : Nat, k < 96 → si t 7 k = iI (w 15 k)) ∧ (∀ k : Nat, k < 6 → si t 7 (102 + k) = iI (w 17 k)) ∧ (∀ k : Nat, k < 16 → si t 9 k = iI (w 16 k)) ∧ ∀ k : Nat, k < 6 → si t 8 k = iI (w 18 k)
theorem AhM.go {S : Nat → Nat → Prop} {t t' : St} {w w' : WR} (h : AhM t w) (hf : Fm S t t') (hS : ∀ a j, 7 ≤ a → a ≤ 9 → ¬ S a j) (hw : ∀ r k, 15 ≤ r → w' r k = w r k) : AhM t' w' :=
  ⟨fun k hk => by rw [hf.i _ _ (hS _ _ (by omega) (by omega)), hw _ _ (by omega)]; exact h.1 k hk, fun k hk => by rw [hf.i _ _ (hS _ _ (by omega) (by omega)), hw _ _ (by omega)]; exact h.2.1 k hk, fun k hk => by rw [hf.i _ _ (hS _ _ (by omega) (by omega)), hw _ _ (by omega)]; exact h.2.2.1 k hk, fun k hk => by rw [hf.i _ _ (hS _ _ (by omega) (by omega)), hw _ _ (by omega)]; exact h.2.2.2 k hk⟩
theorem Srn_ah {a j : Nat} (h1 : 7 ≤ a) (h2 : a ≤ 9) : ¬ Srn a j := by unfold Srn Reg inM Scr; omega
/-! given back -/
def Sgb (a j : Nat) : Prop := (a = 5 ∧ j < 108) ∨ (a = 6 ∧ j < 16) ∨ (a = 0 ∧ j = 8) ∨ (a = 2 ∧ 16 ≤ j ∧ j ≤ 42 ∧ (j % 5 = 1 ∨ j % 5 = 2))
theorem e_X5_giveBack_2 {many : Int32} : ∀ (n k : Nat) (t : St), 108 = n + k → (∀ j, j < k → si t 5 j = si t 7 j) → ∀ fu, n < fu → ∃ t', F_X5_giveBack_2 fu t many (iI k) = F_X5_giveBack_28 FU t' many (iI 0) ∧ Fm (fun a j => a = 5 ∧ j < 108) t t' ∧ ∀ j, j < 108 → si t' 5 j = si t 7 j := by
  intro n
  induction n with
  | zero =>
    intro k t hk hc fu hfu
    obtain ⟨g, rfl⟩ : ∃ g, fu = g + 1 := ⟨fu - 1, by omega⟩
    refine ⟨t, ?_, Fm.rf, fun j hj => hc j (by omega)⟩
    simp only [F_X5_giveBack_2]
    rw [show (108 : Int32) = iI 108 from rfl, if_pos (by rw [iI_le (by omega) (by omega)]; omega), k_0]
  | succ n ih =>
    intro k t hk hc fu hfu
    obtain ⟨g, rfl⟩ : ∃ g, fu = g + 1 := ⟨fu - 1, by omega⟩
    have f : Fm (fun a j => a = 5 ∧ j = k) t (setI t 5 k (si t 7 k)) := Fm.set ⟨rfl, rfl⟩
    obtain ⟨t', e, f', h'⟩ := ih (k + 1) _ (by omega) (fun j hj => by
      rw [f.i 7 j (by omega)]
      by_cases ej : j = k
      · rw [ej, si_set, if_pos rfl, if_pos rfl]
      · rw [f.i _ _ (by omega)]; exact hc j (by omega)) g (by omega)
    refine ⟨t', ?_, (f.le fun a j z => by omega).tr f', fun j hj => by rw [h' j hj]; exact f.i _ _ (by omega)⟩
    simp only [F_X5_giveBack_2]
    rw [show (108 : Int32) = iI 108 from rfl, if_neg (by rw [iI_le (by omega) (by omega)]; omega), inb_g (by omega), inb_g (by omega), iI_nat (by omega), Int.toNat_natCast, nam_v, iI_su]
    exact e
theorem e_X5_giveBack_65 : ∀ (n k : Nat) (t : St), 6 = n + k → (∀ j, j < k → si t 2 (17 + 5 * j) = si t 8 j) → ∀ fu, n < fu → ∃ t', F_X5_giveBack_65 fu t (iI k) = some ((), t') ∧ Fm (fun a j => a = 2 ∧ 16 ≤ j ∧ j ≤ 42 ∧ j % 5 = 2) t t' ∧ ∀ j, j < 6 → si t' 2 (17 + 5 * j) = si t 8 j := by
  intro n
  induction n with
  | zero =>
    intro k t hk hc fu hfu
    obtain ⟨g, rfl⟩ : ∃ g, fu = g + 1 := ⟨fu - 1, by omega⟩
    refine ⟨t, ?_, Fm.rf, fun j hj => hc j (by omega)⟩
    simp only [F_X5_giveBack_65]
    rw [k_6, if_pos (by rw [iI_le (by omega) (by omega)]; omega)]
  | succ n ih =>
    intro k t hk hc fu hfu
    obtain ⟨g, rfl⟩ : ∃ g, fu = g + 1 := ⟨fu - 1, by omega⟩
    have f : Fm (fun a j => a = 2 ∧ j = 17 + 5 * k) t (setI t 2 (17 + 5 * k) (si t 8 k)) := Fm.set ⟨rfl, rfl⟩
    obtain ⟨t', e, f', h'⟩ := ih (k + 1) _ (by omega) (fun j hj => by
      rw [f.i 8 j (by omega)]
      by_cases ej : j = k
      · rw [ej, si_set, if_pos rfl, if_pos rfl]
      · rw [f.i _ _ (by omega)]; exact hc j (by omega)) g (by omega)
    refine ⟨t', ?_, (f.le fun a j z => by omega).tr f', fun j hj => by rw [h' j hj]; exact f.i _ _ (by omega)⟩
    simp only [F_X5_giveBack_65]
    rw [k_6, if_neg (by rw [iI_le (by omega) (by omega)]; omega), inb_g (by omega), show (13 : Int32) = iI 13 from rfl, show (5 : Int32) = iI 5 from rfl, show (4 : Int32) = iI 4 from rfl, iI_mul, iI_add, iI_add, inb_g (by omega), iI_nat (by omega), iI_nat (by omega), Int.toNat_natCast, show (13 + 5 * (k : Int) + 4).toNat = 17 + 5 * k by omega, nam_v, iI_su]
    exact e
theorem e_X5_giveBack_28 {many : Int} {p : Nat → Int} : ∀ (n k : Nat) (t : St), 16 = n + k → (∀ j, j < k → si t 6 j = si t 9 j) → (∀ i, i < 6 → si t 5 (102 + i) = iI (p i)) → ∀ fu, n < fu → ∃ t', F_X5_giveBack_28 fu t (iI many) (iI k) = some ((), t') ∧ Fm (fun a j => (a = 6 ∧ j < 16) ∨ (a = 0 ∧ j = 8) ∨ (a = 2 ∧ 16 ≤ j ∧ j ≤ 42 ∧ (j % 5 = 1 ∨ j % 5 = 2))) t t' ∧ (∀ j, j < 16 → si t' 6 j = si t 9 j) ∧ si t' 0 8 = iI many ∧ (∀ i, i < 6 → si t' 2 (16 + 5 * i) = iI (p i)) ∧ ∀ j, j < 6 → si t' 2 (17 + 5 * j) = si t 8 j := by
  intro n
  induction n with
  | zero =>
    intro k t hk hc hp fu hfu
    obtain ⟨g, rfl⟩ : ∃ g, fu = g + 1 := ⟨fu - 1, by omega⟩
    have f1 : Fm (fun a j => a = 0 ∧ j = 8) t (setI t 0 8 (iI many)) := Fm.set ⟨rfl, rfl⟩
    obtain ⟨t2, e2, f2, c2⟩ := e_X5_putBack (a := 102) (p := p) (t := setI t 0 8 (iI many)) (by omega) (fun i hi => by rw [f1.i _ _ (by omega)]; exact hp i hi)
    obtain ⟨t3, e3, f3, c3⟩ := e_X5_giveBack_65 6 0 t2 (by omega) (fun j hj => by omega) FU (FU_ge (by omega))
    refine ⟨t3, ?_, ((f1.le fun a j z => by omega).tr (f2.le fun a j z => by unfold Sc3 at z; omega)).tr (f3.le fun a j z => by omega), fun j hj => ?_, ?_, fun i hi => ?_, fun j hj => ?_⟩
    · simp only [F_X5_giveBack_28]
      rw [k_16, if_pos (by rw [iI_le (by omega) (by omega)]; omega), nam_v, show (102 : Int32) = iI ((102 : Nat) : Int) from rfl, e2, bnd_s, k_0]
      exact e3
    · rw [f3.i _ _ (by omega), f2.i _ _ (by unfold Sc3; omega), f1.i _ _ (by omega)]; exact hc j (by omega)
    · rw [f3.i _ _ (by omega), f2.i _ _ (by unfold Sc3; omega), si_set, if_pos rfl, if_pos rfl]
    · rw [f3.i _ _ (by omega)]; exact c2 i hi
    · rw [c3 j hj, f2.i _ _ (by unfold Sc3; omega), f1.i _ _ (by omega)]
  | succ n ih =>
    intro k t hk hc hp fu hfu
    obtain ⟨g, rfl⟩ : ∃ g, fu = g + 1 := ⟨fu - 1, by omega⟩
    have f : Fm (fun a j => a = 6 ∧ j = k) t (setI t 6 k (si t 9 k)) := Fm.set ⟨rfl, rfl⟩
    obtain ⟨t', e, f', h1, h2, h3, h4⟩ := ih (k + 1) _ (by omega) (fun j hj => by
      rw [f.i 9 j (by omega)]
      by_cases ej : j = k
      · rw [ej, si_set, if_pos rfl, if_pos rfl]
      · rw [f.i _ _ (by omega)]; exact hc j (by omega)) (fun i hi => by rw [f.i _ _ (by omega)]; exact hp i hi) g (by omega)
    refine ⟨t', ?_, (f.le fun a j z => by omega).tr f', fun j hj => by rw [h1 j hj]; exact f.i _ _ (by omega), h2, h3, fun j hj => by rw [h4 j hj]; exact f.i _ _ (by omega)⟩
    simp only [F_X5_giveBack_28]
    rw [k_16, if_neg (by rw [iI_le (by omega) (by omega)]; omega), inb_g (by omega), inb_g (by omega), iI_nat (by omega), Int.toNat_natCast, nam_v, iI_su]
    exact e
theorem pb_13 {w : WR} {many k : Int} (h : 0 ≤ k ∧ k < 96) : pbW w many 13 k = w 15 k := by
  unfold pbW
  rw [wup_n (by omega), wcpN (by omega), wcpH (by omega), wcpN (by omega), wcpN (by omega), show 0 + (k - 0) = k by omega]
theorem pb_14 {w : WR} {many k : Int} (h : 0 ≤ k ∧ k < 16) : pbW w many 14 k = w 16 k := by
  unfold pbW
  rw [wup_n (by omega), wcpH (by omega), wcpN (by omega), wcpN (by omega), wcpN (by omega), show 0 + (k - 0) = k by omega]
theorem pb_3 {w : WR} {many k : Int} (h : 0 ≤ k ∧ k < 6) : pbW w many 3 k = w 17 k := by
  unfold pbW
  rw [wup_n (by omega), wcpN (by omega), wcpN (by omega), wcpN (by omega), wcpH (by omega), show 0 + (k - 0) = k by omega]
theorem pb_7 {w : WR} {many k : Int} (h : 0 ≤ k ∧ k < 6) : pbW w many 7 k = w 18 k := by
  unfold pbW
  rw [wup_n (by omega), wcpN (by omega), wcpN (by omega), wcpH (by omega), wcpN (by omega), show 0 + (k - 0) = k by omega]
theorem pb_o {w : WR} {many k : Int} {r : Nat} (h : r ≠ 3 ∧ r ≠ 7 ∧ r ≠ 13 ∧ r ≠ 14) (h2 : ¬ (r = 0 ∧ k = 15)) : pbW w many r k = w r k := by
  unfold pbW
  rw [wup_k2 h2, wcpN h.2.2.2, wcpN h.2.2.1, wcpN h.2.1, wcpN h.1]
theorem e_X5_giveBack {t : St} {w : WR} {ls : List (List DC)} (hM : M0 t w ls) (hA : AhM t w) {many : Int} : ∃ t', F_X5_giveBack t (iI many) = some ((), t') ∧ M0 t' (pbW w many) ls ∧ Fm Reg t t' := by
  obtain ⟨t1, e1, f1, c1⟩ := e_X5_giveBack_2 (many := iI many) 108 0 t (by omega) (fun j hj => by omega) FU (FU_ge (by omega))
  obtain ⟨t2, e2, f2, c2, c3, c4, c5⟩ := e_X5_giveBack_28 (many := many) (p := fun i => w 17 i) 16 0 t1 (by omega) (fun j hj => by omega) (fun i hi => by rw [c1 _ (by omega)]; exact hA.2.1 i hi) FU (FU_ge (by omega))
  have F : Fm Sgb t t2 := (f1.le fun a j z => by unfold Sgb; omega).tr (f2.le fun a j z => by unfold Sgb; omega)
  have FR : Fm Reg t t2 := F.le fun a j z => by
    unfold Sgb at z
    rcases z with z | z | z | z
    · by_cases q : j < 96
      · exact Or.inl (by unfold inM; omega)
      · exact Or.inr (by unfold Scr; omega)
    · exact Or.inl (by unfold inM; omega)
    · exact Or.inl (by unfold inM; omega)
    · exact Or.inl (by unfold inM; omega)
  refine ⟨t2, ?_, hM.regs FR fun r k h0 hr => ?_, FR⟩
  · unfold F_X5_giveBack
    rw [k_0]
    have e1' : F_X5_giveBack_2 FU t (iI many) (iI 0) = F_X5_giveBack_28 FU t1 (iI many) (iI 0) := e1
    rw [e1']
    exact e2
  · have hm := relM_m hr
    have hq := hM.1 r k h0 hr
    unfold rgs at hm
    simp only [List.mem_cons, List.not_mem_nil, or_false] at hm
    rcases hm with rfl | rfl | rfl | rfl | rfl | rfl | rfl | rfl | rfl | rfl | rfl | rfl | rfl | rfl
    · by_cases c : k = 15
      · subst c
        exact c3
      · rw [pb_o (by omega) (by omega), ← hq]
        refine F.i _ _ fun z => c ?_
        have z : mK 0 k = 8 := by
          have z' : Sgb 0 (mK 0 k) := z
          unfold Sgb at z'
          omega
        exact mK0_inj hr (show (15 : Int) = 0 ∨ (11 ≤ (15 : Int) ∧ (15 : Int) ≤ 15) ∨ (15 : Int) = 26 by omega) z
    · rw [pb_o (by omega) (by omega), ← hq]
      exact F.i _ _ fun z => by have z : Sgb 1 k.toNat := z; unfold Sgb at z; omega
    · have hr : 8 ≤ k ∧ k ≤ 10 := hr
      rw [pb_o (by omega) (by omega), ← hq]
      exact F.i _ _ fun z => by have z : Sgb 2 (k - 8 + (k - 8) / 2).toNat := z; unfold Sgb at z; omega
    · have hr : k < 6 := hr
      rw [pb_3 ⟨h0, hr⟩]
      have := c4 k.toNat (by omega)
      rw [show 16 + 5 * k.toNat = (16 + 5 * k).toNat by omega, show ((k.toNat : Nat) : Int) = k by omega] at this
      exact this
    · have hr : k < 6 := hr
      rw [pb_o (by omega) (by omega), ← hq]
      exact F.i _ _ fun z => by have z : Sgb 2 (13 + 5 * k).toNat := z; unfold Sgb at z; omega
    · have hr : k < 6 := hr
      rw [pb_o (by omega) (by omega), ← hq]
      exact F.i _ _ fun z => by have z : Sgb 2 (14 + 5 * k).toNat := z; unfold Sgb at z; omega
    · have hr : k < 6 := hr
      rw [pb_o (by omega) (by omega), ← hq]
      exact F.i _ _ fun z => by have z : Sgb 2 (15 + 5 * k).toNat := z; unfold Sgb at z; omega
    · have hr : k < 6 := hr
      rw [pb_7 ⟨h0, hr⟩]
      have := c5 k.toNat (by omega)
      rw [f1.i _ _ (by omega), hA.2.2.2 k.toNat (by omega), show 17 + 5 * k.toNat = (17 + 5 * k).toNat by omega, show ((k.toNat : Nat) : Int) = k by omega] at this
      exact this
    · have hr : k < 9 := hr
      rw [pb_o (by omega) (by omega), ← hq]
      exact F.i _ _ fun z => by have z : Sgb 2 (4 + k).toNat := z; unfold Sgb at z; omega
    · have hr : k < 8 := hr
      rw [pb_o (by omega) (by omega), ← hq]
      exact F.i _ _ fun z => by have z : Sgb 2 (43 + k).toNat := z; unfold Sgb at z; omega
    · have hr : k < 96 := hr
      rw [pb_13 ⟨h0, hr⟩]
      have h1 := hA.1 k.toNat (by omega)
      rw [show ((k.toNat : Nat) : Int) = k by omega] at h1
      show si t2 5 k.toNat = _
      rw [f2.i _ _ (by omega), c1 _ (by omega), h1]
    · have hr : k < 16 := hr
      rw [pb_14 ⟨h0, hr⟩]
      have h1 := hA.2.2.1 k.toNat (by omega)
      rw [show ((k.toNat : Nat) : Int) = k by omega] at h1
      show si t2 6 k.toNat = _
      rw [c2 _ (by omega), f1.i _ _ (by omega), h1]
    · rw [pb_o (by omega) (by omega), ← hq]
      exact F.i _ _ fun z => by have z : Sgb 28 (2 * k).toNat := z; unfold Sgb at z; omega
    · rw [pb_o (by omega) (by omega), ← hq]
      exact F.i _ _ fun z => by have z : Sgb 28 (2 * k + 1).toNat := z; unfold Sgb at z; omega
/-! the loops -/
theorem e_X5_orders_175 {ls : List (List DC)} {C : CD} {nc : Nat} {cs : List OC} {i : Nat} {c : OC} (hc : cs[i]? = some c) {many : Int} {k165 : St → Int32 → Int32 → Option (Int32 × St)} : ∀ (j tt : Nat) (t : St) (w : WR) (d r : Int), M0 t w ls → Wf w ls → Wx w → OdM t C nc cs → AhM t w → si t 0 59 = iI d → si t 0 60 = iI r → (0 ≤ d ∧ d + j ≤ 1000) → (-1 ≤ r ∧ r ≤ 1000) → c.2.2.1.toNat = j + tt → ∀ fu, j < fu →
    (∀ w', tmsF ls c j (w, d, r) = .inl w' → ∃ t', F_X5_orders_175 k165 fu t (iI many) (iI i) (iI tt) = some (iI (-3), t') ∧ M0 t' (badW w' many i) ls ∧ Fm Srn t t') ∧
    (∀ q, tmsF ls c j (w, d, r) = .inr q → ∃ t', F_X5_orders_175 k165 fu t (iI many) (iI i) (iI tt) = k165 t' (iI many) (iI ((i + 1 : Nat) : Int)) ∧ M0 t' q.1 ls ∧ Wf q.1 ls ∧ Wx q.1 ∧ AhM t' q.1 ∧ (si t' 0 59 = iI q.2.1 ∧ si t' 0 60 = iI q.2.2) ∧ (0 ≤ q.2.1 ∧ q.2.1 ≤ d + j) ∧ (-1 ≤ q.2.2 ∧ q.2.2 ≤ 1000) ∧ Fm Srn t t') := by
  intro j
  induction j with
  | zero =>
    intro tt t w d r hM hW hX hO hA h59 h60 hd hr htt fu hfu
    obtain ⟨g, rfl⟩ : ∃ g, fu = g + 1 := ⟨fu - 1, by omega⟩
    obtain ⟨⟨-, -, -, -, o5, -⟩, hi⟩ := hO.at hc
    refine ⟨fun w' e => (by rw [tmsF] at e; cases e), fun q e => ?_⟩
    rw [tmsF] at e
    cases e
    refine ⟨t, ?_, hM, hW, hX, hA, ⟨h59, h60⟩, ⟨hd.1, by show d ≤ d + _; omega⟩, hr, Fm.rf⟩
    simp only [F_X5_orders_175]
    rw [k_8, iI_mul, show (7 : Int32) = iI 7 from rfl, iI_add, inb_g (by omega), iI_nat (by omega), show (8 * (i : Int) + 7).toNat = 8 * i + 7 by omega, o5.1, if_pos (by rw [iI_le (by omega) (by omega)]; omega), iI_su]
  | succ j ih =>
    intro tt t w d r hM hW hX hO hA h59 h60 hd hr htt fu hfu
    obtain ⟨g, rfl⟩ : ∃ g, fu = g + 1 := ⟨fu - 1, by omega⟩
    obtain ⟨⟨-, -, -, -, o5, -⟩, hi⟩ := hO.at hc
    have hp := run_pure hW hX (c := c) (v := vOrd w d r)
    obtain ⟨t1, f1, h1, h2⟩ := e_X5_run hM hW hX hO hc (d := d) (r := r) (by omega) hr h59 h60
    have hO1 := hO.go f1
    have pre : ∀ z : Int, F_X5_run t (iI ((8 * i : Nat) : Int)) = some (iI z, t1) → F_X5_orders_175 k165 (g + 1) t (iI many) (iI i) (iI tt) = if iI 0 ≤ iI z then F_X5_orders_175 k165 g t1 (iI many) (iI i) (iI ((tt + 1 : Nat) : Int)) else (bnd (F_X5_giveBack t1 (iI many)) fun _ s8 => nam (setI s8 0 61 (iI i)) fun s10 => bnd (F_X5_tell s10 (iI (-3))) fun r12 s13 => some (r12, s13)) := fun z e => by
      simp only [F_X5_orders_175]
      rw [k_8, iI_mul, show (7 : Int32) = iI 7 from rfl, iI_add, inb_g (by omega), iI_nat (by omega), show (8 * (i : Int) + 7).toNat = 8 * i + 7 by omega, o5.1, if_neg (by rw [iI_le (by omega) (by omega)]; omega), show (8 * (i : Int)) = ((8 * i : Nat) : Int) by omega, e, bnd_s, iI_su]
      rfl
    rw [tmsF]
    by_cases a1 : nowP c.2.2.2 (vOrd w d r)
    · obtain ⟨h3, h4⟩ := h1 a1
      rw [if_pos a1]
      by_cases a2 : runV w ls c (vOrd w d r) < 0
      · obtain ⟨e, hM1⟩ := h3 a2
        rw [if_pos a2]
        refine ⟨fun w' ew => ?_, fun q eq => by cases eq⟩
        cases ew
        rw [hp.2.2.1 a2, pre _ e, if_neg (by decide)]
        obtain ⟨t2, e2, hM2, f2⟩ := e_X5_giveBack hM1 (hA.go f1 (fun a j h1 h2 => Srn_ah h1 h2) fun _ _ _ => rfl) (many := many)
        have hM3 := hM2.set (r := 0) (k := 14) (v := i) (a := 0) (j := 61) (by show _ ∨ _; omega) (by omega) rfl rfl
        obtain ⟨t4, e4, hM4, f4⟩ := OpM.tellN hM3 (v := -3) (by omega)
        rw [e2, bnd_s, nam_v]
        exact ⟨t4, e4, hM4, ((f1.tr (f2.le fun _ _ => Or.inl)).tr (Fm.set (Or.inl (Or.inl (by unfold inM; omega))))).tr (f4.le fun _ _ => Or.inl)⟩
      · obtain ⟨e, hM1, g59, g60⟩ := h4 (by omega)
        rw [if_neg a2, pre _ e, if_pos (show iI 0 ≤ iI 0 by decide)]
        have ng : -1 ≤ (if c.1 = 1 then runV w ls c (vOrd w d r) else r) ∧ (if c.1 = 1 then runV w ls c (vOrd w d r) else r) ≤ 1000 := by
          split <;> omega
        obtain ⟨i1, i2⟩ := ih (tt + 1) t1 _ (d + 1) _ hM1 hp.1.1 hp.1.2 hO1 (hA.go f1 (fun a j h1 h2 => Srn_ah h1 h2) hp.2.1) g59 g60 (by omega) ng (by omega) g (by omega)
        refine ⟨fun w' ew => ?_, fun q eq => ?_⟩
        · obtain ⟨t', e', hM', f'⟩ := i1 w' ew
          exact ⟨t', e', hM', f1.tr f'⟩
        · obtain ⟨t', e', b1, b2, b3, b4, b5, b6, b7, f'⟩ := i2 q eq
          exact ⟨t', e', b1, b2, b3, b4, b5, by omega, b7, f1.tr f'⟩
    · obtain ⟨e, hM1, g59, g60⟩ := h2 a1
      rw [if_neg a1, pre _ e, if_pos (show iI 0 ≤ iI 0 by decide)]
      obtain ⟨i1, i2⟩ := ih (tt + 1) t1 w d r hM1 hW hX hO1 (hA.go f1 (fun a j h1 h2 => Srn_ah h1 h2) fun _ _ _ => rfl) g59 g60 (by omega) hr (by omega) g (by omega)
      refine ⟨fun w' ew => ?_, fun q eq => ?_⟩
      · obtain ⟨t', e', hM', f'⟩ := i1 w' ew
        exact ⟨t', e', hM', f1.tr f'⟩
      · obtain ⟨t', e', b1, b2, b3, b4, b5, b6, b7, f'⟩ := i2 q eq
        exact ⟨t', e', b1, b2, b3, b4, b5, by omega, b7, f1.tr f'⟩
theorem e_X5_orders_165 {ls : List (List DC)} {C : CD} {nc : Nat} {cs : List OC} {many : Int} : ∀ (j i : Nat) (t : St) (w : WR) (d r : Int), M0 t w ls → Wf w ls → Wx w → OdM t C nc cs → AhM t w → si t 0 59 = iI d → si t 0 60 = iI r → (0 ≤ d ∧ d ≤ 20 * i) → (-1 ≤ r ∧ r ≤ 1000) → cs.length = j + i → ∀ fu, j < fu → ∃ t', F_X5_orders_165 fu t (iI many) (iI i) = some (iI (ordEndV (ordsF ls (cs.drop i) i (w, d, r))), t') ∧ M0 t' (ordEndW many (ordsF ls (cs.drop i) i (w, d, r))) ls ∧ Fm Srn t t' := by
  intro j
  induction j with
  | zero =>
    intro i t w d r hM hW hX hO hA h59 h60 hd hr hi fu hfu
    obtain ⟨g, rfl⟩ : ∃ g, fu = g + 1 := ⟨fu - 1, by omega⟩
    have h12 := hO.2.2.2.2
    rw [List.drop_eq_nil_of_le (by omega), ordsF]
    simp only [F_X5_orders_165]
    rw [hO.2.2.2.1, if_pos (by rw [iI_le (by omega) (by omega)]; omega), h59]
    obtain ⟨t', e, hM', f⟩ := OpM.tell0 hM (v := d) (by omega)
    exact ⟨t', e, hM', f.le fun _ _ => Or.inl⟩
  | succ j ih =>
    intro i t w d r hM hW hX hO hA h59 h60 hd hr hi fu hfu
    obtain ⟨g, rfl⟩ : ∃ g, fu = g + 1 := ⟨fu - 1, by omega⟩
    have h12 := hO.2.2.2.2
    obtain ⟨c, hc, hdr⟩ := drop_cons (l := cs) (i := i) (by omega)
    obtain ⟨⟨-, -, -, -, o5, -⟩, hi12⟩ := hO.at hc
    obtain ⟨h1, h2⟩ := e_X5_orders_175 hc (k165 := F_X5_orders_165 g) c.2.2.1.toNat 0 t w d r hM hW hX hO hA h59 h60 (many := many) (by omega) hr (by omega) FU (FU_ge (by omega))
    rw [hdr, ordsF]
    have pre : F_X5_orders_165 (g + 1) t (iI many) (iI i) = F_X5_orders_175 (F_X5_orders_165 g) FU t (iI many) (iI i) (iI ((0 : Nat) : Int)) := by
      simp only [F_X5_orders_165]
      rw [hO.2.2.2.1, if_neg (by rw [iI_le (by omega) (by omega)]; omega)]
      rfl
    rw [pre]
    cases et : tmsF ls c c.2.2.1.toNat (w, d, r) with
    | inl w' =>
      obtain ⟨t', e, hM', f⟩ := h1 w' et
      exact ⟨t', e, hM', f⟩
    | inr q =>
      obtain ⟨t1, e, b1, b2, b3, b4, b5, b6, b7, f1⟩ := h2 q et
      rw [e]
      obtain ⟨t', e', hM', f'⟩ := ih (i + 1) t1 q.1 q.2.1 q.2.2 b1 b2 b3 (hO.go f1) b4 b5.1 b5.2 (by omega) b7 (by omega) g (by omega)
      exact ⟨t', e', hM', f1.tr f'⟩
/-! kept ahead -/
def Sah (a j : Nat) : Prop := (7 ≤ a ∧ a ≤ 9) ∨ (a = 0 ∧ (j = 59 ∨ j = 60))
theorem e_X5_orders_129 {had : Int32} {p : Nat → Int} : ∀ (n k : Nat) (t : St), 6 = n + k → (∀ c, c < 6 → si t 2 (17 + 5 * c) = iI (p c)) → (∀ j, j < k → si t 8 j = iI (p j)) → ∀ fu, n < fu → ∃ t', F_X5_orders_129 fu t had (iI k) = F_X5_orders_165 FU t' had (iI 0) ∧ Fm (fun a j => a = 8 ∨ (a = 0 ∧ (j = 59 ∨ j = 60))) t t' ∧ (∀ j, j < 6 → si t' 8 j = iI (p j)) ∧ si t' 0 59 = iI 0 ∧ si t' 0 60 = iI (-1) := by
  intro n
  induction n with
  | zero =>
    intro k t hk hp hc fu hfu
    obtain ⟨g, rfl⟩ : ∃ g, fu = g + 1 := ⟨fu - 1, by omega⟩
    have f : Fm (fun a j => a = 0 ∧ (j = 59 ∨ j = 60)) t (setI (setI t 0 59 (iI 0)) 0 60 (iI (-1))) := (Fm.set (by omega)).tr (Fm.set (by omega))
    refine ⟨_, ?_, f.le fun a j z => by omega, fun j hj => by rw [f.i _ _ (by omega)]; exact hc j (by omega), rfl, rfl⟩
    simp only [F_X5_orders_129]
    rw [k_6, if_pos (by rw [iI_le (by omega) (by omega)]; omega), k_m1, k_0, nam_v, nam_v]
  | succ n ih =>
    intro k t hk hp hc fu hfu
    obtain ⟨g, rfl⟩ : ∃ g, fu = g + 1 := ⟨fu - 1, by omega⟩
    have f : Fm (fun a j => a = 8 ∧ j = k) t (setI t 8 k (iI (p k))) := Fm.set ⟨rfl, rfl⟩
    obtain ⟨t', e, f', h'⟩ := ih (k + 1) _ (by omega) (fun c hc => by rw [f.i _ _ (by omega)]; exact hp c hc) (fun j hj => by
      by_cases ej : j = k
      · rw [ej, si_set, if_pos rfl, if_pos rfl]
      · rw [f.i _ _ (by omega)]; exact hc j (by omega)) g (by omega)
    refine ⟨t', ?_, (f.le fun a j z => Or.inl z.1).tr f', h'⟩
    simp only [F_X5_orders_129]
    rw [k_6, if_neg (by rw [iI_le (by omega) (by omega)]; omega), k_4, e_of t (by omega) (by omega), bnd_s, show (13 + 5 * (k : Int) + 4).toNat = 17 + 5 * k by omega, hp k (by omega), inb_g (by omega), iI_nat (by omega), Int.toNat_natCast, nam_v, iI_su]
    exact e
theorem e_X5_orders_103 {had : Int32} {p : Nat → Int} : ∀ (n k : Nat) (t : St), 16 = n + k → (∀ c, c < 6 → si t 2 (17 + 5 * c) = iI (p c)) → (∀ j, j < k → si t 9 j = si t 6 j) → ∀ fu, n < fu → ∃ t', F_X5_orders_103 fu t had (iI k) = F_X5_orders_165 FU t' had (iI 0) ∧ Fm (fun a j => a = 9 ∨ a = 8 ∨ (a = 0 ∧ (j = 59 ∨ j = 60))) t t' ∧ (∀ j, j < 16 → si t' 9 j = si t 6 j) ∧ (∀ j, j < 6 → si t' 8 j = iI (p j)) ∧ si t' 0 59 = iI 0 ∧ si t' 0 60 = iI (-1) := by
  intro n
  induction n with
  | zero =>
    intro k t hk hp hc fu hfu
    obtain ⟨g, rfl⟩ : ∃ g, fu = g + 1 := ⟨fu - 1, by omega⟩
    obtain ⟨t', e, f, h1, h2⟩ := e_X5_orders_129 (had := had) 6 0 t (by omega) hp (fun j hj => by omega) FU (FU_ge (by omega))
    refine ⟨t', ?_, f.le fun a j z => by omega, fun j hj => by rw [f.i _ _ (by omega)]; exact hc j (by omega), h1, h2⟩
    simp only [F_X5_orders_103]
    rw [k_16, if_pos (by rw [iI_le (by omega) (by omega)]; omega), k_0]
    exact e
  | succ n ih =>
    intro k t hk hp hc fu hfu
    obtain ⟨g, rfl⟩ : ∃ g, fu = g + 1 := ⟨fu - 1, by omega⟩
    have f : Fm (fun a j => a = 9 ∧ j = k) t (setI t 9 k (si t 6 k)) := Fm.set ⟨rfl, rfl⟩
    obtain ⟨t', e, f', h1, h2⟩ := ih (k + 1) _ (by omega) (fun c hc => by rw [f.i _ _ (by omega)]; exact hp c hc) (fun j hj => by
      rw [f.i 6 j (by omega)]
      by_cases ej : j = k
      · rw [ej, si_set, if_pos rfl, if_pos rfl]
      · rw [f.i _ _ (by omega)]; exact hc j (by omega)) g (by omega)
    refine ⟨t', ?_, (f.le fun a j z => Or.inl z.1).tr f', fun j hj => by rw [h1 j hj]; exact f.i _ _ (by omega), h2⟩
    simp only [F_X5_orders_103]
    rw [k_16, if_neg (by rw [iI_le (by omega) (by omega)]; omega), inb_g (by omega), inb_g (by omega), iI_nat (by omega), Int.toNat_natCast, nam_v, iI_su]
    exact e
theorem e_X5_orders_77 {had : Int32} {p : Nat → Int} : ∀ (n k : Nat) (t : St), 108 = n + k → (∀ c, c < 6 → si t 2 (17 + 5 * c) = iI (p c)) → (∀ j, j < k → si t 7 j = si t 5 j) → ∀ fu, n < fu → ∃ t', F_X5_orders_77 fu t had (iI k) = F_X5_orders_165 FU t' had (iI 0) ∧ Fm Sah t t' ∧ (∀ j, j < 108 → si t' 7 j = si t 5 j) ∧ (∀ j, j < 16 → si t' 9 j = si t 6 j) ∧ (∀ j, j < 6 → si t' 8 j = iI (p j)) ∧ si t' 0 59 = iI 0 ∧ si t' 0 60 = iI (-1) := by
  intro n
  induction n with
  | zero =>
    intro k t hk hp hc fu hfu
    obtain ⟨g, rfl⟩ : ∃ g, fu = g + 1 := ⟨fu - 1, by omega⟩
    obtain ⟨t', e, f, h1, h2⟩ := e_X5_orders_103 (had := had) 16 0 t (by omega) hp (fun j hj => by omega) FU (FU_ge (by omega))
    refine ⟨t', ?_, f.le fun a j z => by unfold Sah; omega, fun j hj => by rw [f.i _ _ (by omega)]; exact hc j (by omega), h1, h2⟩
    simp only [F_X5_orders_77]
    rw [show (108 : Int32) = iI 108 from rfl, if_pos (by rw [iI_le (by omega) (by omega)]; omega), k_0]
    exact e
  | succ n ih =>
    intro k t hk hp hc fu hfu
    obtain ⟨g, rfl⟩ : ∃ g, fu = g + 1 := ⟨fu - 1, by omega⟩
    have f : Fm (fun a j => a = 7 ∧ j = k) t (setI t 7 k (si t 5 k)) := Fm.set ⟨rfl, rfl⟩
    obtain ⟨t', e, f', h1, h2, h3⟩ := ih (k + 1) _ (by omega) (fun c hc => by rw [f.i _ _ (by omega)]; exact hp c hc) (fun j hj => by
      rw [f.i 5 j (by omega)]
      by_cases ej : j = k
      · rw [ej, si_set, if_pos rfl, if_pos rfl]
      · rw [f.i _ _ (by omega)]; exact hc j (by omega)) g (by omega)
    refine ⟨t', ?_, (f.le fun a j z => Or.inl (by omega)).tr f', fun j hj => by rw [h1 j hj]; exact f.i _ _ (by omega), fun j hj => by rw [h2 j hj]; exact f.i _ _ (by omega), h3⟩
    simp only [F_X5_orders_77]
    rw [show (108 : Int32) = iI 108 from rfl, if_neg (by rw [iI_le (by omega) (by omega)]; omega), inb_g (by omega), inb_g (by omega), iI_nat (by omega), Int.toNat_natCast, nam_v, iI_su]
    exact e
theorem M0.ah {t t' : St} {w : WR} {ls : List (List DC)} (h : M0 t w ls) (hf : Fm Sah t t') : M0 t' w ls := by
  obtain ⟨q1, q2, q3, q4⟩ := h
  have g2 : ∀ j, si t' 2 j = si t 2 j := fun j => hf.i _ _ (by unfold Sah; omega)
  exact ⟨q1.go hf fun a j hi z => by unfold inM at hi; unfold Sah at z; omega, by rw [g2]; exact q2, by rw [hf.i _ _ (by unfold Sah; omega)]; exact q3, fun i law e => (q4 i law e).go fun j _ _ => g2 j⟩
theorem ah_ge {w : WR} {r : Nat} {k : Int} : ((0 ≤ k ∧ k < 6) → ahW w 17 k = w 3 k) ∧ ((0 ≤ k ∧ k < 6) → ahW w 18 k = w 7 k) ∧ ((0 ≤ k ∧ k < 96) → ahW w 15 k = w 13 k) ∧ ((0 ≤ k ∧ k < 16) → ahW w 16 k = w 14 k) ∧ (r < 15 ∨ 18 < r → ahW w r k = w r k) := by
  unfold ahW
  refine ⟨fun h => ?_, fun h => ?_, fun h => ?_, fun h => ?_, fun h => ?_⟩
  · rw [wcpN (by omega), wcpN (by omega), wcpN (by omega), wcpH (by omega), show 0 + (k - 0) = k by omega]
  · rw [wcpN (by omega), wcpN (by omega), wcpH (by omega), wcpN (by omega), show 0 + (k - 0) = k by omega]
  · rw [wcpN (by omega), wcpH (by omega), wcpN (by omega), wcpN (by omega), show 0 + (k - 0) = k by omega]
  · rw [wcpH (by omega), wcpN (by omega), wcpN (by omega), wcpN (by omega), show 0 + (k - 0) = k by omega]
  · rw [wcpN (by omega), wcpN (by omega), wcpN (by omega), wcpN (by omega)]
def Sod (a j : Nat) : Prop := Sln a j ∨ (7 ≤ a ∧ a ≤ 9) ∨ (a = 0 ∧ (j = 59 ∨ j = 60 ∨ j = 62)) ∨ a = 120
theorem Srn_od {a j : Nat} (h : Srn a j) : Sod a j := by
  rcases h with h | h | h
  · exact Or.inl (Or.inl h)
  · by_cases q : j = 21
    · exact Or.inl (Or.inr (Or.inl (by unfold Rdg; omega)))
    · exact Or.inr (Or.inr (Or.inl (by omega)))
  · exact Or.inr (Or.inr (Or.inr h))
theorem m_orders {t : St} {w : WR} {ls : List (List DC)} (hM : M0 t w ls) (hW : Wf w ls) (hX : Wx w) (hO : tapeOk w) (hT : TpM t w) (hw : WrdE t) : ∃ t', F_X5_orders t = some (iI (ordersV w ls), t') ∧ M0 t' (ordersW w ls) ls ∧ Fm Sod t t' := by
  have f0 := hM.thrown.2
  have hM1 := hM.thrown.1
  have hM2 := hM1.set (r := 0) (k := 14) (v := -1) (a := 0) (j := 61) (by show _ ∨ _; omega) (by omega) rfl rfl
  have f2 : Fm Reg (setI t 0 0 (0 : Int32)) (setI (setI t 0 0 (0 : Int32)) 0 61 (iI (-1))) := Fm.set (Or.inl (by unfold inM; omega))
  have hT2 : TpM (setI (setI t 0 0 (0 : Int32)) 0 61 (iI (-1))) w := hT.go (f0.tr f2) fun _ => rfl
  have hw2 : WrdE (setI (setI t 0 0 (0 : Int32)) 0 61 (iI (-1))) := hw
  have F2 : Fm Sod t (setI (setI t 0 0 (0 : Int32)) 0 61 (iI (-1))) := (f0.tr f2).le fun _ _ z => Or.inl (Or.inl z)
  unfold F_X5_orders ordersV ordersW
  rw [nam_v, k_m1, nam_v]
  generalize setI (setI t 0 0 (0 : Int32)) 0 61 (iI (-1)) = t2 at hM2 hT2 hw2 F2
  have h11 : w 0 11 = wup w 0 14 (-1) 0 11 := by rw [wup_k (by omega)]
  have hB : TkB t2 (tapeT 17 w) (w 0 11).toNat := by
    have hX' : Wx (wup w 0 14 (-1)) := by
      unfold Wx
      rw [wup_k (by omega), wup_k (by omega), wup_k (by omega)]
      exact hX
    have hT' : TpM t2 (wup w 0 14 (-1)) := fun k h0 h1 => by rw [wup_n (by omega)]; exact hT2 k h0 h1
    have hO' : tapeOk (wup w 0 14 (-1)) := fun k h0 h1 => by rw [wup_n (by omega)]; exact hO k h0 h1
    have := hT'.tk hM2 hX' hO' (tag := 17)
    rw [← h11] at this
    have e : tapeT 17 (wup w 0 14 (-1)) = tapeT 17 w := funext fun k => by
      unfold tapeT
      rw [wup_n (by omega)]
    rw [e] at this
    exact this
  have h := e_ordText hB hw2
  have h : TxR t2 _ (ordTxt w) := h
  have e0 : ∀ z, wup (wup (wup w 0 14 (-1)) 0 11 0) 0 12 z = wup (or0 w) 0 12 z := fun z => by
    unfold or0
    rw [wup_c (w := w) (r := 0) (r' := 0) (k := 14) (k' := 11) (by omega)]
  unfold orR
  generalize ordTxt w = R at h ⊢
  rcases R with q | cs
  · obtain ⟨t3, e3, ⟨g20, g19, g21, g14⟩, f3⟩ := h
    have hM3 := hM2.txt f3 g19 g21 g14
    rw [e0] at hM3
    obtain ⟨t', e', h', f'⟩ := OpM.tellN hM3 (v := -6) (by omega)
    refine ⟨t', ?_, h', (F2.tr (f3.le fun _ _ z => Or.inl (Stx_ln z))).tr (f'.le fun _ _ z => Or.inl (Or.inl z))⟩
    rw [show F_X5_beginText t2 (1 : Int32) = F_X5_beginText t2 1 from rfl] at *
    rw [e3]
    unfold orK
    rw [g20, if_neg (show ¬ iI 1 = (0 : Int32) by decide), show (-6 : Int32) = iI (-6) from rfl]
    exact e'
  · obtain ⟨t3, C, nc, e3, ⟨g20, g19, g21, g14⟩, f3, ⟨g22, g12⟩, hcl, hC, hnc⟩ := h
    have hM3 := hM2.txt f3 g19 g21 g14
    rw [e0] at hM3
    have hmany : or0 w 0 15 = w 0 15 := by unfold or0; rw [wup_k (by omega), wup_k (by omega)]
    have hW3 : Wf (wup (or0 w) 0 12 (-1)) ls := hW.same fun r k hr => by unfold or0; rw [wup_n (by omega), wup_n (by omega), wup_n (by omega)]
    have hX3 : Wx (wup (or0 w) 0 12 (-1)) := by
      unfold Wx or0
      rw [wup_k (by omega), wup_k (by omega), wup_s, wup_k (by omega), wup_k (by omega), wup_k (by omega), wup_k (by omega), wup_k (by omega), wup_k (by omega)]
      exact ⟨by omega, hX.2⟩
    obtain ⟨t4, e4, f4, c4⟩ := e_X5_keepCells (a := 102) (p := fun i => wup (or0 w) 0 12 (-1) 3 i) (t := t3) (by omega) hM3.1.cls
    have f4' : Fm Scr t3 t4 := f4.le fun a j z => by unfold Sk5 at z; unfold Scr; omega
    have hM4 := hM3.scr f4'
    have n8 : si t3 0 8 = iI (w 0 15) := by
      rw [hM3.1.undo, wup_k (by omega), hmany]
    obtain ⟨t5, e5, f5, c5, c6, c7, g59, g60⟩ := e_X5_orders_77 (had := iI (w 0 15)) (p := fun c => wup (or0 w) 0 12 (-1) 7 c) 108 0 t4 (by omega) (fun c hc => by
      have := hM4.1 7 c (by omega) (by show (c : Int) < 6; omega)
      rw [show mA 7 = 2 from rfl, show mK 7 (c : Int) = 17 + 5 * c by show (17 + 5 * (c : Int)).toNat = _; omega] at this
      exact this) (fun j hj => by omega) FU (FU_ge (by omega))
    have hM5 : M0 t5 (ahW (wup (or0 w) 0 12 (-1))) ls := (hM4.ah f5).w fun r k h0 hr => by
      have := relM_m hr
      unfold rgs at this
      simp only [List.mem_cons, List.not_mem_nil, or_false] at this
      exact ah_ge.2.2.2.2 (by omega)
    have hA : AhM t5 (ahW (wup (or0 w) 0 12 (-1))) := by
      refine ⟨fun k hk => ?_, fun k hk => ?_, fun k hk => ?_, fun k hk => ?_⟩
      · rw [c5 k (by omega), (ah_ge (r := 0)).2.2.1 (by omega)]
        have := hM4.1 13 k (by omega) (by show (k : Int) < 96; omega)
        exact this
      · rw [c5 _ (by omega), (ah_ge (r := 0)).1 (by omega)]
        exact c4 k hk
      · rw [c6 k hk, (ah_ge (r := 0)).2.2.2.1 (by omega)]
        exact hM4.1 14 k (by omega) (by show (k : Int) < 16; omega)
      · rw [c7 k hk, (ah_ge (r := 0)).2.1 (by omega)]
    have hW5 : Wf (ahW (wup (or0 w) 0 12 (-1))) ls := hW3.same fun r k hr => ah_ge.2.2.2.2 (by omega)
    have hX5 : Wx (ahW (wup (or0 w) 0 12 (-1))) := hX3.o fun k => ah_ge.2.2.2.2 (by omega)
    have F35 : Fm (fun a j => (a = 5 ∧ 96 ≤ j) ∨ Sah a j) t3 t5 := (f4.le fun a j z => by unfold Sk5 at z; omega).tr (f5.le fun _ _ => Or.inr)
    have hO5 : OdM t5 C nc cs := ⟨fun i c e => (hcl i c e).go (fun j _ => F35.i _ _ (by unfold Sah; omega)) (Nat.le_refl _) fun _ _ => rfl, hC.go F35 ⟨by unfold Sah; omega, fun k => by unfold Sah; omega⟩, hnc, by rw [F35.i _ _ (by unfold Sah; omega)]; exact g22, g12⟩
    obtain ⟨t6, e6, hM6, f6⟩ := e_X5_orders_165 (many := w 0 15) cs.length 0 t5 _ 0 (-1) hM5 hW5 hX5 hO5 hA g59 g60 (by omega) (by omega) (by omega) FU (FU_ge (by omega))
    rw [List.drop_zero] at e6 hM6
    refine ⟨t6, ?_, hM6, ((F2.tr (f3.le fun _ _ z => Or.inl (Stx_ln z))).tr (F35.le fun a j z => ?_)).tr (f6.le fun _ _ => Srn_od)⟩
    · rw [e3]
      unfold orK
      rw [if_pos (show si t3 0 20 = 0 from g20), show (102 : Int32) = iI ((102 : Nat) : Int) from rfl, e4, bnd_s, n8, k_0]
      have e5 : F_X5_orders_77 FU t4 (iI (w 0 15)) (iI 0) = F_X5_orders_165 FU t5 (iI (w 0 15)) (iI 0) := e5
      rw [e5]
      exact e6
    · rcases z with z | z
      · exact Or.inl (Or.inl (Or.inr (by unfold Scr; omega)))
      · unfold Sah at z
        exact Or.inr (by omega)
