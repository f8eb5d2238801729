set_option maxRecDepth 100000
/-! ===== the model: what is remembered; goings, beliefs ===== -/
theorem M0.regs {t t' : St} {w w' : WR} {ls : List (List DC)} (h : M0 t w ls) (hF : Fm Reg t t') (hR : RMi t' w') : M0 t' w' ls := by
  obtain ⟨h1, h2, h3, h4⟩ := h
  exact ⟨hR, by rw [hF.i _ _ (by unfold Reg inM Scr; omega)]; exact h2, by rw [hF.i _ _ (by unfold Reg inM Scr; omega)]; exact h3, fun i law e => (h4 i law e).go fun j _ _ => hF.i _ _ (by unfold Reg inM Scr; omega)⟩
def Sk5 (a : Nat) (x j : Nat) : Prop := x = 5 ∧ a ≤ j ∧ j < a + 6
def Sc3 (x j : Nat) : Prop := x = 2 ∧ j % 5 = 1 ∧ 16 ≤ j ∧ j ≤ 41
theorem e_X5_keepCells_2 {a : Nat} {p : Nat → Int} (ha : a ≤ 102) : ∀ (n c : Nat) (t : St), (∀ i, i < 6 → si t 2 (16 + 5 * i) = iI (p i)) → 6 = n + c → (∀ i, i < c → si t 5 (a + i) = iI (p i)) → ∀ fu, n < fu → ∃ t', F_X5_keepCells_2 fu t (iI a) (iI c) = some ((), t') ∧ Fm (Sk5 a) t t' ∧ ∀ i, i < 6 → si t' 5 (a + i) = iI (p i) := by
  intro n
  induction n with
  | zero =>
    intro c t h hc hs fu hfu
    obtain ⟨g, rfl⟩ : ∃ g, fu = g + 1 := ⟨fu - 1, by omega⟩
    simp only [F_X5_keepCells_2]
    rw [if_pos (by rw [k_6, iI_le (by omega) (by omega)]; omega)]
    exact ⟨t, rfl, Fm.rf, fun i hi => hs i (by omega)⟩
  | succ n ih =>
    intro c t h hc hs fu hfu
    obtain ⟨g, rfl⟩ : ∃ g, fu = g + 1 := ⟨fu - 1, by omega⟩
    have hF : Fm (Sk5 a) t (setI t 5 (a + c) (iI (p c))) := Fm.set (by unfold Sk5; omega)
    obtain ⟨t', e, hF2, hv⟩ := ih (c + 1) (setI t 5 (a + c) (iI (p c))) (fun i hi => by rw [hF.i _ _ (by unfold Sk5; omega)]; exact h i hi) (by omega) (fun i hi => by
      rw [si_set, if_pos rfl]
      by_cases e : i = c
      · rw [if_pos (by omega), e]
      · rw [if_neg (by omega)]
        exact hs i (by omega)) g (by omega)
    refine ⟨t', ?_, hF.tr hF2, hv⟩
    simp only [F_X5_keepCells_2]
    rw [if_neg (by rw [k_6, iI_le (by omega) (by omega)]; omega), k_3, e_of t (by omega) (by omega), bnd_s, iI_add, inb_g (by omega), nam_v, iI_nat (by omega), show (13 + 5 * (c : Int) + 3).toNat = 16 + 5 * c by omega, h c (by omega), show ((a : Int) + (c : Int)).toNat = a + c by omega, iI_su]
    exact e
theorem e_X5_keepCells {a : Nat} {p : Nat → Int} {t : St} (ha : a ≤ 102) (h : ∀ i, i < 6 → si t 2 (16 + 5 * i) = iI (p i)) : ∃ t', F_X5_keepCells t (iI a) = some ((), t') ∧ Fm (Sk5 a) t t' ∧ ∀ i, i < 6 → si t' 5 (a + i) = iI (p i) :=
  e_X5_keepCells_2 ha 6 0 t h (by omega) (fun i hi => by omega) FU (FU_ge (by omega))
theorem e_X5_setCell (t : St) {c v : Int} (hc : 0 ≤ c ∧ c < 6) : F_X5_setCell t (iI c) (iI v) = some ((), setI t 2 (16 + 5 * c).toNat (iI v)) := by
  unfold F_X5_setCell
  rw [k_13, k_5, k_3, iI_mul, iI_add, iI_add, inb_g (by omega), nam_v, iI_nat (by omega), show (13 + 5 * c + 3).toNat = (16 + 5 * c).toNat by omega]
theorem e_X5_putBack_2 {a : Nat} {p : Nat → Int} (ha : a ≤ 102) : ∀ (n c : Nat) (t : St), (∀ i, i < 6 → si t 5 (a + i) = iI (p i)) → 6 = n + c → (∀ i, i < c → si t 2 (16 + 5 * i) = iI (p i)) → ∀ fu, n < fu → ∃ t', F_X5_putBack_2 fu t (iI a) (iI c) = some ((), t') ∧ Fm Sc3 t t' ∧ ∀ i, i < 6 → si t' 2 (16 + 5 * i) = iI (p i) := by
  intro n
  induction n with
  | zero =>
    intro c t h hc hs fu hfu
    obtain ⟨g, rfl⟩ : ∃ g, fu = g + 1 := ⟨fu - 1, by omega⟩
    simp only [F_X5_putBack_2]
    rw [if_pos (by rw [k_6, iI_le (by omega) (by omega)]; omega)]
    exact ⟨t, rfl, Fm.rf, fun i hi => hs i (by omega)⟩
  | succ n ih =>
    intro c t h hc hs fu hfu
    obtain ⟨g, rfl⟩ : ∃ g, fu = g + 1 := ⟨fu - 1, by omega⟩
    have hF : Fm Sc3 t (setI t 2 (16 + 5 * c) (iI (p c))) := Fm.set (by unfold Sc3; omega)
    obtain ⟨t', e, hF2, hv⟩ := ih (c + 1) (setI t 2 (16 + 5 * c) (iI (p c))) (fun i hi => by rw [hF.i _ _ (by unfold Sc3; omega)]; exact h i hi) (by omega) (fun i hi => by
      rw [si_set, if_pos rfl]
      by_cases e : i = c
      · rw [if_pos (by omega), e]
      · rw [if_neg (by omega)]
        exact hs i (by omega)) g (by omega)
    refine ⟨t', ?_, hF.tr hF2, hv⟩
    simp only [F_X5_putBack_2]
    rw [if_neg (by rw [k_6, iI_le (by omega) (by omega)]; omega), iI_add, inb_g (by omega), iI_nat (by omega), show ((a : Int) + (c : Int)).toNat = a + c by omega, h c (by omega), e_X5_setCell t (by omega), bnd_s, show (16 + 5 * (c : Int)).toNat = 16 + 5 * c by omega, iI_su]
    exact e
theorem e_X5_putBack {a : Nat} {p : Nat → Int} {t : St} (ha : a ≤ 102) (h : ∀ i, i < 6 → si t 5 (a + i) = iI (p i)) : ∃ t', F_X5_putBack t (iI a) = some ((), t') ∧ Fm Sc3 t t' ∧ ∀ i, i < 6 → si t' 2 (16 + 5 * i) = iI (p i) :=
  e_X5_putBack_2 ha 6 0 t h (by omega) (fun i hi => by omega) FU (FU_ge (by omega))
theorem RMi.cls {t : St} {w : WR} (h : RMi t w) : ∀ i : Nat, i < 6 → si t 2 (16 + 5 * i) = iI (w 3 i) := fun i hi => by
  have := h 3 i (by omega) (by show _ < _; omega)
  rw [show mK 3 (i : Int) = 16 + 5 * i by show (16 + 5 * (i : Int)).toNat = _; omega] at this
  exact this
/-- registers with other cells -/
def pW (w : WR) (p : Int → Int) : WR := fun r k => if r = 3 ∧ 0 ≤ k ∧ k < 6 then p k else w r k
theorem Sc3_reg {x j : Nat} (h : Sc3 x j) : Reg x j := Or.inl (by unfold Sc3 at h; unfold inM; omega)
theorem RMi.cells {t t' : St} {w : WR} {p : Int → Int} (h : RMi t w) (hF : Fm Sc3 t t') (hv : ∀ i : Nat, i < 6 → si t' 2 (16 + 5 * i) = iI (p i)) : RMi t' (pW w p) := by
  intro r k h0 h1
  unfold pW
  by_cases e : r = 3
  · subst e
    have h2 : k < 6 := h1
    rw [if_pos ⟨rfl, h0, h2⟩]
    have := hv k.toNat (by omega)
    rw [show ((k.toNat : Nat) : Int) = k by omega] at this
    rw [← this]
    show si t' 2 (16 + 5 * k).toNat = _
    congr 1
    omega
  · rw [if_neg (fun z => e z.1), hF.i _ _ (fun z => ?_)]
    · exact h r k h0 h1
    · unfold Sc3 at z
      obtain ⟨z1, z2, z3, z4⟩ := z
      have h3 : mK r k = mK 3 (((mK r k : Nat) : Int) / 5 - 3) := by
        show mK r k = (16 + 5 * (((mK r k : Nat) : Int) / 5 - 3)).toNat
        omega
      exact e (loc_inj h1 h0 (r' := 3) (k' := ((mK r k : Nat) : Int) / 5 - 3) (by show _ < _; omega) (by omega) z1 h3).1
theorem M0.cells {t t' : St} {w : WR} {ls : List (List DC)} {p : Int → Int} (h : M0 t w ls) (hF : Fm Sc3 t t') (hv : ∀ i : Nat, i < 6 → si t' 2 (16 + 5 * i) = iI (p i)) : M0 t' (pW w p) ls := h.regs (hF.le fun _ _ => Sc3_reg) (h.1.cells hF hv)
theorem mA_5 {r : Nat} {k : Int} (h : relM r k) (e : mA r = 5) : r = 13 := by
  have hm := relM_m h
  simp only [rgs, List.mem_cons, List.not_mem_nil, or_false] at hm
  rcases hm with rfl | rfl | rfl | rfl | rfl | rfl | rfl | rfl | rfl | rfl | rfl | rfl | rfl | rfl <;> first | rfl | (simp only [mA] at e; omega)
/-- cells remembered at a place of the undos -/
theorem M0.keep {t t' : St} {w : WR} {ls : List (List DC)} {n : Int} (h : M0 t w ls) (hn : 0 ≤ n ∧ n ≤ 15) (hF : Fm (Sk5 (6 * n).toNat) t t') (hv : ∀ i : Nat, i < 6 → si t' 5 ((6 * n).toNat + i) = iI (w 3 i)) : M0 t' (wcp w 3 0 13 (6 * n) 6) ls := by
  refine h.regs (hF.le fun x j z => Or.inl (by unfold Sk5 at z; unfold inM; omega)) fun r k h0 h1 => ?_
  unfold wcp
  by_cases e : r = 13 ∧ 6 * n ≤ k ∧ k < 6 * n + 6
  · obtain ⟨rfl, e1, e2⟩ := e
    rw [if_pos ⟨rfl, e1, e2⟩]
    have := hv (k - 6 * n).toNat (by omega)
    rw [show (((k - 6 * n).toNat : Nat) : Int) = 0 + (k - 6 * n) by omega] at this
    rw [← this]
    show si t' 5 k.toNat = _
    congr 1
    omega
  · rw [if_neg e, hF.i _ _ (fun z => ?_)]
    · exact h.1 r k h0 h1
    · unfold Sk5 at z
      have hr := mA_5 h1 z.1
      subst hr
      have hk : mK 13 k = k.toNat := rfl
      omega
theorem e_X5_remember_76 {t : St} {w : WR} {ls : List (List DC)} (hM : M0 t w ls) (hn : 0 ≤ w 0 15 ∧ w 0 15 ≤ 15) {what : Int} : OpM t ls (F_X5_remember_76 t (iI what)) () (kpW w what) := by
  unfold F_X5_remember_76
  obtain ⟨t1, e1, hF1, hv1⟩ := e_X5_keepCells (a := (6 * w 0 15).toNat) (p := fun i => w 3 i) (by omega) hM.1.cls
  have hM1 := hM.keep hn hF1 hv1
  have hu : wcp w 3 0 13 (6 * w 0 15) 6 0 15 = w 0 15 := by unfold wcp; rw [if_neg (by omega)]
  have hu1 := hM1.1.undo
  rw [hu] at hu1
  rw [hM.1.undo, k_6, iI_mul, show (6 * w 0 15 : Int) = (((6 * w 0 15).toNat : Nat) : Int) by omega, e1, bnd_s, hu1, inb_g (by omega), nam_v, iI_nat (by omega)]
  have hM2 := hM1.set (r := 14) (k := w 0 15) (v := what) (a := 6) (j := (w 0 15).toNat) (by show _ < _; omega) (by omega) rfl rfl
  have hu2 := hM2.1.undo
  rw [wup_n (by decide), hu] at hu2
  have hM3 := hM2.set (r := 0) (k := 15) (v := w 0 15 + 1) (a := 0) (j := 8) (by show _ ∨ _; omega) (by omega) rfl rfl
  rw [hu2, k_1, iI_add, nam_v]
  refine ⟨_, rfl, hM3, (hF1.le fun x j z => Or.inl (by unfold Sk5 at z; unfold inM; omega)).tr ((Fm.reg (r := 14) (k := w 0 15) (by show _ < _; omega) (by omega) rfl rfl).tr (Fm.reg (r := 0) (k := 15) (by show _ ∨ _; omega) (by omega) rfl rfl))⟩
theorem wcp_su {w : WR} {a b : Nat} {i j : Int} {n : Nat} : wup (wcp w a i b j n) b (j + n) (w a (i + n)) = wcp w a i b j ((n + 1 : Nat) : Int) := by
  funext r k
  unfold wup wcp
  by_cases e : r = b ∧ k = j + n
  · obtain ⟨rfl, rfl⟩ := e
    rw [if_pos ⟨rfl, rfl⟩, if_pos ⟨rfl, by omega, by omega⟩]
    congr 1
    omega
  · rw [if_neg e]
    by_cases e2 : r = b ∧ j ≤ k ∧ k < j + n
    · rw [if_pos e2, if_pos (by omega)]
    · rw [if_neg e2, if_neg (by omega)]
theorem wcp_0 {w : WR} {a b : Nat} {i j : Int} : wcp w a i b j ((0 : Nat) : Int) = w := by
  funext r k
  unfold wcp
  rw [if_neg (by omega)]
theorem e_X5_remember_40 {w : WR} {ls : List (List DC)} {what : Int} (hw : w 0 15 = 16) : ∀ (n c : Nat) (t : St), 15 = n + c → M0 t (wcp w 14 1 14 0 c) ls → ∀ fu, n < fu → OpM t ls (F_X5_remember_40 fu t (iI what) (iI c)) () (kpW (wup (wcp w 14 1 14 0 15) 0 15 15) what) := by
  intro n
  induction n with
  | zero =>
    intro c t hc hM fu hfu
    obtain ⟨g, rfl⟩ : ∃ g, fu = g + 1 := ⟨fu - 1, by omega⟩
    have : c = 15 := by omega
    subst this
    have hu : wcp w 14 1 14 0 ((15 : Nat) : Int) 0 15 = w 0 15 := by unfold wcp; rw [if_neg (by omega)]
    have hu1 := hM.1.undo
    rw [hu, hw] at hu1
    simp only [F_X5_remember_40]
    rw [if_pos (by rw [k_15, iI_le (by omega) (by omega)]; omega), hu1, k_1, iI_sub, nam_v]
    have hM2 := hM.set (r := 0) (k := 15) (v := 15) (a := 0) (j := 8) (by show _ ∨ _; omega) (by omega) rfl rfl
    exact (e_X5_remember_76 hM2 (by rw [wup_s]; omega)).after (Fm.reg (r := 0) (k := 15) (by show _ ∨ _; omega) (by omega) rfl rfl)
  | succ n ih =>
    intro c t hc hM fu hfu
    obtain ⟨g, rfl⟩ : ∃ g, fu = g + 1 := ⟨fu - 1, by omega⟩
    have e1 : si t 6 (c + 1) = iI (w 14 (1 + c)) := by
      have := hM.1 14 ((c : Int) + 1) (by omega) (by show _ < _; omega)
      rw [show mK 14 ((c : Int) + 1) = c + 1 by show ((c : Int) + 1).toNat = _; omega] at this
      unfold wcp at this
      rw [if_neg (by omega)] at this
      rw [show (1 : Int) + c = c + 1 by omega]
      exact this
    have hM2 := hM.set (r := 14) (k := 0 + (c : Int)) (v := w 14 (1 + c)) (a := 6) (j := c) (by show _ < _; omega) (by omega) rfl (by show c = (0 + (c : Int)).toNat; omega)
    rw [wcp_su] at hM2
    simp only [F_X5_remember_40]
    rw [if_neg (by rw [k_15, iI_le (by omega) (by omega)]; omega), k_1, iI_add, inb_g (by omega), inb_g (by omega), nam_v, iI_nat (by omega), iI_nat (by omega), Int.toNat_natCast, show ((c : Int) + 1).toNat = c + 1 by omega, e1, show (c : Int) + 1 = ((c + 1 : Nat) : Int) by omega]
    exact (ih (c + 1) _ (by omega) hM2 g (by omega)).after (Fm.reg (r := 14) (k := (c : Int)) (by show _ < _; omega) (by omega) rfl rfl)
theorem e_X5_remember_11 {w : WR} {ls : List (List DC)} {what : Int} (hw : w 0 15 = 16) : ∀ (n c : Nat) (t : St), 90 = n + c → M0 t (wcp w 13 6 13 0 c) ls → ∀ fu, n < fu → OpM t ls (F_X5_remember_11 fu t (iI what) (iI c)) () (kpW (shW w) what) := by
  intro n
  induction n with
  | zero =>
    intro c t hc hM fu hfu
    obtain ⟨g, rfl⟩ : ∃ g, fu = g + 1 := ⟨fu - 1, by omega⟩
    have : c = 90 := by omega
    subst this
    simp only [F_X5_remember_11]
    rw [if_pos (by rw [k_90, iI_le (by omega) (by omega)]; omega), k_0]
    exact e_X5_remember_40 (w := wcp w 13 6 13 0 90) (by unfold wcp; rw [if_neg (by omega)]; exact hw) 15 0 t (by omega) (by rw [wcp_0]; exact hM) FU (FU_ge (by omega))
  | succ n ih =>
    intro c t hc hM fu hfu
    obtain ⟨g, rfl⟩ : ∃ g, fu = g + 1 := ⟨fu - 1, by omega⟩
    have e1 : si t 5 (c + 6) = iI (w 13 (6 + c)) := by
      have := hM.1 13 ((c : Int) + 6) (by omega) (by show _ < _; omega)
      rw [show mK 13 ((c : Int) + 6) = c + 6 by show ((c : Int) + 6).toNat = _; omega] at this
      unfold wcp at this
      rw [if_neg (by omega)] at this
      rw [show (6 : Int) + c = c + 6 by omega]
      exact this
    have hM2 := hM.set (r := 13) (k := 0 + (c : Int)) (v := w 13 (6 + c)) (a := 5) (j := c) (by show _ < _; omega) (by omega) rfl (by show c = (0 + (c : Int)).toNat; omega)
    rw [wcp_su] at hM2
    simp only [F_X5_remember_11]
    rw [if_neg (by rw [k_90, iI_le (by omega) (by omega)]; omega), k_6, k_1, iI_add, iI_add, inb_g (by omega), inb_g (by omega), nam_v, iI_nat (by omega), iI_nat (by omega), Int.toNat_natCast, show ((c : Int) + 6).toNat = c + 6 by omega, e1, show (c : Int) + 1 = ((c + 1 : Nat) : Int) by omega]
    exact (ih (c + 1) _ (by omega) hM2 g (by omega)).after (Fm.reg (r := 13) (k := (c : Int)) (by show _ < _; omega) (by omega) rfl rfl)
theorem OpM.remember {t : St} {w : WR} {ls : List (List DC)} (hM : M0 t w ls) (hX : Wx w) {what : Int} : OpM t ls (F_X5_remember t (iI what)) () (keepW w what) := by
  have hx := hX.2.1
  unfold F_X5_remember keepW
  rw [hM.1.undo, k_16, k_0]
  by_cases h : w 0 15 = 16
  · rw [if_pos (by rw [h]), if_pos h]
    exact e_X5_remember_11 h 90 0 t (by omega) (by rw [wcp_0]; exact hM) FU (FU_ge (by omega))
  · rw [if_neg (by rw [iI_eq (by omega) (by omega)]; exact h), if_neg h]
    exact e_X5_remember_76 hM (by omega)
theorem e_X5_cannotBelieve {t : St} {w : WR} {ls : List (List DC)} (hM : M0 t w ls) (hm : 0 ≤ w 2 8 ∧ w 2 8 ≤ 6) {c cell : Int} (h1 : i32 c) (h2 : i32 cell) : F_X5_cannotBelieve t (iI c) (iI cell) = some (iI (belZ w c cell), t) := by
  have h2' := h2
  unfold i32 at h2'
  unfold F_X5_cannotBelieve belZ
  rw [K_m1, K_35, iI_l (by omega), e_X5_in t (by omega) (by omega) (by omega), bnd_s, k_0]
  by_cases a1 : -1 ≤ cell ∧ cell ≤ 35
  · rw [if_neg (by rw [bZ_i0]; exact fun z => z a1), if_pos a1, e_X5_isCatcher hM.1 hm h1, bnd_s]
    by_cases a2 : isC w c
    · rw [if_neg (by rw [bZ_i0]; exact fun z => z a2), if_pos a2]
    · rw [if_pos (by rw [bZ_i0]; exact a2), if_neg a2]; rfl
  · rw [if_pos (by rw [bZ_i0]; exact a1), if_neg a1]; rfl
theorem belZ_m {w : WR} {c cell : Int} : belZ w c cell = 0 ∧ isC w c ∧ (-1 ≤ cell ∧ cell ≤ 35) ∨ (-2 ≤ belZ w c cell ∧ belZ w c cell < 0) := by
  unfold belZ
  by_cases a1 : -1 ≤ cell ∧ cell ≤ 35
  · rw [if_pos a1]
    by_cases a2 : isC w c
    · rw [if_pos a2]
      exact Or.inl ⟨rfl, a2, a1⟩
    · rw [if_neg a2]
      exact Or.inr (by omega)
  · rw [if_neg a1]
    exact Or.inr (by omega)
theorem m_believe {t : St} {w : WR} {ls : List (List DC)} (hM : M0 t w ls) (hW : Wf w ls) {c cell : Int} (h1 : i32 c) (h2 : i32 cell) : OpM t ls (F_X5_believe t (iI c) (iI cell)) (iI (believeV w c cell)) (believeW w c cell) := by
  unfold F_X5_believe
  refine Mthr hM fun t1 hM1 => ?_
  have hm := hW.1
  unfold believeV believeW
  rw [e_X5_cannotBelieve hM1 hm h1 h2, bnd_s, k_0]
  rcases belZ_m (w := w) (c := c) (cell := cell) with ⟨h, hc, hl⟩ | h
  · have hc' : 0 ≤ c ∧ c < w 2 8 := hc
    rw [if_pos (by rw [h]; decide), if_pos h, if_pos h, k_4, of4 hM1.1 (by omega), bnd_s, k_13, k_5, iI_mul, iI_add, iI_add, inb_g (by omega), nam_v, nam_v, iI_nat (by omega)]
    have hM2 := hM1.set (r := 7) (k := c) (v := cell) (a := 2) (j := (13 + 5 * c + 4).toNat) (by show _ < _; omega) (by omega) rfl (show _ = (17 + 5 * c).toNat by omega)
    have hM3 := hM2.set (r := 0) (k := 0) (v := 0) (a := 0) (j := 1) (by show _ ∨ _; omega) (by omega) rfl rfl
    exact ⟨_, rfl, hM3, (Fm.reg (r := 7) (k := c) (by show _ < _; omega) (by omega) rfl (show _ = (17 + 5 * c).toNat by omega)).tr (Fm.reg (r := 0) (k := 0) (by show _ ∨ _; omega) (by omega) rfl rfl)⟩
  · rw [if_neg (by rw [iI_le (by omega) (by omega)]; omega), if_neg (by omega), if_neg (by omega)]
    exact OpM.tellN hM1 (by omega)
theorem goZ_m {w : WR} {ls : List (List DC)} (hW : Wf w ls) {c cell : Int} : (isC w c ∧ (0 ≤ cell ∧ cell ≤ 35) ∧ canGoP w ls (w 3) c cell ∧ goZ w ls c cell = w 3 c ∧ 0 ≤ w 3 c ∧ w 3 c ≤ 35) ∨ (-3 ≤ goZ w ls c cell ∧ goZ w ls c cell < 0) := by
  have hm := hW.1
  unfold goZ
  by_cases a1 : 0 ≤ cell ∧ cell ≤ 35
  · rw [if_pos a1]
    by_cases a2 : isC w c
    · rw [if_pos a2]
      by_cases a3 : canGoP w ls (w 3) c cell
      · rw [if_pos a3]
        have a4 : 0 ≤ c ∧ c < w 2 8 := a2
        have := hW.cat (c := c) (by omega) (by omega)
        exact Or.inl ⟨a2, a1, a3, rfl, by omega, by omega⟩
      · rw [if_neg a3]
        exact Or.inr (by omega)
    · rw [if_neg a2]
      exact Or.inr (by omega)
  · rw [if_neg a1]
    exact Or.inr (by omega)
theorem e_X5_goNow {t : St} {w : WR} {ls : List (List DC)} (hM : M0 t w ls) (hW : Wf w ls) (hX : Wx w) {c cell : Int} (h1 : i32 c) (h2 : i32 cell) : OpM t ls (F_X5_goNow t (iI c) (iI cell)) (iI (goZ w ls c cell)) (goW w ls c cell) := by
  have hm := hW.1
  unfold F_X5_goNow goW
  have hr := goZ_m hW (c := c) (cell := cell)
  generalize hq : goZ w ls c cell = q at hr ⊢
  unfold goZ at hq
  rw [e_X5_isCell t h2, bnd_s, k_m1, k_m3, k_0, k_3]
  by_cases a1 : 0 ≤ cell ∧ cell ≤ 35
  · rw [if_pos a1] at hq
    rw [if_neg (by rw [bZ_i0]; exact fun z => z a1), e_X5_isCatcher hM.1 hm h1, bnd_s]
    by_cases a2 : isC w c
    · rw [if_pos a2] at hq
      have a4 : 0 ≤ c ∧ c < w 2 8 := a2
      rw [if_neg (by rw [bZ_i0]; exact fun z => z a2), e_X5_isFree hM.1 hW h2, bnd_s]
      obtain ⟨t1, e1, hF1⟩ := e_X5_isBarred hM hW (c := c) (cell := cell) (by omega) (by omega)
      have hM1 := hM.sq hF1
      by_cases a5 : whoZ (w 3) (w 2 8) cell = -1
      · rw [if_neg (by rw [bZ_i0]; exact fun z => z a5), e1, bnd_s]
        by_cases a6 : barC w ls c cell
        · rw [if_neg (show ¬ canGoP w ls (w 3) c cell from fun z => z.2 a6)] at hq
          rw [if_neg (by rw [bZ_i0]; exact fun z => z a6), if_neg (by omega), ← hq]
          exact ⟨t1, rfl, hM1, hF1.le fun _ _ => Sq_reg⟩
        · rw [if_pos (show canGoP w ls (w 3) c cell from ⟨a5, a6⟩)] at hq
          have hc := hW.cat (c := c) (by omega) (by omega)
          rw [if_pos (by rw [bZ_i0]; exact a6), if_pos (by omega)]
          refine (OpM.bnd2 (OpM.remember hM1 hX) fun t2 hM2 _ => ?_).after (hF1.le fun _ _ => Sq_reg)
          have e3 := of3 hM2.1 (c := c) (by omega)
          rw [keepW_3] at e3
          rw [e3, bnd_s, e_X5_setCell t2 (by omega), bnd_s, ← hq]
          exact ⟨_, rfl, hM2.set (r := 3) (k := c) (v := cell) (a := 2) (by show _ < _; omega) (by omega) rfl rfl, Fm.reg (r := 3) (k := c) (by show _ < _; omega) (by omega) rfl rfl⟩
      · rw [if_neg (show ¬ canGoP w ls (w 3) c cell from fun z => a5 z.1)] at hq
        rw [if_pos (by rw [bZ_i0]; exact a5), if_neg (by omega), ← hq]
        exact OpM.ret hM
    · rw [if_neg a2] at hq
      rw [if_pos (by rw [bZ_i0]; exact a2), if_neg (by omega), ← hq]
      exact OpM.ret hM
  · rw [if_neg a1] at hq
    rw [if_pos (by rw [bZ_i0]; exact a1), if_neg (by omega), ← hq]
    exact OpM.ret hM
theorem m_go {t : St} {w : WR} {ls : List (List DC)} (hM : M0 t w ls) (hW : Wf w ls) (hX : Wx w) {c cell : Int} (h1 : i32 c) (h2 : i32 cell) : OpM t ls (F_X5_go t (iI c) (iI cell)) (iI (goZ w ls c cell)) (goRW w ls c cell) := by
  unfold F_X5_go
  refine Mthr hM fun t1 hM1 => ?_
  have hr := goZ_m hW (c := c) (cell := cell)
  refine OpM.bnd2 (e_X5_goNow hM1 hW hX h1 h2) fun t2 hM2 _ => ?_
  unfold goRW
  have := (OpM.tell hM2 (v := goZ w ls c cell) (by omega)).bn1
  unfold tellW at this
  by_cases h : 0 ≤ goZ w ls c cell
  · rw [if_pos h]
    rw [if_neg (by omega)] at this
    exact this
  · rw [if_neg h]
    rw [if_pos (by omega)] at this
    have e : goW w ls c cell = w := by unfold goW; rw [if_neg h]
    rw [e] at this
    exact this
def Wu (w : WR) : Prop := (∀ k, 0 ≤ k → k < 16 → 0 ≤ w 14 k ∧ w 14 k ≤ 1) ∧ (∀ k, 0 ≤ k → k < 96 → 0 ≤ w 13 k ∧ w 13 k ≤ 35)
theorem m_undo {t : St} {w : WR} {ls : List (List DC)} (hM : M0 t w ls) (hX : Wx w) (hU : Wu w) : OpM t ls (F_X5_undo t) (iI (undoV w)) (undoW w) := by
  unfold F_X5_undo
  refine Mthr hM fun t1 hM1 => ?_
  have hu := hX.2.1
  unfold undoV undoW
  rw [hM1.1.undo, k_m3, k_0, k_1, k_6]
  by_cases h : w 0 15 = 0
  · rw [if_pos (by rw [h]), if_pos h, if_pos h]
    exact OpM.tellN hM1 (by omega)
  · have hM2 := hM1.set (r := 0) (k := 15) (v := w 0 15 - 1) (a := 0) (j := 8) (by show _ ∨ _; omega) (by omega) rfl rfl
    have e1 := hM2.1.undo
    rw [wup_s] at e1
    obtain ⟨t3, e3, hF3, hv3⟩ := e_X5_putBack (a := (6 * (w 0 15 - 1)).toNat) (p := fun i => w 13 (6 * (w 0 15 - 1) + i)) (t := setI t1 0 8 (iI (w 0 15 - 1))) (by omega) (fun i hi => by
      have := hM2.1 13 (6 * (w 0 15 - 1) + i) (by omega) (by show _ < _; omega)
      rw [wup_n (by decide)] at this
      rw [← this]
      show si _ 5 _ = si _ 5 (6 * (w 0 15 - 1) + (i : Int)).toNat
      congr 1
      omega)
    have hM3 := hM2.cells (p := fun k => w 13 (6 * (w 0 15 - 1) + k)) hF3 hv3
    have hw : pW (wup w 0 15 (w 0 15 - 1)) (fun k => w 13 (6 * (w 0 15 - 1) + k)) = undoW1 w := by
      funext r k
      unfold pW undoW1 wcp
      by_cases e : r = 3 ∧ 0 ≤ k ∧ k < 6
      · rw [if_pos e, if_pos (by omega), wup_n (by decide)]
        congr 1
        omega
      · rw [if_neg e, if_neg (by omega)]
    rw [hw] at hM3
    have e4 : undoW1 w 0 15 = w 0 15 - 1 := by unfold undoW1 wcp; rw [if_neg (by omega), wup_s]
    have e5 : undoW1 w 14 (w 0 15 - 1) = w 14 (w 0 15 - 1) := by unfold undoW1 wcp; rw [if_neg (by omega), wup_n (by decide)]
    have e6 := hM3.1.undo
    rw [e4] at e6
    have e7 : si t3 6 (w 0 15 - 1).toNat = iI (w 14 (w 0 15 - 1)) := by
      have := hM3.1 14 (w 0 15 - 1) (by omega) (by show _ < _; omega)
      rw [e5] at this
      exact this
    have hs := hU.1 (w 0 15 - 1) (by omega) (by omega)
    rw [if_neg (by rw [iI_eq (by omega) (by omega)]; exact h), if_neg h, if_neg h, iI_sub, nam_v, e1, iI_mul, show (6 * (w 0 15 - 1) : Int) = (((6 * (w 0 15 - 1)).toNat : Nat) : Int) by omega, e3, bnd_s, e6, inb_g (by omega), iI_nat (by omega), e7]
    refine (OpM.tell0 hM3 (by omega)).after ((Fm.reg (r := 0) (k := 15) (by show _ ∨ _; omega) (by omega) rfl rfl).tr (hF3.le fun _ _ => Sc3_reg))
theorem m_asks {t : St} {w : WR} {ls : List (List DC)} (hM : M0 t w ls) (hW : Wf w ls) {c what far : Int} (h1 : i32 c) (h2 : i32 what) (h3 : i32 far) : OpM t ls (F_X5_asks t (iI c) (iI what) (iI far)) (iI (asksV w ls c what far)) w := by
  unfold F_X5_asks
  refine Mthr hM fun t1 hM1 => ?_
  have hm := hW.1
  have h2' := h2
  have h3' := h3
  unfold i32 at h2' h3'
  unfold asksV
  have ret : ∀ {x : Option (Int32 × St)} {v : Int}, (∃ t', x = some (iI v, t') ∧ Fm Sq t1 t') → OpM t1 ls (bnd x fun r s => some (r, s)) (iI v) w := fun {x v} h => by
    obtain ⟨t', rfl, hF⟩ := h
    exact ⟨t', rfl, hM1.sq hF, hF.le fun _ _ => Sq_reg⟩
  rw [e_X5_isCatcher hM1.1 hm h1, bnd_s, k_m1, k_0, k_1]
  by_cases a2 : isC w c
  · have a3 : 0 ≤ c ∧ c < w 2 8 := a2
    rw [if_neg (by rw [bZ_i0]; exact fun z => z a2), if_pos a2, K_0, K_2, K_10, K_1, K_35, iI_l (by omega), iI_l (by omega), e_X5_in t1 (by omega) (by omega) (by omega), bnd_s]
    unfold F_X5_asks_50
    by_cases a4 : 0 ≤ what ∧ what ≤ 2
    · rw [if_neg (by rw [bZ_i0]; exact fun z => z a4)]
      have h5 : what = 0 ∨ what = 1 ∨ what = 2 := by omega
      rw [e_X5_in t1 (by omega) (by omega) (by omega), e_X5_in t1 (by omega) (by omega) (by omega), e_X5_in t1 (by omega) (by omega) (by omega), bnd_s, bnd_s, bnd_s, k_m1, k_0, k_1]
      rcases h5 with rfl | rfl | rfl
      · rw [if_pos (show iI 0 = iI 0 from rfl), if_pos (show (0 : Int) = 0 from rfl)]
        by_cases a5 : 0 ≤ far ∧ far ≤ 10
        · rw [if_neg (by rw [bZ_i0]; exact fun z => z a5), if_pos a5, if_pos (by rfl)]
          exact ret (e_X5_gripOf hM1 hW (by omega) (by omega))
        · rw [if_pos (by rw [bZ_i0]; exact a5), if_neg a5]
          exact OpM.ret hM1
      · rw [if_neg (show ¬ iI 1 = iI 0 by decide), if_pos (show iI 1 = iI 1 from rfl), if_neg (show ¬ (1 : Int) = 0 by decide), if_pos (show (1 : Int) = 1 from rfl)]
        by_cases a5 : 0 ≤ far ∧ far ≤ 1
        · rw [if_neg (by rw [bZ_i0]; exact fun z => z a5), if_pos a5, if_neg (by decide), if_pos (by rfl)]
          exact ret (e_X5_wedOf hM1 hW (by omega) (by omega))
        · rw [if_pos (by rw [bZ_i0]; exact a5), if_neg a5]
          exact OpM.ret hM1
      · rw [if_neg (show ¬ iI 2 = iI 0 by decide), if_neg (show ¬ iI 2 = iI 1 by decide), if_neg (show ¬ (2 : Int) = 0 by decide), if_neg (show ¬ (2 : Int) = 1 by decide), if_pos (show (2 : Int) = 2 from rfl)]
        by_cases a5 : 0 ≤ far ∧ far ≤ 35
        · rw [if_neg (by rw [bZ_i0]; exact fun z => z a5), if_pos a5, if_neg (by decide), if_neg (by decide)]
          obtain ⟨t2, e2, hF2⟩ := e_X5_isBarred hM1 hW (c := c) (cell := far) (by omega) (by omega)
          rw [e2, bnd_s]
          by_cases a6 : barC w ls c far
          · rw [if_neg (by rw [bZ_i0]; exact fun z => z a6), bZ_t a6]
            exact ⟨t2, rfl, hM1.sq hF2, hF2.le fun _ _ => Sq_reg⟩
          · rw [if_pos (by rw [bZ_i0]; exact a6), bZ_f a6]
            exact ⟨t2, rfl, hM1.sq hF2, hF2.le fun _ _ => Sq_reg⟩
        · rw [if_pos (by rw [bZ_i0]; exact a5), if_neg a5]
          exact OpM.ret hM1
    · rw [if_pos (by rw [bZ_i0]; exact a4), if_neg (by omega), if_neg (by omega), if_neg (by omega)]
      exact OpM.ret hM1
  · rw [if_pos (by rw [bZ_i0]; exact a2), if_neg a2]
    exact OpM.ret hM1
