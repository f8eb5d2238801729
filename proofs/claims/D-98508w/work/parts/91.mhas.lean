set_option maxRecDepth 100000
/-! ===== the model: comes, has ===== -/
def Shr (a j : Nat) : Prop := a = 100 ∧ (j = 46 ∨ j = 47)
theorem Shr_scr {a j : Nat} (h : Shr a j) : Scr a j := by unfold Shr at h; unfold Scr; omega
theorem e_X5_shorten_6 {t : St} {u l : Int} (hu : 0 ≤ u ∧ u ≤ 4000000000000000000) (hl : 0 < l ∧ l ≤ 4000000000000000000) : ∀ (k : Nat) (x y : Nat), x ≤ 4000000000000000000 → y ≤ 4000000000000000000 → 0 < Nat.gcd x y → y < 2 ^ k → ∀ fu, 2 * k + 1 < fu → ∃ t', F_X5_shorten_6 fu t (lI u) (lI l) (lI x) (lI y) = some ((), t') ∧ Fm Shr t t' ∧ sl t' 0 46 = lI (u / (Nat.gcd x y : Nat)) ∧ sl t' 0 47 = lI (l / (Nat.gcd x y : Nat)) := by
  intro k
  have base : ∀ (x : Nat), x ≤ 4000000000000000000 → 0 < x → ∀ f, ∃ t', F_X5_shorten_6 (f + 1) t (lI u) (lI l) (lI x) (lI ((0 : Nat) : Int)) = some ((), t') ∧ Fm Shr t t' ∧ sl t' 0 46 = lI (u / (x : Nat)) ∧ sl t' 0 47 = lI (l / (x : Nat)) := by
    intro x hx hx0 f
    rw [F_X5_shorten_6]
    show ∃ t', (if lI ((0 : Nat) : Int) = (0 : Int64) then _ else _) = _ ∧ _
    rw [if_pos (show lI ((0 : Nat) : Int) = (0 : Int64) from rfl), gd_ok (nzl_t (by omega) (by omega)), nam_v, gd_ok (nzl_t (by omega) (by omega)), nam_v, lI_divn (by omega) (by omega), lI_divn (by omega) (by omega)]
    refine ⟨_, rfl, (Fm.setL (by unfold Shr; omega)).tr (Fm.setL (by unfold Shr; omega)), ?_, ?_⟩
    · rw [sl_set, if_pos rfl, if_neg (by omega), sl_set, if_pos rfl, if_pos rfl]
    · rw [sl_set, if_pos rfl, if_pos rfl]
  induction k with
  | zero =>
    intro x y hx hy hg hk fu hfu
    obtain ⟨f, rfl⟩ : ∃ f, fu = f + 1 := ⟨fu - 1, by omega⟩
    have : y = 0 := by omega
    subst this
    rw [Nat.gcd_zero_right] at hg ⊢
    exact base x hx hg f
  | succ k ih =>
    intro x y hx hy hg hk fu hfu
    obtain ⟨f, rfl⟩ : ∃ f, fu = f + 2 := ⟨fu - 2, by omega⟩
    by_cases h0 : y = 0
    · subst h0
      rw [Nat.gcd_zero_right] at hg ⊢
      exact base x hx hg (f + 1)
    · have h1 : (x : Int) % (y : Int) = ((x % y : Nat) : Int) := rfl
      have h2 := Nat.mod_lt x (show 0 < y by omega)
      have hgc : Nat.gcd x y = Nat.gcd y (x % y) := by rw [Nat.gcd_comm, Nat.gcd_rec y x, Nat.gcd_comm]
      rw [F_X5_shorten_6]
      show ∃ t', (if lI (y : Int) = (0 : Int64) then _ else gd _ (F_X5_shorten_6 (f + 1) t (lI u) (lI l) (lI (y : Int)) (lI (x : Int) - lI (x : Int) / lI (y : Int) * lI (y : Int)))) = _ ∧ _
      rw [if_neg (by rw [K_0, lI_eq (by omega) (by omega)]; omega), gd_ok (nzl_t (by omega) (by omega)), lI_remn (by omega) (by omega), h1, hgc]
      rw [hgc] at hg
      by_cases h5 : x % y = 0
      · rw [h5, Nat.gcd_zero_right] at hg ⊢
        exact base y hy hg f
      · have h6 : (y : Int) % ((x % y : Nat) : Int) = ((y % (x % y) : Nat) : Int) := rfl
        have h7 := Nat.mod_lt y (show 0 < x % y by omega)
        have h8 : y % (x % y) + (x % y) ≤ y := by
          have h9 := Nat.div_add_mod y (x % y)
          have h10 : 0 < y / (x % y) := Nat.div_pos (by omega) (by omega)
          have h11 : (x % y) * 1 ≤ (x % y) * (y / (x % y)) := Nat.mul_le_mul_left _ h10
          omega
        have h12 : 2 ^ (k + 1) = 2 * 2 ^ k := by rw [Nat.pow_succ]; omega
        have hgc2 : Nat.gcd y (x % y) = Nat.gcd (x % y) (y % (x % y)) := by rw [Nat.gcd_comm, Nat.gcd_rec (x % y) y, Nat.gcd_comm]
        rw [F_X5_shorten_6]
        show ∃ t', (if lI ((x % y : Nat) : Int) = (0 : Int64) then _ else gd _ (F_X5_shorten_6 f t (lI u) (lI l) (lI ((x % y : Nat) : Int)) (lI (y : Int) - lI (y : Int) / lI ((x % y : Nat) : Int) * lI ((x % y : Nat) : Int)))) = _ ∧ _
        rw [if_neg (by rw [K_0, lI_eq (by omega) (by omega)]; omega), gd_ok (nzl_t (by omega) (by omega)), lI_remn (by omega) (by omega), h6, hgc2]
        rw [hgc2] at hg
        exact ih (x % y) (y % (x % y)) (by omega) (by omega) hg (by omega) f (by omega)
theorem e_X5_shorten (t : St) {u l : Int} (hu : 0 ≤ u ∧ u ≤ 4000000000000000000) (hl : 0 < l ∧ l ≤ 4000000000000000000) : ∃ t', F_X5_shorten t (lI u) (lI l) = some ((), t') ∧ Fm Shr t t' ∧ sl t' 0 46 = lI (tellZ u l true) ∧ sl t' 0 47 = lI (tellZ u l false) := by
  have h := e_X5_shorten_6 (t := t) hu hl 63 u.toNat l.toNat (by omega) (by omega) (Nat.gcd_pos_of_pos_right _ (by omega)) (by omega) FU (FU_ge (by omega))
  rw [show ((u.toNat : Nat) : Int) = u by omega, show ((l.toNat : Nat) : Int) = l by omega] at h
  exact h
theorem OpM.q {t : St} {w : WR} {ls : List (List DC)} {α : Type} {x : Option (α × St)} {r : α} (hM : M0 t w ls) (h : ∃ t', x = some (r, t') ∧ Fm Scr t t') : OpM t ls x r w := by
  obtain ⟨t', e, hF⟩ := h
  exact ⟨t', e, hM.scr hF, hF.le fun _ _ z => Or.inr z⟩
theorem m_comes {t : St} {w : WR} {ls : List (List DC)} (hM : M0 t w ls) (hW : Wf w ls) {cell what : Int} (h1 : i32 cell) (h2 : i32 what) : OpM t ls (F_X5_comes t (iI cell) (iI what)) (iI (comesFV w ls cell what)) w := by
  unfold F_X5_comes
  refine Mthr hM fun t1 hM1 => ?_
  have h1' := h1
  have h2' := h2
  unfold i32 at h1' h2'
  unfold comesFV
  have key : -1 ≤ cell ∧ cell ≤ 35 → OpM t1 ls (F_X5_comes_17 t1 (iI cell) (iI what)) (iI (if (-1 ≤ cell ∧ cell ≤ 35) ∧ (0 ≤ what ∧ what ≤ 1) then tellZ (wOf cell (nowL w ls)) (sumW (nowL w ls)) (decide (what = 0)) else -1)) w := by
    intro hc
    have hcr := cM_r hc
    unfold F_X5_comes_17
    rw [K_0, K_1, iI_l (by omega), e_X5_in t1 (by omega) (by omega) (by omega), bnd_s, k_0, k_m1, k_36]
    by_cases a : 0 ≤ what ∧ what ≤ 1
    · rw [if_neg (by rw [bZ_i0]; exact fun z => z a), if_pos ⟨hc, a⟩]
      obtain ⟨t2, e2, hL, f2⟩ := e_X5_aimNow hM1 hW
      have hok := laysL_ok (f := w 8 0) (sd := w 8 1) hW
      have hsum := laysL_sum (f := w 8 0) (sd := w 8 1) hW
      have hw := wOf_r (cell := cell) (fl := nowL w ls) fun x hx => (hok.1 x hx).2
      have hs : 1 ≤ sumW (nowL w ls) ∧ sumW (nowL w ls) ≤ 81 := hsum
      refine OpM.q hM1 ?_
      rw [e2, bnd_s]
      have fin : ∃ t', F_X5_comes_49 t2 (iI what) (iI (cM cell)) = some (iI (tellZ (wOf cell (nowL w ls)) (sumW (nowL w ls)) (decide (what = 0))), t') ∧ Fm Scr t1 t' := by
        unfold F_X5_comes_49 F_X5_comes_74
        rw [inb_g (by omega), iI_nat (by omega), hL.1 cell hc.1 hc.2, hL.2.1, iI_l (by omega), iI_l (by omega)]
        obtain ⟨t3, e3, f3, g46, g47⟩ := e_X5_shorten t2 (u := wOf cell (nowL w ls)) (l := sumW (nowL w ls)) (by omega) (by omega)
        have r1 := tellZ_r (u := wOf cell (nowL w ls)) (l := sumW (nowL w ls)) (up := true) (by omega) (by omega)
        have r2 := tellZ_r (u := wOf cell (nowL w ls)) (l := sumW (nowL w ls)) (up := false) (by omega) (by omega)
        simp only [if_true] at r1
        rw [if_neg (by simp)] at r2
        rw [e3, bnd_s, k_0, g46, g47, lI_i (by omega), lI_i (by omega)]
        have fA : Fm Scr t1 t3 := (f2.le fun _ _ => Sam_scr).tr (f3.le fun _ _ => Shr_scr)
        by_cases b : what = 0
        · rw [if_pos (by rw [b]), b]
          exact ⟨t3, rfl, fA⟩
        · rw [if_neg (by rw [iI_eq (by omega) (by omega)]; exact b), decide_eq_false b]
          exact ⟨t3, rfl, fA⟩
      by_cases b : cell = -1
      · rw [if_pos (by rw [b])]
        rw [b] at fin ⊢
        exact fin
      · rw [if_neg (by rw [iI_eq (by omega) (by omega)]; exact b)]
        have : cM cell = cell := by unfold cM; rw [if_neg b]
        rw [this] at fin
        exact fin
    · rw [if_pos (by rw [bZ_i0]; exact a), if_neg (fun z => a z.2)]
      exact OpM.ret hM1
  rw [k_m1, e_X5_isCell t1 h1, bnd_s, k_0]
  by_cases b : cell = -1
  · rw [if_pos (by rw [b])]
    exact key (by omega)
  · rw [if_neg (by rw [iI_eq (by omega) (by omega)]; exact b)]
    by_cases c : 0 ≤ cell ∧ cell ≤ 35
    · rw [if_neg (by rw [bZ_i0]; exact fun z => z c)]
      exact key (by omega)
    · rw [if_pos (by rw [bZ_i0]; exact c), if_neg (by omega)]
      exact OpM.ret hM1
theorem PtE.at {t : St} {u : WR} {ls : List (List DC)} {n : Int} {fl : FL} (h : PtE t u ls n fl) {c : Int} (hc : c = -1 ∨ (0 ≤ c ∧ c < n)) : si t 26 (if c = -1 then 6 else c.toNat) = iI (chF u ls n c (u 3) fl) := by
  by_cases e : c = -1
  · rw [if_pos e, e]
    exact h.2
  · rw [if_neg e]
    exact h.1 c (by omega) (by omega)
theorem flOk.ch {fl : FL} (h : flOk fl) {w : WR} {ls : List (List DC)} {n c : Int} {f : Int → Int} : 0 ≤ chF w ls n c f fl ∧ chF w ls n c f fl ≤ 4860 := by
  have := chF_r (w := w) (ls := ls) (n := n) (c := c) (f := f) (fl := fl) fun x hx => (h.1 x hx).2
  have := h.2
  omega
theorem m_has {t : St} {w : WR} {ls : List (List DC)} (hM : M0 t w ls) (hW : Wf w ls) {c what : Int} (h1 : i32 c) (h2 : i32 what) : OpM t ls (F_X5_has t (iI c) (iI what)) (lI (hasV w ls c what)) w := by
  unfold F_X5_has
  refine Mthr hM fun t1 hM1 => ?_
  have h1' := h1
  have h2' := h2
  have hm := hW.1
  unfold i32 at h1' h2'
  unfold hasV
  have key : (c = -1 ∨ isC w c) → OpM t1 ls (F_X5_has_18 t1 (iI c) (iI what)) (lI (@ite _ ((c = -1 ∨ isC w c) ∧ (0 ≤ what ∧ what ≤ 1)) (Classical.propDecidable _) (tellZ (chF w ls (w 2 8) c (w 3) (nowL w ls)) (60 * sumW (nowL w ls)) (decide (what = 0))) (-1))) w := by
    intro hc
    have hc2 : c = -1 ∨ (0 ≤ c ∧ c < w 2 8) := hc
    unfold F_X5_has_18
    rw [K_m1, K_0, K_1, iI_l (by omega), e_X5_in t1 (by omega) (by omega) (by omega), bnd_s, k_m1, k_0, k_6]
    by_cases a : 0 ≤ what ∧ what ≤ 1
    · rw [if_neg (by rw [bZ_i0]; exact fun z => z a), if_pos ⟨hc, a⟩]
      obtain ⟨t2, e2, hL, f2⟩ := e_X5_aimNow hM1 hW
      have hok : flOk (nowL w ls) := laysL_ok (f := w 8 0) (sd := w 8 1) hW
      have hs : 1 ≤ sumW (nowL w ls) ∧ sumW (nowL w ls) ≤ 81 := laysL_sum (f := w 8 0) (sd := w 8 1) hW
      have hM2 := hM1.scr (f2.le fun _ _ => Sam_scr)
      obtain ⟨t3, e3, hP, f3⟩ := e_X5_findAll hM2 hW hok hL
      have hL3 := hL.go f3 fun _ _ => Spt_fl
      have hch := hok.ch (w := w) (ls := ls) (n := w 2 8) (c := c) (f := w 3)
      refine OpM.q hM1 ?_
      rw [e2, bnd_s, e3, bnd_s]
      have fin : ∃ t', F_X5_has_56 t3 (iI what) (iI (if c = -1 then 6 else c)) = some (lI (tellZ (chF w ls (w 2 8) c (w 3) (nowL w ls)) (60 * sumW (nowL w ls)) (decide (what = 0))), t') ∧ Fm Scr t1 t' := by
        unfold F_X5_has_56
        have hat := hP.at hc2
        rw [inb_g (by omega), iI_nat (by omega), show (if c = -1 then (6 : Int) else c).toNat = (if c = -1 then 6 else c.toNat) by split <;> rfl, hat, hL3.2.1, k_60, iI_mul, iI_l (by omega), iI_l (by omega)]
        obtain ⟨t4, e4, f4, g46, g47⟩ := e_X5_shorten t3 (u := chF w ls (w 2 8) c (w 3) (nowL w ls)) (l := 60 * sumW (nowL w ls)) (by omega) (by omega)
        rw [e4, bnd_s, k_0, g46, g47]
        have fA : Fm Scr t1 t4 := ((f2.le fun _ _ => Sam_scr).tr (f3.le fun _ _ => Spt_scr)).tr (f4.le fun _ _ => Shr_scr)
        by_cases b : what = 0
        · rw [if_pos (by rw [b]), b]
          exact ⟨t4, rfl, fA⟩
        · rw [if_neg (by rw [iI_eq (by omega) (by omega)]; exact b), decide_eq_false b]
          exact ⟨t4, rfl, fA⟩
      by_cases b : c = -1
      · rw [if_pos (by rw [b])]
        rw [if_pos b] at fin
        exact fin
      · rw [if_neg (by rw [iI_eq (by omega) (by omega)]; exact b)]
        rw [if_neg b] at fin
        exact fin
    · rw [if_pos (by rw [bZ_i0]; exact a), if_neg (fun z => a z.2)]
      exact OpM.ret hM1
  rw [k_m1, e_X5_isCatcher hM1.1 hm h1, bnd_s, k_0, K_m1]
  by_cases b : c = -1
  · rw [if_pos (by rw [b])]
    exact key (Or.inl b)
  · rw [if_neg (by rw [iI_eq (by omega) (by omega)]; exact b)]
    by_cases d : isC w c
    · rw [if_neg (by rw [bZ_i0]; exact fun z => z d)]
      exact key (Or.inr d)
    · rw [if_pos (by rw [bZ_i0]; exact d), if_neg (fun z => z.1.elim b d)]
      exact OpM.ret hM1
