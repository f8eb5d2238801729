set_option maxRecDepth 100000
/-! ===== the model: safest, a crowd, again, truly, meant, fits ===== -/
def hN (cell c : Int) : Int := if c ≠ -1 ∧ farZ c cell ≤ 1 then 1 else 0
theorem near_smX {cell : Int} : ∀ {fl : FL}, nearW cell fl = smX (hN cell) fl
  | [] => rfl
  | x :: r => by
    show (if x.1 ≠ -1 ∧ farZ x.1 cell ≤ 1 then x.2 else 0) + nearW cell r = x.2 * hN cell x.1 + smX (hN cell) r
    rw [near_smX]
    unfold hN
    split <;> omega
theorem near_36 {cell : Int} {fl : FL} (hfl : flOk fl) : smW (hN cell) fl 36 = nearW cell fl := by
  rw [near_smX, ← smW_all fun x hx => (hfl.1 x hx).1]
  show _ = smW (hN cell) fl 36 + wOf (ci 36) fl * hN cell (ci 36)
  rw [show hN cell (ci 36) = 0 from rfl]
  omega
theorem e_X5_weightNear_4 {t : St} {fl : FL} (hL : FlM t fl) (hfl : flOk fl) {cell : Int} (hc : 0 ≤ cell ∧ cell ≤ 35) : ∀ (n i : Nat), 36 = n + i → ∀ fu, n < fu → F_X5_weightNear_4 fu t (iI cell) (iI (smW (hN cell) fl i)) (iI i) = some (iI (nearW cell fl), t) := by
  intro n
  induction n with
  | zero =>
    intro i hi fu hfu
    obtain ⟨g, rfl⟩ : ∃ g, fu = g + 1 := ⟨fu - 1, by omega⟩
    have : i = 36 := by omega
    subst this
    simp only [F_X5_weightNear_4]
    rw [if_pos (by rw [k_36, iI_le (by omega) (by omega)]; omega), near_36 hfl]
  | succ n ih =>
    intro i hi fu hfu
    obtain ⟨g, rfl⟩ : ∃ g, fu = g + 1 := ⟨fu - 1, by omega⟩
    have hfr := farZ_r (a := (i : Int)) (b := cell) (by omega) hc
    have hci : ci i = i := by unfold ci; rw [if_neg (by omega)]
    have h22 := hL.1 (ci i) (by rw [hci]; omega) (by rw [hci]; omega)
    rw [hci, show (cM (i : Int)).toNat = i by unfold cM; omega] at h22
    simp only [F_X5_weightNear_4]
    rw [if_neg (by rw [k_36, iI_le (by omega) (by omega)]; omega), e_X5_farOf t (by omega) hc, bnd_s, k_2, k_0, iI_su, iI_add, inb_g (by omega), iI_nat (by omega), Int.toNat_natCast, h22, iI_add, nam_v]
    have hsu : smW (hN cell) fl (i + 1) = smW (hN cell) fl i + wOf i fl * hN cell i := by
      show smW (hN cell) fl i + wOf (ci i) fl * hN cell (ci i) = _
      rw [hci]
    have := ih (i + 1) (by omega) g (by omega)
    rw [hsu] at this
    unfold hN at this
    by_cases a : 2 ≤ farZ i cell
    · rw [if_neg (by omega), Int.mul_zero] at this
      rw [if_pos (by rw [iI_le (by omega) (by omega)]; exact a)]
      exact this
    · rw [if_pos (by omega), Int.mul_one] at this
      rw [if_neg (by rw [iI_le (by omega) (by omega)]; exact a)]
      exact this
theorem e_X5_weightNear {t : St} {fl : FL} (hL : FlM t fl) (hfl : flOk fl) {cell : Int} (hc : 0 ≤ cell ∧ cell ≤ 35) : F_X5_weightNear t (iI cell) = some (iI (nearW cell fl), t) := by
  unfold F_X5_weightNear
  rw [k_0]
  exact e_X5_weightNear_4 hL hfl hc 36 0 (by omega) FU (FU_ge (by omega))
def lst (fl : FL) (b : Int) : Int := if b = -1 then 1000 else nearW b fl
theorem e_X5_safest_41 {w : WR} {ls : List (List DC)} {fl : FL} (hW : Wf w ls) (hD : Wd2 w) (hfl : flOk fl) (hs : 1 ≤ sumW fl) {c what : Int} (hc : 0 ≤ c ∧ c < w 2 8) (hw : 0 ≤ what ∧ what ≤ 2) : ∀ (n e : Nat) (b : Int) (t : St), 36 = n + e → Qs t w ls (w 3) fl → (-1 ≤ b ∧ b ≤ 35) → ∀ fu, n < fu → OpM t ls (F_X5_safest_41 fu t (iI c) (iI what) (iI b) (iI (lst fl b)) (iI e)) (iI (sfZ what fl (sfF w ls fl c n e b))) w := by
  have hm := hW.1
  have hn : ∀ b, 0 ≤ nearW b fl ∧ nearW b fl ≤ 81 := fun b => by
    have := nearW_r (cell := b) (fl := fl) fun x hx => (hfl.1 x hx).2
    have := hfl.2
    omega
  have hlb : ∀ b, 0 ≤ lst fl b ∧ lst fl b ≤ 1000 := fun b => by
    have := hn b
    unfold lst
    split <;> omega
  intro n
  induction n with
  | zero =>
    intro e b t he hQ hb fu hfu
    obtain ⟨g, rfl⟩ : ∃ g, fu = g + 1 := ⟨fu - 1, by omega⟩
    have hM : M0 t w ls := by have := hQ.1; rw [pX_self] at this; exact this
    simp only [F_X5_safest_41]
    unfold F_X5_safest_125
    rw [if_pos (by rw [k_36, iI_le (by omega) (by omega)]; omega), k_m1, k_0, k_1, sfF]
    unfold sfZ
    by_cases a : b = -1
    · rw [if_pos (by rw [a]), if_pos (Or.inl a)]
      exact OpM.ret hM
    · rw [if_neg (by rw [iI_eq (by omega) (by omega)]; exact a)]
      by_cases d : what = 0
      · rw [if_pos (by rw [d]), if_pos (Or.inr d)]
        exact OpM.ret hM
      · have h1 := hn b
        have h2 := hfl.2
        have hl : lst fl b = nearW b fl := by unfold lst; rw [if_neg a]
        rw [if_neg (by rw [iI_eq (by omega) (by omega)]; exact d), if_neg (by omega), hl, hQ.2.2.1, iI_l (by omega), iI_l (by omega)]
        obtain ⟨t4, e4, f4, g46, g47⟩ := e_X5_shorten t (u := nearW b fl) (l := sumW fl) (by omega) (by omega)
        have r1 := tellZ_r (u := nearW b fl) (l := sumW fl) (up := true) (by omega) (by omega)
        have r2 := tellZ_r (u := nearW b fl) (l := sumW fl) (up := false) (by omega) (by omega)
        simp only [if_true] at r1
        rw [if_neg (by simp)] at r2
        rw [e4, bnd_s, g46, g47, lI_i (by omega), lI_i (by omega)]
        by_cases d1 : what = 1
        · rw [if_pos (by rw [d1]), decide_eq_true d1]
          exact OpM.q hM ⟨t4, rfl, f4.le fun _ _ => Shr_scr⟩
        · rw [if_neg (by rw [iI_eq (by omega) (by omega)]; exact d1), decide_eq_false d1]
          exact OpM.q hM ⟨t4, rfl, f4.le fun _ _ => Shr_scr⟩
  | succ n ih =>
    intro e b t he hQ hb fu hfu
    obtain ⟨g, rfl⟩ : ∃ g, fu = g + 1 := ⟨fu - 1, by omega⟩
    obtain ⟨t1, e1, hQ1, f1⟩ := e_X5_canStand hQ hW hW.pok hD (c := c) (cell := (e : Int)) hc (by omega)
    have h1 := hn e
    have h2 := hlb b
    simp only [F_X5_safest_41]
    rw [if_neg (by rw [k_36, iI_le (by omega) (by omega)]; omega), e1, bnd_s, k_0, iI_su, sfF, show (e : Int) + 1 = ((e + 1 : Nat) : Int) by omega]
    refine OpM.after (f1.le fun _ _ z => Sfs_reg (Or.inl z)) ?_
    by_cases a : canSP w ls (w 3) c e
    · rw [if_neg (by rw [bZ_i0]; exact fun z => z a), e_X5_weightNear hQ1.2 hfl (by omega), bnd_s, e_X5_weightNear hQ1.2 hfl (by omega), bnd_s]
      have hcond : (b = -1 ∨ nearW e fl < nearW b fl) ↔ ¬ lst fl b ≤ nearW e fl := by
        unfold lst
        split
        · rename_i h
          exact ⟨fun _ => by omega, fun _ => Or.inl h⟩
        · rename_i h
          exact ⟨fun z => by have := z.resolve_left h; omega, fun z => Or.inr (by omega)⟩
      by_cases d : lst fl b ≤ nearW e fl
      · rw [if_pos (by rw [iI_le (by omega) (by omega)]; exact d), if_neg (fun z => hcond.mp z.2 d)]
        exact ih (e + 1) b t1 (by omega) hQ1 hb g (by omega)
      · rw [if_neg (by rw [iI_le (by omega) (by omega)]; exact d), if_pos ⟨a, hcond.mpr d⟩]
        have := ih (e + 1) e t1 (by omega) hQ1 (by omega) g (by omega)
        rw [show lst fl (e : Int) = nearW e fl by unfold lst; rw [if_neg (by omega)]] at this
        exact this
    · rw [if_pos (by rw [bZ_i0]; exact a), if_neg (fun z => a z.1)]
      exact ih (e + 1) b t1 (by omega) hQ1 hb g (by omega)
theorem m_safest {t : St} {w : WR} {ls : List (List DC)} (hM : M0 t w ls) (hW : Wf w ls) (hD : Wd2 w) {c what : Int} (h1 : i32 c) (h2 : i32 what) : OpM t ls (F_X5_safest t (iI c) (iI what)) (iI (safestV w ls c what)) w := by
  unfold F_X5_safest
  refine Mthr hM fun t1 hM1 => ?_
  have hm := hW.1
  have h2' := h2
  unfold i32 at h2'
  unfold safestV
  rw [e_X5_isCatcher hM1.1 hm h1, bnd_s, k_m1, k_0, K_0, K_2, iI_l (by omega), e_X5_in t1 (by omega) (by omega) (by omega), bnd_s]
  by_cases a1 : isC w c
  · have a3 : 0 ≤ c ∧ c < w 2 8 := a1
    rw [if_neg (by rw [bZ_i0]; exact fun z => z a1)]
    by_cases a2 : 0 ≤ what ∧ what ≤ 2
    · rw [if_neg (by rw [bZ_i0]; exact fun z => z a2), if_pos ⟨a1, a2⟩]
      obtain ⟨t2, e2, hL, f2⟩ := e_X5_aimNow hM1 hW
      have hok : flOk (nowL w ls) := laysL_ok (f := w 8 0) (sd := w 8 1) hW
      have hs : 1 ≤ sumW (nowL w ls) ∧ sumW (nowL w ls) ≤ 81 := laysL_sum (f := w 8 0) (sd := w 8 1) hW
      rw [e2, bnd_s, k_1000]
      refine OpM.after (f2.le fun _ _ z => Or.inr (Sam_scr z)) ?_
      have := e_X5_safest_41 hW hD hok hs.1 a3 a2 36 0 (-1) t2 (by omega) (Qs.of (hM1.scr (f2.le fun _ _ => Sam_scr)) hL) (by omega) FU (FU_ge (by omega))
      exact this
    · rw [if_pos (by rw [bZ_i0]; exact a2), if_neg (fun z => a2 z.2)]
      exact OpM.ret hM1
  · rw [if_pos (by rw [bZ_i0]; exact a1), if_neg (fun z => a1 z.1)]
    exact OpM.ret hM1
/-! a crowd -/
def crI (S its least : Int) (q : Int × Int × Int) : Prop := (q = (0, -1, 1) ∧ its = 0 ∧ least = 1000000) ∨ (q = (its, 60 * S - least, 60 * S) ∧ (0 ≤ its ∧ its ≤ 6) ∧ (0 ≤ least ∧ least ≤ 60 * S))
theorem e_X5_crowd_34 {w : WR} {ls : List (List DC)} (hW : Wf w ls) {what : Int} (hw : 0 ≤ what ∧ what ≤ 2) : ∀ (n : Nat) (j its least : Int) (q : Int × Int × Int) (t : St), M0 t w ls → FlM t (nowL w ls) → 0 ≤ j → w 2 8 + 1 = n + j → crI (sumW (nowL w ls)) its least q → (0 < n ∨ q ≠ (0, -1, 1)) → ∀ fu, n < fu → OpM t ls (F_X5_crowd_34 fu t (iI what) (iI its) (iI least) (iI j)) (lI (crZ what (mxF (crU w ls) (crL w ls) n j q))) w := by
  have hm := hW.1
  have hok : flOk (nowL w ls) := laysL_ok (f := w 8 0) (sd := w 8 1) hW
  have hs : 1 ≤ sumW (nowL w ls) ∧ sumW (nowL w ls) ≤ 81 := laysL_sum (f := w 8 0) (sd := w 8 1) hW
  intro n
  induction n with
  | zero =>
    intro j its least q t hM hL h0 hn hI hq fu hfu
    obtain ⟨g, rfl⟩ : ∃ g, fu = g + 1 := ⟨fu - 1, by omega⟩
    have hI2 : q = (its, 60 * sumW (nowL w ls) - least, 60 * sumW (nowL w ls)) ∧ (0 ≤ its ∧ its ≤ 6) ∧ (0 ≤ least ∧ least ≤ 60 * sumW (nowL w ls)) := by
      rcases hI with h | h
      · exact absurd h.1 (hq.resolve_left (by omega))
      · exact h
    obtain ⟨hq2, hi, hl⟩ := hI2
    simp only [F_X5_crowd_34]
    rw [k_0, inb_g (by omega), show (iI 0).toNatClampNeg = 0 from rfl, hM.1.many, if_pos (by rw [iI_lt (by omega) (by omega)]; omega), hL.2.1, k_60, k_1, iI_mul, iI_sub, iI_l (by omega), iI_l (by omega), iI_l (by omega), mxF, hq2]
    unfold crZ
    by_cases b : what = 0
    · rw [if_pos (by rw [b]), if_pos b]
      exact OpM.ret hM
    · rw [if_neg (by rw [iI_eq (by omega) (by omega)]; exact b), if_neg b]
      obtain ⟨t4, e4, f4, g46, g47⟩ := e_X5_shorten t (u := 60 * sumW (nowL w ls) - least) (l := 60 * sumW (nowL w ls)) (by omega) (by omega)
      rw [e4, bnd_s, g46, g47]
      by_cases d1 : what = 1
      · rw [if_pos (by rw [d1]), decide_eq_true d1]
        exact OpM.q hM ⟨t4, rfl, f4.le fun _ _ => Shr_scr⟩
      · rw [if_neg (by rw [iI_eq (by omega) (by omega)]; exact d1), decide_eq_false d1]
        exact OpM.q hM ⟨t4, rfl, f4.le fun _ _ => Shr_scr⟩
  | succ n ih =>
    intro j its least q t hM hL h0 hn hI hq fu hfu
    obtain ⟨g, rfl⟩ : ∃ g, fu = g + 1 := ⟨fu - 1, by omega⟩
    obtain ⟨t1, e1, hP, f1⟩ := e_X5_findParts hM hW (n := j) (by omega) hok hL
    have hM1 := hM.scr (f1.le fun _ _ => Spt_scr)
    have hL1 := hL.go f1 fun _ _ => Spt_fl
    have hch := chF_r (w := w) (ls := ls) (n := j) (c := -1) (f := w 3) (fl := nowL w ls) fun x hx => (hok.1 x hx).2
    have hlr : 0 ≤ least ∧ least ≤ 1000000 := by rcases hI with h | h <;> omega
    have hcond : (q.2.1 * crL w ls j < crU w ls j * q.2.2) ↔ ¬ least ≤ chF w ls j (-1) (w 3) (nowL w ls) := by
      unfold crL crU
      rcases hI with ⟨h, h1, h2⟩ | ⟨h, h1, h2⟩
      · rw [h]
        refine ⟨fun _ => by omega, fun _ => ?_⟩
        show (-1) * (60 * sumW (nowL w ls)) < (60 * sumW (nowL w ls) - chF w ls j (-1) (w 3) (nowL w ls)) * 1
        omega
      · rw [h]
        show (60 * sumW (nowL w ls) - least) * (60 * sumW (nowL w ls)) < (60 * sumW (nowL w ls) - chF w ls j (-1) (w 3) (nowL w ls)) * (60 * sumW (nowL w ls)) ↔ _
        rw [Int.mul_lt_mul_right (by omega)]
        omega
    have hp6 : si t1 26 6 = iI (chF w ls j (-1) (w 3) (nowL w ls)) := hP.2
    simp only [F_X5_crowd_34]
    rw [k_0, inb_g (by omega), show (iI 0).toNatClampNeg = 0 from rfl, hM.1.many, if_neg (by rw [iI_lt (by omega) (by omega)]; omega), e1, bnd_s, k_6, inb_g (by omega), show (iI 6).toNatClampNeg = 6 from rfl, hp6]
    unfold F_X5_crowd_68
    rw [k_6, inb_g (by omega), inb_g (by omega), show (iI 6).toNatClampNeg = 6 from rfl, hp6, k_1, iI_add, nam_v]
    refine OpM.after (f1.le fun _ _ z => Or.inr (Spt_scr z)) ?_
    rw [mxF]
    by_cases d : least ≤ chF w ls j (-1) (w 3) (nowL w ls)
    · rw [if_pos (by rw [iI_le (by omega) (by omega)]; exact d), if_pos (by rw [iI_le (by omega) (by omega)]; exact d), if_neg (fun z => hcond.mp z d)]
      refine ih (j + 1) its least q t1 hM1 hL1 (by omega) (by omega) hI (Or.inr fun z => ?_) g (by omega)
      rcases hI with h | h
      · omega
      · rw [h.1] at z
        have := congrArg (fun y : Int × Int × Int => y.2.1) z
        change 60 * sumW (nowL w ls) - least = -1 at this
        omega
    · rw [if_neg (by rw [iI_le (by omega) (by omega)]; exact d), if_neg (by rw [iI_le (by omega) (by omega)]; exact d), if_pos (hcond.mpr d)]
      refine ih (j + 1) j (chF w ls j (-1) (w 3) (nowL w ls)) _ t1 hM1 hL1 (by omega) (by omega) (Or.inr ⟨rfl, by omega, hch⟩) (Or.inr fun z => ?_) g (by omega)
      have := congrArg (fun y : Int × Int × Int => y.2.1) z
      change 60 * sumW (nowL w ls) - chF w ls j (-1) (w 3) (nowL w ls) = -1 at this
      omega
theorem m_crowd {t : St} {w : WR} {ls : List (List DC)} (hM : M0 t w ls) (hW : Wf w ls) {what : Int} (h2 : i32 what) : OpM t ls (F_X5_crowd t (iI what)) (lI (crowdV w ls what)) w := by
  unfold F_X5_crowd
  refine Mthr hM fun t1 hM1 => ?_
  have hm := hW.1
  have h2' := h2
  unfold i32 at h2'
  unfold crowdV
  rw [K_m1, k_0, K_0, K_2, iI_l (by omega), e_X5_in t1 (by omega) (by omega) (by omega), bnd_s]
  by_cases a2 : 0 ≤ what ∧ what ≤ 2
  · rw [if_neg (by rw [bZ_i0]; exact fun z => z a2), if_pos a2]
    obtain ⟨t2, e2, hL, f2⟩ := e_X5_aimNow hM1 hW
    rw [e2, bnd_s, k_1000000]
    refine OpM.after (f2.le fun _ _ z => Or.inr (Sam_scr z)) ?_
    exact e_X5_crowd_34 hW a2 (w 2 8 + 1).toNat 0 0 1000000 (0, -1, 1) t2 (hM1.scr (f2.le fun _ _ => Sam_scr)) hL (by omega) (by omega) (Or.inl ⟨rfl, rfl, rfl⟩) (Or.inl (by omega)) FU (FU_ge (by omega))
  · rw [if_pos (by rw [bZ_i0]; exact a2), if_neg a2]
    exact OpM.ret hM1
/-! again, truly -/
theorem m_again {t : St} {w : WR} {ls : List (List DC)} (hM : M0 t w ls) (hW : Wf w ls) {what : Int} (h2 : i32 what) : OpM t ls (F_X5_again t (iI what)) (lI (againV w ls what)) w := by
  unfold F_X5_again
  refine Mthr hM fun t1 hM1 => ?_
  have h2' := h2
  unfold i32 at h2'
  unfold againV
  rw [K_m1, k_0, K_0, K_1, iI_l (by omega), e_X5_in t1 (by omega) (by omega) (by omega), bnd_s]
  by_cases a2 : 0 ≤ what ∧ what ≤ 1
  · rw [if_neg (by rw [bZ_i0]; exact fun z => z a2), if_pos a2]
    obtain ⟨t2, e2, hL, f2⟩ := e_X5_aimNow hM1 hW
    have hok : flOk (nowL w ls) := laysL_ok (f := w 8 0) (sd := w 8 1) hW
    have hs : 1 ≤ sumW (nowL w ls) ∧ sumW (nowL w ls) ≤ 81 := laysL_sum (f := w 8 0) (sd := w 8 1) hW
    have hM2 := hM1.scr (f2.le fun _ _ => Sam_scr)
    obtain ⟨t3, e3, hP, f3⟩ := e_X5_findAll hM2 hW hok hL
    have hL3 := hL.go f3 fun _ _ => Spt_fl
    have hch : 0 ≤ nobZ w ls ∧ nobZ w ls ≤ 4860 := hok.ch
    have hp6 : si t3 26 6 = iI (nobZ w ls) := hP.2
    have m1 : 0 ≤ nobZ w ls * nobZ w ls ∧ nobZ w ls * nobZ w ls ≤ 4860 * 4860 := ⟨Int.mul_nonneg hch.1 hch.1, Int.mul_le_mul hch.2 hch.2 hch.1 (by omega)⟩
    have m2 : 0 < 60 * sumW (nowL w ls) * (60 * sumW (nowL w ls)) ∧ 60 * sumW (nowL w ls) * (60 * sumW (nowL w ls)) ≤ 4860 * 4860 := ⟨Int.mul_pos (by omega) (by omega), Int.mul_le_mul (by omega) (by omega) (by omega) (by omega)⟩
    rw [e2, bnd_s, e3, bnd_s, hL3.2.1, k_60, iI_mul, iI_l (by omega), nam_v, k_6, inb_g (by omega), show (iI 6).toNatClampNeg = 6 from rfl, hp6, iI_l (by omega), nam_v, lI_mul, lI_mul]
    obtain ⟨t4, e4, f4, g46, g47⟩ := e_X5_shorten t3 (u := nobZ w ls * nobZ w ls) (l := 60 * sumW (nowL w ls) * (60 * sumW (nowL w ls))) (by omega) (by omega)
    have fA : Fm Scr t1 t4 := ((f2.le fun _ _ => Sam_scr).tr (f3.le fun _ _ => Spt_scr)).tr (f4.le fun _ _ => Shr_scr)
    rw [e4, bnd_s, g46, g47]
    by_cases b : what = 0
    · rw [if_pos (by rw [b]), decide_eq_true b]
      exact OpM.q hM1 ⟨t4, rfl, fA⟩
    · rw [if_neg (by rw [iI_eq (by omega) (by omega)]; exact b), decide_eq_false b]
      exact OpM.q hM1 ⟨t4, rfl, fA⟩
  · rw [if_pos (by rw [bZ_i0]; exact a2), if_neg a2]
    exact OpM.ret hM1
theorem e_X5_truly_32 {w : WR} {ls : List (List DC)} (hW : Wf w ls) {what : Int} (hw : 0 ≤ what ∧ what ≤ 1) : ∀ (n : Nat) (c z : Int) (t : St), M0 t w ls → FlM t (nowL w ls) → PtE t w ls (w 2 8) (nowL w ls) → 0 ≤ c → w 2 8 = n + c → (0 ≤ z ∧ z ≤ 1000000 * c) → ∀ fu, n < fu → OpM t ls (F_X5_truly_32 fu t (iI what) (lI z) (iI c)) (lI (tellZ (truF w ls n c z) (100 * (60 * sumW (nowL w ls))) (decide (what = 0)))) w := by
  have hm := hW.1
  have hok : flOk (nowL w ls) := laysL_ok (f := w 8 0) (sd := w 8 1) hW
  have hs : 1 ≤ sumW (nowL w ls) ∧ sumW (nowL w ls) ≤ 81 := laysL_sum (f := w 8 0) (sd := w 8 1) hW
  intro n
  induction n with
  | zero =>
    intro c z t hM hL hP h0 hc hz fu hfu
    obtain ⟨g, rfl⟩ : ∃ g, fu = g + 1 := ⟨fu - 1, by omega⟩
    simp only [F_X5_truly_32]
    rw [k_0, inb_g (by omega), show (iI 0).toNatClampNeg = 0 from rfl, hM.1.many, if_pos (by rw [iI_le (by omega) (by omega)]; omega), hL.2.1, iI_l (by omega), K_6000, lI_mul, truF, show 6000 * sumW (nowL w ls) = 100 * (60 * sumW (nowL w ls)) by omega]
    obtain ⟨t4, e4, f4, g46, g47⟩ := e_X5_shorten t (u := z) (l := 100 * (60 * sumW (nowL w ls))) (by omega) (by omega)
    rw [e4, bnd_s, g46, g47]
    by_cases b : what = 0
    · rw [if_pos (by rw [b]), decide_eq_true b]
      exact OpM.q hM ⟨t4, rfl, f4.le fun _ _ => Shr_scr⟩
    · rw [if_neg (by rw [iI_eq (by omega) (by omega)]; exact b), decide_eq_false b]
      exact OpM.q hM ⟨t4, rfl, f4.le fun _ _ => Shr_scr⟩
  | succ n ih =>
    intro c z t hM hL hP h0 hc hz fu hfu
    obtain ⟨g, rfl⟩ : ∃ g, fu = g + 1 := ⟨fu - 1, by omega⟩
    obtain ⟨t1, e1, f1⟩ := e_X5_wedOf hM hW (c := c) (far := 1) (by omega) (by omega)
    have hwr := wedZ_r (w := w) (ls := ls) (c := c) (k := 1)
    have hch := hok.ch (w := w) (ls := ls) (n := w 2 8) (c := c) (f := w 3)
    have m1 : 0 ≤ chF w ls (w 2 8) c (w 3) (nowL w ls) * wedZ w ls c 1 ∧ chF w ls (w 2 8) c (w 3) (nowL w ls) * wedZ w ls c 1 ≤ 4860 * 100 := ⟨Int.mul_nonneg hch.1 hwr.1, Int.mul_le_mul hch.2 hwr.2 hwr.1 (by omega)⟩
    have sq : ∀ a j, Sq a j → a ≠ 26 := fun a j z => by unfold Sq Stl Sso at z; omega
    have hP1 : PtE t1 w ls (w 2 8) (nowL w ls) := ⟨fun d d0 d1 => by rw [f1.i _ _ (fun z => sq _ _ z rfl)]; exact hP.1 d d0 d1, by rw [f1.i _ _ (fun z => sq _ _ z rfl)]; exact hP.2⟩
    have hL1 := hL.go f1 fun _ _ z => Spt_fl (Or.inl (Or.inl z))
    simp only [F_X5_truly_32]
    rw [k_0, inb_g (by omega), show (iI 0).toNatClampNeg = 0 from rfl, hM.1.many, if_neg (by rw [iI_le (by omega) (by omega)]; omega), inb_g (by omega), iI_nat (by omega), hP.1 c h0 (by omega), k_1, e1, bnd_s, iI_mul, iI_l (by omega), lI_add, nam_v, iI_add, truF]
    refine OpM.after (f1.le fun _ _ => Sq_reg) ?_
    exact ih (c + 1) _ t1 (hM.sq f1) hL1 hP1 (by omega) (by omega) (by omega) g (by omega)
theorem m_truly {t : St} {w : WR} {ls : List (List DC)} (hM : M0 t w ls) (hW : Wf w ls) {what : Int} (h2 : i32 what) : OpM t ls (F_X5_truly t (iI what)) (lI (trulyV w ls what)) w := by
  unfold F_X5_truly
  refine Mthr hM fun t1 hM1 => ?_
  have hm := hW.1
  have h2' := h2
  unfold i32 at h2'
  unfold trulyV
  rw [K_m1, k_0, K_0, K_1, iI_l (by omega), e_X5_in t1 (by omega) (by omega) (by omega), bnd_s]
  by_cases a2 : 0 ≤ what ∧ what ≤ 1
  · rw [if_neg (by rw [bZ_i0]; exact fun z => z a2), if_pos a2]
    obtain ⟨t2, e2, hL, f2⟩ := e_X5_aimNow hM1 hW
    have hok : flOk (nowL w ls) := laysL_ok (f := w 8 0) (sd := w 8 1) hW
    have hM2 := hM1.scr (f2.le fun _ _ => Sam_scr)
    obtain ⟨t3, e3, hP, f3⟩ := e_X5_findAll hM2 hW hok hL
    have hL3 := hL.go f3 fun _ _ => Spt_fl
    rw [e2, bnd_s, e3, bnd_s]
    refine OpM.after ((f2.le fun _ _ z => Or.inr (Sam_scr z)).tr (f3.le fun _ _ z => Or.inr (Spt_scr z))) ?_
    exact e_X5_truly_32 hW a2 (w 2 8).toNat 0 0 t3 (hM2.scr (f3.le fun _ _ => Spt_scr)) hL3 hP (by omega) (by omega) (by omega) FU (FU_ge (by omega))
  · rw [if_pos (by rw [bZ_i0]; exact a2), if_neg a2]
    exact OpM.ret hM1
/-! meant, fits -/
theorem e_X5_meant_121 {w : WR} {ls : List (List DC)} (hW : Wf w ls) {fl : FL} (hfl : flOk fl) : ∀ (n : Nat) (c : Int) (q : Int × Int) (t : St), M0 t w ls → PtE t w ls (w 2 8) fl → 0 ≤ c → w 2 8 = n + c → ((-1 ≤ q.1 ∧ q.1 < c) ∧ (0 ≤ q.2 ∧ q.2 ≤ 4860)) → ∀ fu, n < fu → F_X5_meant_121 fu t (iI q.1) (iI q.2) (iI c) = some (lI (whoM w ls fl n c q).1, t) := by
  have hm := hW.1
  intro n
  induction n with
  | zero =>
    intro c q t hM hP h0 hc hq fu hfu
    obtain ⟨g, rfl⟩ : ∃ g, fu = g + 1 := ⟨fu - 1, by omega⟩
    simp only [F_X5_meant_121]
    rw [k_0, inb_g (by omega), show (iI 0).toNatClampNeg = 0 from rfl, hM.1.many, if_pos (by rw [iI_le (by omega) (by omega)]; omega), iI_l (by omega)]
    rfl
  | succ n ih =>
    intro c q t hM hP h0 hc hq fu hfu
    obtain ⟨g, rfl⟩ : ∃ g, fu = g + 1 := ⟨fu - 1, by omega⟩
    have hch := hfl.ch (w := w) (ls := ls) (n := w 2 8) (c := c) (f := w 3)
    have hpc := hP.1 c h0 (by omega)
    simp only [F_X5_meant_121]
    unfold F_X5_meant_150
    rw [k_0, inb_g (by omega), show (iI 0).toNatClampNeg = 0 from rfl, hM.1.many, if_neg (by rw [iI_le (by omega) (by omega)]; omega), inb_g (by omega), iI_nat (by omega), hpc, inb_g (by omega), inb_g (by omega), inb_g (by omega), k_1, iI_add, whoM]
    by_cases d : chF w ls (w 2 8) c (w 3) fl ≤ q.2
    · rw [if_pos (by rw [iI_le (by omega) (by omega)]; exact d), if_pos (by rw [iI_le (by omega) (by omega)]; exact d), if_neg (by omega)]
      exact ih (c + 1) q t hM hP (by omega) (by omega) (by omega) g (by omega)
    · rw [if_neg (by rw [iI_le (by omega) (by omega)]; exact d), if_neg (by rw [iI_le (by omega) (by omega)]; exact d), if_pos (by omega), inb_g (by omega)]
      exact ih (c + 1) (c, chF w ls (w 2 8) c (w 3) fl) t hM hP (by omega) (by omega) ⟨by show -1 ≤ c ∧ c < c + 1; omega, hch⟩ g (by omega)
theorem e_X5_meant_39 {w : WR} {ls : List (List DC)} (hW : Wf w ls) {cell what : Int} (hc : 0 ≤ cell ∧ cell ≤ 35) (hw : 0 ≤ what ∧ what ≤ 4) : ∀ (n : Nat) (j : Int) (q : Int × Int × Int × Int) (t : St), M0 t w ls → BsM t q → mxO q.2 → 0 ≤ q.2.2.1 → (-1 ≤ q.2.1 ∧ q.2.1 ≤ 24) → 0 ≤ j → 25 = n + j → ∀ fu, n < fu → ∃ t', F_X5_meant_39 fu t (iI cell) (iI what) (iI j) = some (lI (mtZ w ls what (mxF (mtU w ls cell) (mtL w ls) n j q.2)), t') ∧ Fm Scr t t' := by
  have hm := hW.1
  intro n
  induction n with
  | zero =>
    intro j q t hM hB hq hq0 hq1 hj hn fu hfu
    obtain ⟨g, rfl⟩ : ∃ g, fu = g + 1 := ⟨fu - 1, by omega⟩
    simp only [F_X5_meant_39]
    rw [if_pos (by rw [k_25, iI_le (by omega) (by omega)]; omega), hB.1.2, mxF, K_m1, k_m1, k_0, k_4]
    unfold mtZ
    by_cases a : q.2.1 = -1
    · rw [if_pos (by rw [a]), if_pos a]
      exact ⟨t, rfl, Fm.rf⟩
    · rw [if_neg (by rw [iI_eq (by omega) (by omega)]; exact a), if_neg a]
      by_cases b : what < 4
      · obtain ⟨t', e, f⟩ := e_X5_tellThrow hB ⟨hq0, hq.1.2⟩ hq.2 (k := q.2.1) (what := what) (by omega) (by omega)
        rw [if_neg (by rw [iI_le (by omega) (by omega)]; omega), if_pos b, e, bnd_s]
        exact ⟨t', rfl, f.le fun _ _ => Shr_scr⟩
      · obtain ⟨t1, e1, hL1, f1⟩ := e_X5_aimAt hM hW (j := q.2.1) (by omega)
        have hM1 := hM.scr (f1.le fun _ _ => Sam_scr)
        obtain ⟨t2, e2, hP, f2⟩ := e_X5_findAll hM1 hW (thL_ok hW) hL1
        have := e_X5_meant_121 hW (thL_ok hW (j := q.2.1)) (w 2 8).toNat 0 (-1, 0) t2 (hM1.scr (f2.le fun _ _ => Spt_scr)) hP (by omega) (by omega) ⟨by show (-1 : Int) ≤ -1 ∧ (-1 : Int) < 0; omega, by show (0 : Int) ≤ 0 ∧ (0 : Int) ≤ 4860; omega⟩ FU (FU_ge (by omega))
        rw [if_pos (by rw [iI_le (by omega) (by omega)]; omega), if_neg b, e1, bnd_s, e2, bnd_s, this]
        exact ⟨t2, rfl, (f1.le fun _ _ => Sam_scr).tr (f2.le fun _ _ => Spt_scr)⟩
  | succ n ih =>
    intro j q t hM hB hq hq0 hq1 hj hn fu hfu
    obtain ⟨g, rfl⟩ : ∃ g, fu = g + 1 := ⟨fu - 1, by omega⟩
    obtain ⟨t1, e1, hL1, f1⟩ := e_X5_aimAt hM hW (j := j) (by omega)
    have hM1 := hM.scr (f1.le fun _ _ => Sam_scr)
    have hB1 := hB.go f1 fun _ _ => Sam_bs
    have hok := thL_ok hW (ls := ls) (j := j)
    have hl := th_l hW (ls := ls) (j := j)
    have hwo := wOf_r (cell := cell) (fl := thL w ls j) fun x hx => (hok.1 x hx).2
    have hcm : cM cell = cell := by unfold cM; rw [if_neg (by omega)]
    have h22 := hL1.1 cell (by omega) (by omega)
    rw [hcm] at h22
    have wg : ∃ t', F_X5_weigh t1 (iI j) (iI j) (lI (wOf cell (thL w ls j))) (lI (sumW (thL w ls j))) = some ((), t') ∧ BsM t' (bM q j j (wOf cell (thL w ls j)) (sumW (thL w ls j))) ∧ mxO (bM q j j (wOf cell (thL w ls j)) (sumW (thL w ls j))).2 ∧ Fm Sbs t1 t' := e_X5_weigh hB1 hq (by omega) (by omega)
    obtain ⟨t3, e3, hB3, hq3, f3⟩ := wg
    have hst : (bM q j j (wOf cell (thL w ls j)) (sumW (thL w ls j))).2 = (if q.2.2.1 * mtL w ls j < mtU w ls cell j * q.2.2.2 then (j, mtU w ls cell j, mtL w ls j) else q.2) := by
      unfold bM
      show (if q.2.2.1 * mtL w ls j < mtU w ls cell j * q.2.2.2 then _ else q).2 = _
      split <;> rfl
    have hmx : mxF (mtU w ls cell) (mtL w ls) (n + 1) j q.2 = mxF (mtU w ls cell) (mtL w ls) n (j + 1) (bM q j j (wOf cell (thL w ls j)) (sumW (thL w ls j))).2 := by rw [mxF, hst]
    have hb0 : 0 ≤ (bM q j j (wOf cell (thL w ls j)) (sumW (thL w ls j))).2.2.1 ∧ (-1 ≤ (bM q j j (wOf cell (thL w ls j)) (sumW (thL w ls j))).2.1 ∧ (bM q j j (wOf cell (thL w ls j)) (sumW (thL w ls j))).2.1 ≤ 24) := by
      unfold bM
      split
      · show 0 ≤ wOf cell (thL w ls j) ∧ -1 ≤ j ∧ j ≤ 24
        omega
      · exact ⟨hq0, hq1⟩
    rw [hmx]
    obtain ⟨t4, e4, f4⟩ := ih (j + 1) _ t3 (hM1.scr (f3.le fun _ _ => Sbs_scr)) hB3 hq3 hb0.1 hb0.2 (by omega) (by omega) g (by omega)
    refine ⟨t4, ?_, ((f1.le fun _ _ => Sam_scr).tr (f3.le fun _ _ => Sbs_scr)).tr f4⟩
    simp only [F_X5_meant_39]
    rw [if_neg (by rw [k_25, iI_le (by omega) (by omega)]; omega), e1, bnd_s, inb_g (by omega), iI_nat (by omega), h22, hL1.2.1, iI_l (by omega), iI_l (by omega), e3, bnd_s, k_1, iI_add]
    exact e4
theorem m_meant {t : St} {w : WR} {ls : List (List DC)} (hM : M0 t w ls) (hW : Wf w ls) {cell what : Int} (h1 : i32 cell) (h2 : i32 what) : OpM t ls (F_X5_meant t (iI cell) (iI what)) (lI (meantV w ls cell what)) w := by
  unfold F_X5_meant
  refine Mthr hM fun t1 hM1 => ?_
  have h2' := h2
  unfold i32 at h2'
  unfold meantV
  rw [e_X5_isCell t1 h1, bnd_s, K_m1, k_0, K_0, K_4, iI_l (by omega), e_X5_in t1 (by omega) (by omega) (by omega), bnd_s]
  by_cases a1 : 0 ≤ cell ∧ cell ≤ 35
  · rw [if_neg (by rw [bZ_i0]; exact fun z => z a1)]
    by_cases a2 : 0 ≤ what ∧ what ≤ 4
    · rw [if_neg (by rw [bZ_i0]; exact fun z => z a2), if_pos ⟨a1, a2⟩]
      obtain ⟨t2, e2, hB, f2⟩ := e_X5_beginBest t1
      rw [e2, bnd_s, nam_v]
      have f3 : Fm Sbs t2 (setL t2 0 56 (lI 0)) := Fm.setL (by unfold Sbs; omega)
      have hB3 : BsM (setL t2 0 56 (lI 0)) (-1, -1, 0, 1) := ⟨⟨by rw [si_setL]; exact hB.1.1, by rw [si_setL]; exact hB.1.2⟩, by rw [sl_set, if_pos rfl, if_pos rfl], by rw [sl_set, if_pos rfl, if_neg (by omega)]; exact hB.2.2⟩
      obtain ⟨t4, e4, f4⟩ := e_X5_meant_39 hW a1 a2 25 0 (-1, -1, 0, 1) _ ((hM1.scr (f2.le fun _ _ => Sbs_scr)).scr (f3.le fun _ _ => Sbs_scr)) hB3 ⟨by show (-1 : Int) ≤ 0 ∧ (0 : Int) ≤ 1000000; omega, by show (1 : Int) ≤ 1 ∧ (1 : Int) ≤ 1000000; omega⟩ (by decide) (by decide) (by omega) (by omega) FU (FU_ge (by omega))
      rw [e4]
      exact OpM.q hM1 ⟨t4, rfl, ((f2.le fun _ _ => Sbs_scr).tr (f3.le fun _ _ => Sbs_scr)).tr f4⟩
    · rw [if_pos (by rw [bZ_i0]; exact a2), if_neg (fun z => a2 z.2)]
      exact OpM.ret hM1
  · rw [if_pos (by rw [bZ_i0]; exact a1), if_neg (fun z => a1 z.1)]
    exact OpM.ret hM1
theorem e_X5_fits_26 {w : WR} {ls : List (List DC)} (hW : Wf w ls) {fl : FL} (hfl : flOk fl) {i m j : Int} (hi : i32 i) (hm : 0 ≤ m ∧ m ≤ 1000) (hj : 0 ≤ j ∧ j < 25) {k9 : St → Int32 → Int32 → Int32 → Option (Int32 × St)} {t : St} (hM : M0 t w ls) (hL : FlM t fl) : ∀ (n : Nat) (f g : Int), 0 ≤ f → w 2 9 = n + f → (g = 0 ∨ g = 1) → ∀ fu, n < fu → F_X5_fits_26 k9 fu t (iI i) (iI m) (iI j) (iI g) (iI f) = (if fitG w fl n f g = 0 then k9 t (iI i) (iI m) (iI (j + 1)) else if m = i then some (iI (10 * (1 + j / 5) + j % 5), t) else k9 t (iI i) (iI (m + 1)) (iI (j + 1))) := by
  have hfm := hW.2.1
  have hi' := hi
  unfold i32 at hi'
  intro n
  induction n with
  | zero =>
    intro f g h0 hn hg fu hfu
    obtain ⟨q, rfl⟩ : ∃ q, fu = q + 1 := ⟨fu - 1, by omega⟩
    simp only [F_X5_fits_26]
    rw [k_1, inb_g (by omega), show (iI 1).toNatClampNeg = 1 from rfl, hM.1.films, if_pos (by rw [iI_le (by omega) (by omega)]; omega), k_0, k_5, k_10, iI_remn (by omega) (by omega), iI_divn (by omega) (by omega), iI_add, iI_add, iI_add, iI_mul, iI_add, fitG, show j / 5 + 1 = 1 + j / 5 by omega]
    by_cases a : g = 0
    · rw [if_pos (by rw [a]), if_pos a]
    · rw [if_neg (by rw [iI_eq (by omega) (by omega)]; exact a), if_neg a]
      by_cases b : m = i
      · rw [if_pos (by rw [b]), if_pos b]
      · rw [if_neg (by rw [iI_eq (by omega) (by omega)]; exact b), if_neg b]
  | succ n ih =>
    intro f g h0 hn hg fu hfu
    obtain ⟨q, rfl⟩ : ∃ q, fu = q + 1 := ⟨fu - 1, by omega⟩
    have hfr := hW.2.2.2.2.2.2 f h0 (by omega)
    have hwo := wOf_r (cell := w 9 f) (fl := fl) fun x hx => (hfl.1 x hx).2
    have hsum := hfl.2
    have e9 : si t 2 (43 + f).toNat = iI (w 9 f) := hM.1 9 f h0 (by show _ < _; omega)
    have h22 := hL.1 (w 9 f) (by omega) (by omega)
    rw [show cM (w 9 f) = w 9 f by unfold cM; rw [if_neg (by omega)]] at h22
    simp only [F_X5_fits_26]
    rw [k_1, inb_g (by omega), show (iI 1).toNatClampNeg = 1 from rfl, hM.1.films, if_neg (by rw [iI_le (by omega) (by omega)]; omega), k_0, k_43, iI_add, iI_add, inb_g (by omega), iI_nat (by omega), e9, inb_g (by omega), iI_nat (by omega), h22, fitG]
    by_cases a : g = 0
    · rw [if_pos (by rw [a])]
      have : (if wOf (w 9 f) fl ≤ 0 then 0 else g) = 0 := by split <;> omega
      rw [this]
      exact ih (f + 1) 0 (by omega) (by omega) (Or.inl rfl) q (by omega)
    · rw [if_neg (by rw [iI_eq (by omega) (by omega)]; exact a)]
      by_cases b : wOf (w 9 f) fl ≤ 0
      · rw [if_pos (by rw [iI_le (by omega) (by omega)]; exact b), if_pos b]
        exact ih (f + 1) 0 (by omega) (by omega) (Or.inl rfl) q (by omega)
      · rw [if_neg (by rw [iI_le (by omega) (by omega)]; exact b), if_neg b]
        have : g = 1 := hg.resolve_left a
        subst this
        exact ih (f + 1) 1 (by omega) (by omega) (Or.inr rfl) q (by omega)
theorem e_X5_fits_9 {w : WR} {ls : List (List DC)} (hW : Wf w ls) {i : Int} (hi : i32 i) : ∀ (n : Nat) (j m : Int) (t : St), M0 t w ls → 0 ≤ j → 25 = n + j → (0 ≤ m ∧ m ≤ j) → ∀ fu, n < fu → ∃ t', F_X5_fits_9 fu t (iI i) (iI m) (iI j) = some (iI (fitF w ls i n j m), t') ∧ Fm Scr t t' := by
  have hfm := hW.2.1
  have hi' := hi
  unfold i32 at hi'
  intro n
  induction n with
  | zero =>
    intro j m t hM h0 hn hm fu hfu
    obtain ⟨q, rfl⟩ : ∃ q, fu = q + 1 := ⟨fu - 1, by omega⟩
    simp only [F_X5_fits_9]
    rw [if_pos (by rw [k_25, iI_le (by omega) (by omega)]; omega), k_m1, fitF]
    by_cases a : i = -1
    · rw [if_pos (by rw [a]), if_pos a]
      exact ⟨t, rfl, Fm.rf⟩
    · rw [if_neg (by rw [iI_eq (by omega) (by omega)]; exact a), if_neg a]
      exact ⟨t, rfl, Fm.rf⟩
  | succ n ih =>
    intro j m t hM h0 hn hm fu hfu
    obtain ⟨q, rfl⟩ : ∃ q, fu = q + 1 := ⟨fu - 1, by omega⟩
    obtain ⟨t1, e1, hL1, f1⟩ := e_X5_aimAt hM hW (j := j) (by omega)
    have hM1 := hM.scr (f1.le fun _ _ => Sam_scr)
    have hfx := e_X5_fits_26 hW (thL_ok hW (j := j)) (i := i) (m := m) (j := j) hi (by omega) (by omega) (k9 := F_X5_fits_9 q) hM1 hL1 (w 2 9).toNat 0 1 (by omega) (by omega) (Or.inr rfl) FU (FU_ge (by omega))
    simp only [F_X5_fits_9]
    rw [if_neg (by rw [k_25, iI_le (by omega) (by omega)]; omega), e1, bnd_s, k_1, k_0, hfx, fitF]
    by_cases a : fitG w (thL w ls j) (w 2 9).toNat 0 1 = 0
    · rw [if_pos a, if_pos a]
      obtain ⟨t2, e2, f2⟩ := ih (j + 1) m t1 hM1 (by omega) (by omega) (by omega) q (by omega)
      exact ⟨t2, e2, (f1.le fun _ _ => Sam_scr).tr f2⟩
    · rw [if_neg a, if_neg a]
      by_cases b : m = i
      · rw [if_pos b, if_pos b]
        exact ⟨t1, rfl, f1.le fun _ _ => Sam_scr⟩
      · rw [if_neg b, if_neg b]
        obtain ⟨t2, e2, f2⟩ := ih (j + 1) (m + 1) t1 hM1 (by omega) (by omega) (by omega) q (by omega)
        exact ⟨t2, e2, (f1.le fun _ _ => Sam_scr).tr f2⟩
theorem fitF_n {w : WR} {ls : List (List DC)} {i : Int} (hi : i < -1) : ∀ (n : Nat) (j m : Int), 0 ≤ m → fitF w ls i n j m = -1
  | 0, j, m, _ => by rw [fitF, if_neg (by omega)]
  | n + 1, j, m, h => by
    rw [fitF, fitF_n hi n _ _ h, fitF_n hi n _ _ (by omega), if_neg (show ¬ m = i by omega), ite_self]
theorem m_fits {t : St} {w : WR} {ls : List (List DC)} (hM : M0 t w ls) (hW : Wf w ls) {i : Int} (h1 : i32 i) : OpM t ls (F_X5_fits t (iI i)) (iI (fitsV w ls i)) w := by
  unfold F_X5_fits
  refine Mthr hM fun t1 hM1 => ?_
  obtain ⟨t2, e2, f2⟩ := e_X5_fits_9 hW h1 25 0 0 t1 hM1 (by omega) (by omega) (by omega) FU (FU_ge (by omega))
  have hv : fitsV w ls i = fitF w ls i 25 0 0 := by
    unfold fitsV
    by_cases a : i < -1
    · rw [if_pos a, fitF_n a 25 0 0 (by omega)]
    · rw [if_neg a]
  rw [hv, k_0]
  exact OpM.q hM1 ⟨t2, e2, f2⟩
