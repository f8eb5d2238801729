set_option maxRecDepth 100000
/-! ===== the model: friend, heard, feint ===== -/
def dirO (p : Int → Int) (m c : Int) (q : Int × Int) : Prop := (0 ≤ q.1 ∧ q.1 ≤ 35) ∧ (0 ≤ q.2 ∧ q.2 ≤ 4860) ∧ (q.1 = p c ∨ whoZ p m q.1 = -1)
theorem e_X5_stepAll_47 {w : WR} {ls : List (List DC)} {fl : FL} (hW : Wf w ls) (hfl : flOk fl) {p : Int → Int} (hp : pOk p) {c fr : Int} (hc : 0 ≤ c ∧ c < w 2 8) {k2 : St → Int32 → Int32 → Option (Unit × St)} : ∀ (n d : Nat) (q : Int × Int) (t : St), 4 = n + d → Qs t w ls p fl → dirO p (w 2 8) c q → ∀ fu, n < fu → ∃ t', F_X5_stepAll_47 k2 fu t (iI fr) (iI c) (iI (p c)) (iI q.1) (iI q.2) (iI d) = k2 t' (iI fr) (iI (c + 1)) ∧ Qs t' w ls (fup p c (dirF w ls fl p c n d q).1) fl ∧ dirO p (w 2 8) c (dirF w ls fl p c n d q) ∧ Fm Sst t t' := by
  have hm := hW.1
  have hpc := hp c (by omega) (by omega)
  intro n
  induction n with
  | zero =>
    intro d q t hd hQ hO fu hfu
    obtain ⟨g, rfl⟩ : ∃ g, fu = g + 1 := ⟨fu - 1, by omega⟩
    obtain ⟨hM3, f3⟩ := hQ.1.cup (c := c) (v := q.1) (by omega)
    simp only [F_X5_stepAll_47]
    rw [if_pos (by rw [k_4, iI_le (by omega) (by omega)]; omega), e_X5_setCell t (by omega), bnd_s, k_1, iI_add]
    exact ⟨_, rfl, ⟨hM3, hQ.2.go f3 fun _ _ => Sst_fl⟩, hO, f3⟩
  | succ n ih =>
    intro d q t hd hQ hO fu hfu
    obtain ⟨g, rfl⟩ : ∃ g, fu = g + 1 := ⟨fu - 1, by omega⟩
    have hbr := besideZ_r (c := p c) (d := (d : Int))
    have hcr := cM_r hbr
    have hO' := hO
    unfold dirO at hO'
    -- one direction
    have one : ∀ (x y : Int), i32 x → i32 y → cellA x y = besideZ (p c) d → ∀ z0 z1 : Int, z1 + z0 = y → ∃ t', F_X5_stepAll_104 k2 (F_X5_stepAll_47 k2 g) t (iI fr) (iI c) (iI (p c)) (iI q.1) (iI q.2) (iI d) (iI z0) (iI z1) (iI x) = k2 t' (iI fr) (iI (c + 1)) ∧ Qs t' w ls (fup p c (dirF w ls fl p c (n + 1) d q).1) fl ∧ dirO p (w 2 8) c (dirF w ls fl p c (n + 1) d q) ∧ Fm Sst t t' := by
      intro x y hx hy hb z0 z1 hz
      have go : ∀ (q' : Int × Int) (t1 : St), Fm Sst t t1 → Qs t1 w ls p fl → dirO p (w 2 8) c q' → (@ite _ (besideZ (p c) d ≠ -1 ∧ canGoP w ls p c (besideZ (p c) d) ∧ q.2 < chF w ls (w 2 8) c (fup p c (besideZ (p c) d)) fl) (Classical.propDecidable _) (besideZ (p c) d, chF w ls (w 2 8) c (fup p c (besideZ (p c) d)) fl) q) = q' → ∃ t', F_X5_stepAll_47 k2 g t1 (iI fr) (iI c) (iI (p c)) (iI q'.1) (iI q'.2) (iI (d + 1 : Nat)) = k2 t' (iI fr) (iI (c + 1)) ∧ Qs t' w ls (fup p c (dirF w ls fl p c (n + 1) d q).1) fl ∧ dirO p (w 2 8) c (dirF w ls fl p c (n + 1) d q) ∧ Fm Sst t t' := fun q' t1 f1 hQ1 hO1 hq' => by
        obtain ⟨t', e', h1, h2, h3⟩ := ih (d + 1) q' t1 (by omega) hQ1 hO1 g (by omega)
        rw [dirF, hq', show (d : Int) + 1 = ((d + 1 : Nat) : Int) by omega]
        exact ⟨t', e', h1, h2, f1.tr h3⟩
      unfold F_X5_stepAll_104
      rw [iI_add, hz, e_X5_cellAt t hx hy, bnd_s, hb, k_0, iI_su]
      by_cases a1 : besideZ (p c) d = -1
      · rw [if_pos (by rw [a1]; rfl)]
        exact go q t Fm.rf hQ hO (if_neg fun z => z.1 a1)
      · have hcm : cM (besideZ (p c) d) = besideZ (p c) d := by unfold cM; rw [if_neg a1]
        rw [hcm, if_neg (by rw [k_36, iI_eq (by omega) (by omega)]; omega)]
        have e4 := e_X5_isFree hQ.1.1 (hW.pX hp) (z := besideZ (p c) d) (by unfold i32; omega)
        rw [pX_3] at e4
        change F_X5_isFree t _ = some (iI (bZ (whoZ p (w 2 8) _ = -1)), t) at e4
        rw [e4, bnd_s]
        by_cases a2 : whoZ p (w 2 8) (besideZ (p c) d) = -1
        · rw [if_neg (by rw [bZ_i0]; exact fun z => z a2)]
          obtain ⟨t1, e1, f1⟩ := e_X5_isBarred hQ.1 (hW.pX hp) (c := c) (cell := besideZ (p c) d) (by omega) (by omega)
          rw [bar_pX] at e1
          have f1' : Fm Sst t t1 := f1.le fun _ _ z => Or.inl (Or.inl (Or.inl z))
          have hQ1 : Qs t1 w ls p fl := ⟨hQ.1.sq f1, hQ.2.go f1' fun _ _ => Sst_fl⟩
          rw [e1, bnd_s]
          by_cases a3 : barC w ls c (besideZ (p c) d)
          · rw [if_neg (by rw [bZ_i0]; exact fun z => z a3)]
            exact go q t1 f1' hQ1 hO (if_neg fun z => z.2.1.2 a3)
          · rw [if_pos (by rw [bZ_i0]; exact a3)]
            obtain ⟨t2, e2, hQ2, f2⟩ := e_X5_partsAt hQ1 hW hp hfl (c := c) (cell := besideZ (p c) d) hc (by omega)
            have hch := hfl.ch (w := w) (ls := ls) (n := w 2 8) (c := c) (f := fup p c (besideZ (p c) d))
            rw [e2, bnd_s]
            unfold F_X5_stepAll_159
            by_cases a4 : q.2 < chF w ls (w 2 8) c (fup p c (besideZ (p c) d)) fl
            · rw [if_neg (by rw [iI_le (by omega) (by omega)]; omega), if_neg (by rw [iI_le (by omega) (by omega)]; omega), iI_su]
              exact go (besideZ (p c) d, chF w ls (w 2 8) c (fup p c (besideZ (p c) d)) fl) t2 (f1'.tr f2) hQ2 ⟨by show 0 ≤ besideZ (p c) d ∧ besideZ (p c) d ≤ 35; omega, hch, Or.inr a2⟩ (if_pos ⟨a1, ⟨a2, a3⟩, a4⟩)
            · rw [if_pos (by rw [iI_le (by omega) (by omega)]; omega), if_pos (by rw [iI_le (by omega) (by omega)]; omega), iI_su]
              exact go q t2 (f1'.tr f2) hQ2 hO (if_neg fun z => a4 z.2.2)
        · rw [if_pos (by rw [bZ_i0]; exact a2)]
          exact go q t Fm.rf hQ hO (if_neg fun z => a2 z.2.1.1)
    have hd4 : d = 0 ∨ d = 1 ∨ d = 2 ∨ d = 3 := by omega
    simp only [F_X5_stepAll_47]
    rw [if_neg (by rw [k_4, iI_le (by omega) (by omega)]; omega), k_6, iI_remn (by omega) (by omega)]
    unfold F_X5_stepAll_79
    rw [k_6, iI_divn (by omega) (by omega), k_m1, k_0, k_1, k_2, k_3]
    simp only [iI_add]
    rcases hd4 with rfl | rfl | rfl | rfl
    · rw [if_neg (by decide), if_neg (by decide), if_neg (by decide), if_pos (by rfl)]
      exact one (p c % 6 + 0) (p c / 6 + -1) (by unfold i32; omega) (by unfold i32; omega) (by unfold besideZ; simp) (-1) (p c / 6) rfl
    · rw [if_pos (by rfl), if_neg (by decide), if_neg (by decide)]
      exact one (p c % 6 + 1) (p c / 6 + 0) (by unfold i32; omega) (by unfold i32; omega) (by unfold besideZ; simp) 0 (p c / 6) rfl
    · rw [if_neg (by decide), if_neg (by decide), if_pos (by rfl)]
      exact one (p c % 6 + 0) (p c / 6 + 1) (by unfold i32; omega) (by unfold i32; omega) (by unfold besideZ; simp) 1 (p c / 6) rfl
    · rw [if_neg (by decide), if_pos (by rfl), if_neg (by decide), if_neg (by decide)]
      exact one (p c % 6 + -1) (p c / 6 + 0) (by unfold i32; omega) (by unfold i32; omega) (by unfold besideZ; simp) 0 (p c / 6) rfl
theorem e_X5_stepAll_2 {w : WR} {ls : List (List DC)} {fl : FL} (hW : Wf w ls) (hfl : flOk fl) {fr : Int} (hfr : 0 ≤ fr ∧ fr < 6) : ∀ (n : Nat) (c : Int) (p : Int → Int) (t : St), 0 ≤ c → w 2 8 = n + c → Qs t w ls p fl → pOk p → ∀ fu, n < fu → ∃ t', F_X5_stepAll_2 fu t (iI fr) (iI c) = some ((), t') ∧ Qs t' w ls (hrF w ls fl fr n c p) fl ∧ pOk (hrF w ls fl fr n c p) ∧ Fm Sst t t' := by
  have hm := hW.1
  intro n
  induction n with
  | zero =>
    intro c p t h0 hc hQ hp fu hfu
    obtain ⟨q, rfl⟩ : ∃ q, fu = q + 1 := ⟨fu - 1, by omega⟩
    have hmany : si t 2 0 = iI (w 2 8) := hQ.1.1.many
    simp only [F_X5_stepAll_2]
    rw [k_0, inb_g (by omega), show (iI 0).toNatClampNeg = 0 from rfl, hmany, if_pos (by rw [iI_le (by omega) (by omega)]; omega)]
    exact ⟨t, rfl, hQ, hp, Fm.rf⟩
  | succ n ih =>
    intro c p t h0 hc hQ hp fu hfu
    obtain ⟨q, rfl⟩ : ∃ q, fu = q + 1 := ⟨fu - 1, by omega⟩
    have hmany : si t 2 0 = iI (w 2 8) := hQ.1.1.many
    have hcat := hW.cat (c := c) h0 (by omega)
    have hpc := hp c h0 (by omega)
    have e1 := of1 hQ.1.1 (c := c) (by omega)
    rw [pX_n (by decide)] at e1
    have e3 := of3 hQ.1.1 (c := c) (by omega)
    rw [pX_3] at e3
    simp only [F_X5_stepAll_2]
    rw [k_0, inb_g (by omega), show (iI 0).toNatClampNeg = 0 from rfl, hmany, if_neg (by rw [iI_le (by omega) (by omega)]; omega), k_1, k_3, hrF, iI_add]
    by_cases a : c = fr
    · rw [if_pos (by rw [a]), if_pos (Or.inl a)]
      exact ih (c + 1) p t (by omega) (by omega) hQ hp q (by omega)
    · rw [if_neg (by rw [iI_eq (by omega) (by omega)]; exact a), e1, bnd_s]
      by_cases b : w 5 c ≤ 0
      · rw [if_pos (by rw [iI_le (by omega) (by omega)]; exact b), if_pos (Or.inr b)]
        exact ih (c + 1) p t (by omega) (by omega) hQ hp q (by omega)
      · rw [if_neg (by rw [iI_le (by omega) (by omega)]; exact b), if_neg (fun z => z.elim a b), e3, bnd_s]
        obtain ⟨t1, e4, hQ1, f1⟩ := e_X5_partsAt hQ hW hp hfl (c := c) (cell := p c) (by omega) hpc
        rw [fup_self] at e4
        have hch := hfl.ch (w := w) (ls := ls) (n := w 2 8) (c := c) (f := p)
        obtain ⟨t2, e5, hQ2, hO, f2⟩ := e_X5_stepAll_47 (k2 := F_X5_stepAll_2 q) (fr := fr) hW hfl hp (c := c) (by omega) 4 0 (p c, chF w ls (w 2 8) c p fl) t1 (by omega) hQ1 ⟨hpc, hch, Or.inl rfl⟩ FU (FU_ge (by omega))
        rw [e4, bnd_s]
        obtain ⟨t3, e6, hQ3, hp3, f3⟩ := ih (c + 1) (fup p c (hrC w ls fl p c)) t2 (by omega) (by omega) hQ2 (hp.up hO.1) q (by omega)
        exact ⟨t3, e5.trans e6, hQ3, hp3, (f1.tr f2).tr f3⟩
theorem e_X5_stepAll {t : St} {w : WR} {ls : List (List DC)} {fl : FL} (hM : M0 t w ls) (hL : FlM t fl) (hW : Wf w ls) (hfl : flOk fl) {fr : Int} (hfr : 0 ≤ fr ∧ fr < 6) : ∃ t', F_X5_stepAll t (iI fr) = some ((), t') ∧ Qs t' w ls (hrP w ls fl fr) fl ∧ pOk (hrP w ls fl fr) ∧ Fm Sst t t' :=
  e_X5_stepAll_2 hW hfl hfr (w 2 8).toNat 0 (w 3) t (by omega) (by have := hW.1; omega) (Qs.of hM hL) hW.pok FU (FU_ge (by have := hW.1; omega))
/-! the best so far -/
theorem si_setL {s : St} {a k : Nat} {v : Int64} : si (setL s a k v) = si s := rfl
def Sbs (a j : Nat) : Prop := (a = 0 ∧ (j = 54 ∨ j = 55)) ∨ (a = 100 ∧ (j = 56 ∨ j = 57))
theorem Sbs_scr {a j : Nat} (h : Sbs a j) : Scr a j := by unfold Sbs at h; unfold Scr; omega
theorem Sbs_fl {a j : Nat} (h : Sbs a j) : ¬ (22 ≤ a ∧ a ≤ 24) ∧ ¬ (a = 0 ∧ j = 45) := by unfold Sbs at h; omega
/-- heard of as, thrown, parts -/
def BsM (t : St) (q : Int × Int × Int × Int) : Prop := (si t 0 55 = iI q.1 ∧ si t 0 54 = iI q.2.1) ∧ (sl t 0 56 = lI q.2.2.1 ∧ sl t 0 57 = lI q.2.2.2)
theorem BsM.go {S : Nat → Nat → Prop} {t t' : St} {q : Int × Int × Int × Int} (h : BsM t q) (hF : Fm S t t') (hS : ∀ a j, S a j → ¬ Sbs a j) : BsM t' q := by
  obtain ⟨⟨h1, h2⟩, h3, h4⟩ := h
  exact ⟨⟨by rw [hF.i _ _ (fun z => hS _ _ z (by unfold Sbs; omega))]; exact h1, by rw [hF.i _ _ (fun z => hS _ _ z (by unfold Sbs; omega))]; exact h2⟩, by rw [hF.l _ _ (fun z => hS _ _ z (by unfold Sbs; omega))]; exact h3, by rw [hF.l _ _ (fun z => hS _ _ z (by unfold Sbs; omega))]; exact h4⟩
theorem e_X5_beginBest (t : St) : ∃ t', F_X5_beginBest t = some ((), t') ∧ BsM t' (-1, -1, -1, 1) ∧ Fm Sbs t t' := by
  unfold F_X5_beginBest
  rw [k_m1, K_m1, K_1, nam_v, nam_v, nam_v, nam_v]
  refine ⟨_, rfl, ⟨⟨?_, ?_⟩, ?_, ?_⟩, (((Fm.set (by unfold Sbs; omega)).tr (Fm.set (by unfold Sbs; omega))).tr (Fm.setL (by unfold Sbs; omega))).tr (Fm.setL (by unfold Sbs; omega))⟩
  · rw [si_setL, si_setL, si_set, if_pos rfl, if_pos rfl]
  · rw [si_setL, si_setL, si_set, if_pos rfl, if_neg (by omega), si_set, if_pos rfl, if_pos rfl]
  · rw [sl_set, if_pos rfl, if_neg (by omega), sl_set, if_pos rfl, if_pos rfl]
  · rw [sl_set, if_pos rfl, if_pos rfl]
def bM (q : Int × Int × Int × Int) (a j u l : Int) : Int × Int × Int × Int := if q.2.2.1 * l < u * q.2.2.2 then (a, j, u, l) else q
theorem e_X5_weigh {t : St} {q : Int × Int × Int × Int} (hB : BsM t q) (hq : mxO q.2) {a j u l : Int} (hu : 0 ≤ u ∧ u ≤ 1000000) (hl : 1 ≤ l ∧ l ≤ 1000000) : ∃ t', F_X5_weigh t (iI a) (iI j) (lI u) (lI l) = some ((), t') ∧ BsM t' (bM q a j u l) ∧ mxO (bM q a j u l).2 ∧ Fm Sbs t t' := by
  obtain ⟨⟨h1, h2⟩, h3, h4⟩ := hB
  obtain ⟨o1, o2⟩ := hq
  have m1 := mul_rng (a := u) (b := q.2.2.2) (by omega) (by omega)
  have m2 := mul_rng (a := q.2.2.1) (b := l) (by omega) (by omega)
  unfold F_X5_weigh bM
  rw [h3, h4, lI_mul, lI_mul]
  by_cases c : q.2.2.1 * l < u * q.2.2.2
  · rw [if_neg (by rw [lI_le (by omega) (by omega)]; omega), if_pos c, nam_v, nam_v, nam_v, nam_v]
    refine ⟨_, rfl, ⟨⟨?_, ?_⟩, ?_, ?_⟩, ⟨by show -1 ≤ u ∧ u ≤ 1000000; omega, hl⟩, (((Fm.set (by unfold Sbs; omega)).tr (Fm.set (by unfold Sbs; omega))).tr (Fm.setL (by unfold Sbs; omega))).tr (Fm.setL (by unfold Sbs; omega))⟩
    · rw [si_setL, si_setL, si_set, if_pos rfl, if_pos rfl]
    · rw [si_setL, si_setL, si_set, if_pos rfl, if_neg (by omega), si_set, if_pos rfl, if_pos rfl]
    · rw [sl_set, if_pos rfl, if_neg (by omega), sl_set, if_pos rfl, if_pos rfl]
    · rw [sl_set, if_pos rfl, if_pos rfl]
  · rw [if_pos (by rw [lI_le (by omega) (by omega)]; omega), if_neg c]
    exact ⟨t, rfl, ⟨⟨h1, h2⟩, h3, h4⟩, ⟨o1, o2⟩, Fm.rf⟩
theorem e_X5_aimAt {t : St} {w : WR} {ls : List (List DC)} (hM : M0 t w ls) (hW : Wf w ls) {j : Int} (hj : 0 ≤ j ∧ j < 25) : ∃ t', F_X5_aimAt t (iI j) = some ((), t') ∧ FlM t' (thL w ls j) ∧ Fm Sam t t' := by
  unfold F_X5_aimAt thL
  obtain ⟨t1, e1, h1, f1⟩ := e_X5_aim hM hW (f := 1 + j / 5) (sd := j % 5 - 2) (by omega) (by omega)
  rw [k_5, k_1, k_2, iI_remn (by omega) (by omega), iI_divn (by omega) (by omega), iI_add, iI_sub, show j / 5 + 1 = 1 + j / 5 by omega, e1, bnd_s]
  exact ⟨t1, rfl, h1, f1⟩
theorem e_X5_tellThrow {t : St} {q : Int × Int × Int × Int} (hB : BsM t q) (h0 : 0 ≤ q.2.2.1 ∧ q.2.2.1 ≤ 1000000) (h1 : 1 ≤ q.2.2.2 ∧ q.2.2.2 ≤ 1000000) {k what : Int} (hk : 0 ≤ k ∧ k ≤ 24) (hw : 0 ≤ what ∧ what ≤ 3) : ∃ t', F_X5_tellThrow t (iI k) (iI what) = some (lI (frZ k what q.2.2), t') ∧ Fm Shr t t' := by
  obtain ⟨-, h3, h4⟩ := hB
  unfold F_X5_tellThrow frZ
  rw [k_2, k_0, k_5, k_1, iI_remn (by omega) (by omega), iI_divn (by omega) (by omega), iI_add, iI_l (by omega), iI_l (by omega)]
  by_cases a : 2 ≤ what
  · rw [if_pos (by rw [iI_le (by omega) (by omega)]; exact a), if_neg (by omega), if_neg (by omega), h3, h4]
    obtain ⟨t4, e4, f4, g46, g47⟩ := e_X5_shorten t (u := q.2.2.1) (l := q.2.2.2) (by omega) (by omega)
    rw [e4, bnd_s, g46, g47]
    by_cases b : what = 2
    · rw [if_pos (by rw [b]), decide_eq_true b]
      exact ⟨t4, rfl, f4⟩
    · rw [if_neg (by rw [iI_eq (by omega) (by omega)]; exact b), decide_eq_false b]
      exact ⟨t4, rfl, f4⟩
  · rw [if_neg (by rw [iI_le (by omega) (by omega)]; exact a)]
    by_cases b : what = 0
    · rw [if_pos (by rw [b]), if_pos b, show k / 5 + 1 = 1 + k / 5 by omega]
      exact ⟨t, rfl, Fm.rf⟩
    · rw [if_neg (by rw [iI_eq (by omega) (by omega)]; exact b), if_neg b, if_pos (by omega)]
      exact ⟨t, rfl, Fm.rf⟩
/-- as before, but what is best counts only when there is one -/
def BsW (t : St) (q : Int × Int × Int × Int) : Prop := (0 ≤ q.2.2.1 → si t 0 55 = iI q.1 ∧ si t 0 54 = iI q.2.1) ∧ (sl t 0 56 = lI q.2.2.1 ∧ sl t 0 57 = lI q.2.2.2)
theorem BsW.go {S : Nat → Nat → Prop} {t t' : St} {q : Int × Int × Int × Int} (h : BsW t q) (hF : Fm S t t') (hS : ∀ a j, S a j → ¬ Sbs a j) : BsW t' q := by
  obtain ⟨h1, h3, h4⟩ := h
  exact ⟨fun z => ⟨by rw [hF.i _ _ (fun z => hS _ _ z (by unfold Sbs; omega))]; exact (h1 z).1, by rw [hF.i _ _ (fun z => hS _ _ z (by unfold Sbs; omega))]; exact (h1 z).2⟩, by rw [hF.l _ _ (fun z => hS _ _ z (by unfold Sbs; omega))]; exact h3, by rw [hF.l _ _ (fun z => hS _ _ z (by unfold Sbs; omega))]; exact h4⟩
theorem e_X5_weighW {t : St} {q : Int × Int × Int × Int} (hB : BsW t q) (hq : mxO q.2) {a j u l : Int} (hu : 0 ≤ u ∧ u ≤ 1000000) (hl : 1 ≤ l ∧ l ≤ 1000000) : ∃ t', F_X5_weigh t (iI a) (iI j) (lI u) (lI l) = some ((), t') ∧ BsW t' (bM q a j u l) ∧ mxO (bM q a j u l).2 ∧ Fm Sbs t t' := by
  obtain ⟨h1, h3, h4⟩ := hB
  obtain ⟨o1, o2⟩ := hq
  have m1 := mul_rng (a := u) (b := q.2.2.2) (by omega) (by omega)
  have m2 := mul_rng (a := q.2.2.1) (b := l) (by omega) (by omega)
  unfold F_X5_weigh bM
  rw [h3, h4, lI_mul, lI_mul]
  by_cases c : q.2.2.1 * l < u * q.2.2.2
  · rw [if_neg (by rw [lI_le (by omega) (by omega)]; omega), if_pos c, nam_v, nam_v, nam_v, nam_v]
    refine ⟨_, rfl, ⟨fun _ => ⟨?_, ?_⟩, ?_, ?_⟩, ⟨by show -1 ≤ u ∧ u ≤ 1000000; omega, hl⟩, (((Fm.set (by unfold Sbs; omega)).tr (Fm.set (by unfold Sbs; omega))).tr (Fm.setL (by unfold Sbs; omega))).tr (Fm.setL (by unfold Sbs; omega))⟩
    · rw [si_setL, si_setL, si_set, if_pos rfl, if_pos rfl]
    · rw [si_setL, si_setL, si_set, if_pos rfl, if_neg (by omega), si_set, if_pos rfl, if_pos rfl]
    · rw [sl_set, if_pos rfl, if_neg (by omega), sl_set, if_pos rfl, if_pos rfl]
    · rw [sl_set, if_pos rfl, if_pos rfl]
  · rw [if_pos (by rw [lI_le (by omega) (by omega)]; omega), if_neg c]
    exact ⟨t, rfl, ⟨h1, h3, h4⟩, ⟨o1, o2⟩, Fm.rf⟩
theorem BsM.w {t : St} {q : Int × Int × Int × Int} {a b : Int} (h : BsM t (-1, -1, -1, 1)) (hq : q = (a, b, -1, 1)) : BsW t q := by
  subst hq
  exact ⟨fun z => absurd z (by show ¬ (0 : Int) ≤ -1; decide), h.2⟩
theorem thL_ok {w : WR} {ls : List (List DC)} (hW : Wf w ls) {j : Int} : flOk (thL w ls j) := laysL_ok hW
theorem th_l {w : WR} {ls : List (List DC)} (hW : Wf w ls) {j : Int} : 1 ≤ sumW (thL w ls j) ∧ sumW (thL w ls j) ≤ 81 := laysL_sum hW
theorem Sam_bs {a j : Nat} (h : Sam a j) : ¬ Sbs a j := by unfold Sam Sq Stl Sso at h; unfold Sbs; omega
theorem Sst_bs {a j : Nat} (h : Sst a j) : ¬ Sbs a j := by unfold Sst Spt Hol Sq Stl Sso Sc3 at h; unfold Sbs; omega
theorem tellThrowW {t : St} {q : Int × Int × Int × Int} (hB : BsW t q) (h0 : 0 ≤ q.2.2.1 ∧ q.2.2.1 ≤ 1000000) (h1 : 1 ≤ q.2.2.2 ∧ q.2.2.2 ≤ 1000000) {k what : Int} (hk : 0 ≤ k ∧ k ≤ 24) (hw : 0 ≤ what ∧ what ≤ 3) : ∃ t', F_X5_tellThrow t (iI k) (iI what) = some (lI (frZ k what q.2.2), t') ∧ Fm Shr t t' :=
  e_X5_tellThrow ⟨hB.1 h0.1, hB.2⟩ h0 h1 hk hw
theorem e_X5_friend_35 {w : WR} {ls : List (List DC)} (hW : Wf w ls) {c what : Int} (hc : 0 ≤ c ∧ c < w 2 8) (hw : 0 ≤ what ∧ what ≤ 3) : ∀ (n : Nat) (j : Int) (q : Int × Int × Int × Int) (t : St), M0 t w ls → BsW t q → mxO q.2 → 0 ≤ j → 25 = n + j → ((0 ≤ (mxF (frU w ls c) (frL w ls) n j q.2).1 ∧ (mxF (frU w ls c) (frL w ls) n j q.2).1 ≤ 24) ∧ 0 ≤ (mxF (frU w ls c) (frL w ls) n j q.2).2.1) → ∀ fu, n < fu → ∃ t', F_X5_friend_35 fu t (iI c) (iI what) (iI j) = some (lI (frZ (mxF (frU w ls c) (frL w ls) n j q.2).1 what (mxF (frU w ls c) (frL w ls) n j q.2).2), t') ∧ Fm Scr t t' := by
  have hm := hW.1
  intro n
  induction n with
  | zero =>
    intro j q t hM hB hq hj hn hH fu hfu
    obtain ⟨g, rfl⟩ : ∃ g, fu = g + 1 := ⟨fu - 1, by omega⟩
    change (0 ≤ q.2.1 ∧ q.2.1 ≤ 24) ∧ 0 ≤ q.2.2.1 at hH
    obtain ⟨t', e, f⟩ := tellThrowW hB ⟨hH.2, hq.1.2⟩ hq.2 (k := q.2.1) (what := what) hH.1 hw
    simp only [F_X5_friend_35]
    rw [if_pos (by rw [k_25, iI_le (by omega) (by omega)]; omega), (hB.1 hH.2).2, e, bnd_s]
    exact ⟨t', rfl, f.le fun _ _ => Shr_scr⟩
  | succ n ih =>
    intro j q t hM hB hq hj hn hH fu hfu
    obtain ⟨g, rfl⟩ : ∃ g, fu = g + 1 := ⟨fu - 1, by omega⟩
    obtain ⟨t1, e1, hL1, f1⟩ := e_X5_aimAt hM hW (j := j) (by omega)
    have hM1 := hM.scr (f1.le fun _ _ => Sam_scr)
    obtain ⟨t2, e2, hP, f2⟩ := e_X5_findAll hM1 hW (thL_ok hW) hL1
    have hM2 := hM1.scr (f2.le fun _ _ => Spt_scr)
    have hL2 := hL1.go f2 fun _ _ => Spt_fl
    have hB2 := (hB.go f1 fun _ _ => Sam_bs).go f2 fun _ _ z => Sst_bs (Or.inl z)
    have hch := (thL_ok hW (j := j)).ch (w := w) (ls := ls) (n := w 2 8) (c := c) (f := w 3)
    have hl := th_l hW (ls := ls) (j := j)
    have hpc := hP.1 c hc.1 hc.2
    obtain ⟨t3, e3, hB3, hq3, f3⟩ := e_X5_weighW hB2 hq (a := j) (j := j) (u := chF w ls (w 2 8) c (w 3) (thL w ls j)) (l := 60 * sumW (thL w ls j)) (by omega) (by omega)
    have hM3 := hM2.scr (f3.le fun _ _ => Sbs_scr)
    have hst : (bM q j j (chF w ls (w 2 8) c (w 3) (thL w ls j)) (60 * sumW (thL w ls j))).2 = (if q.2.2.1 * frL w ls j < frU w ls c j * q.2.2.2 then (j, frU w ls c j, frL w ls j) else q.2) := by
      unfold bM
      show (if q.2.2.1 * frL w ls j < frU w ls c j * q.2.2.2 then _ else q).2 = _
      split <;> rfl
    have hmx : mxF (frU w ls c) (frL w ls) (n + 1) j q.2 = mxF (frU w ls c) (frL w ls) n (j + 1) (bM q j j (chF w ls (w 2 8) c (w 3) (thL w ls j)) (60 * sumW (thL w ls j))).2 := by rw [mxF, hst]
    rw [hmx] at hH ⊢
    obtain ⟨t4, e4, f4⟩ := ih (j + 1) _ t3 hM3 hB3 hq3 (by omega) (by omega) hH g (by omega)
    refine ⟨t4, ?_, (((f1.le fun _ _ => Sam_scr).tr (f2.le fun _ _ => Spt_scr)).tr (f3.le fun _ _ => Sbs_scr)).tr f4⟩
    simp only [F_X5_friend_35]
    rw [if_neg (by rw [k_25, iI_le (by omega) (by omega)]; omega), e1, bnd_s, e2, bnd_s, inb_g (by omega), iI_nat (by omega), hpc, hL2.2.1, k_60, iI_mul, iI_l (by omega), iI_l (by omega), e3, bnd_s, k_1, iI_add]
    exact e4
theorem mx_H {u l : Int → Int} (hu : mxU u l) : (0 ≤ (mxF u l 25 0 (0, -1, 1)).1 ∧ (mxF u l 25 0 (0, -1, 1)).1 ≤ 24) ∧ 0 ≤ (mxF u l 25 0 (0, -1, 1)).2.1 :=
  ⟨⟨mxF_0 25 0 _ (by decide) (by decide), mxF_le 25 0 _ (by decide) (by decide)⟩, (mxF_ok hu 25 0 (0, -1, 1) mxO_0).2 (Or.inl (by omega))⟩
theorem fr_mx {w : WR} {ls : List (List DC)} (hW : Wf w ls) {c : Int} : mxU (frU w ls c) (frL w ls) := th_mx hW (g := fun _ => w 3) (n := w 2 8) (c := c)
theorem m_friend {t : St} {w : WR} {ls : List (List DC)} (hM : M0 t w ls) (hW : Wf w ls) {c what : Int} (h1 : i32 c) (h2 : i32 what) : OpM t ls (F_X5_friend t (iI c) (iI what)) (lI (friendV w ls c what)) w := by
  unfold F_X5_friend
  refine Mthr hM fun t1 hM1 => ?_
  have hm := hW.1
  have h2' := h2
  unfold i32 at h2'
  unfold friendV
  rw [e_X5_isCatcher hM1.1 hm h1, bnd_s, K_m1, k_0, K_0, K_3, iI_l (by omega), e_X5_in t1 (by omega) (by omega) (by omega), bnd_s]
  by_cases a1 : isC w c
  · have a3 : 0 ≤ c ∧ c < w 2 8 := a1
    rw [if_neg (by rw [bZ_i0]; exact fun z => z a1)]
    by_cases a2 : 0 ≤ what ∧ what ≤ 3
    · rw [if_neg (by rw [bZ_i0]; exact fun z => z a2), if_pos ⟨a1, a2⟩]
      obtain ⟨t2, e2, hB, f2⟩ := e_X5_beginBest t1
      obtain ⟨t3, e3, f3⟩ := e_X5_friend_35 hW a3 a2 25 0 (0, 0, -1, 1) t2 (hM1.scr (f2.le fun _ _ => Sbs_scr)) (hB.w rfl) mxO_0 (by omega) (by omega) (mx_H (fr_mx hW)) FU (FU_ge (by omega))
      rw [e2, bnd_s, e3]
      exact OpM.q hM1 ⟨t3, rfl, (f2.le fun _ _ => Sbs_scr).tr f3⟩
    · rw [if_pos (by rw [bZ_i0]; exact a2), if_neg (fun z => a2 z.2)]
      exact OpM.ret hM1
  · rw [if_pos (by rw [bZ_i0]; exact a1), if_neg (fun z => a1 z.1)]
    exact OpM.ret hM1
theorem PapE.scr {t t' : St} {p : Int → Int} {S : Nat → Nat → Prop} (h : PapE t p) (hF : Fm S t t') (hS : ∀ a j, S a j → ¬ (a = 5 ∧ 96 ≤ j)) : PapE t' p := fun i hi => by rw [hF.i _ _ (fun z => hS _ _ z (by omega))]; exact h i hi
theorem Sam_5 {a j : Nat} (h : Sam a j) : a ≠ 5 := by unfold Sam Sq Stl Sso at h; omega
theorem Sst_5 {a j : Nat} (h : Sst a j) : a ≠ 5 := Sfs_5 (Or.inl h)
theorem Sbs_5 {a j : Nat} (h : Sbs a j) : a ≠ 5 := by unfold Sbs at h; omega
theorem Sc3_bs {a j : Nat} (h : Sc3 a j) : ¬ Sbs a j := Sst_bs (Or.inr h)
theorem e_X5_heard_41 {w : WR} {ls : List (List DC)} (hW : Wf w ls) {c what : Int} (hc : 0 ≤ c ∧ c < w 2 8) (hw : 0 ≤ what ∧ what ≤ 3) : ∀ (n : Nat) (j : Int) (q : Int × Int × Int × Int) (t : St), M0 t w ls → PapE t (w 3) → BsW t q → mxO q.2 → 0 ≤ j → 25 = n + j → ((0 ≤ (mxF (hdU w ls c) (frL w ls) n j q.2).1 ∧ (mxF (hdU w ls c) (frL w ls) n j q.2).1 ≤ 24) ∧ 0 ≤ (mxF (hdU w ls c) (frL w ls) n j q.2).2.1) → ∀ fu, n < fu → OpM t ls (F_X5_heard_41 fu t (iI c) (iI what) (iI j)) (lI (frZ (mxF (hdU w ls c) (frL w ls) n j q.2).1 what (mxF (hdU w ls c) (frL w ls) n j q.2).2)) w := by
  have hm := hW.1
  intro n
  induction n with
  | zero =>
    intro j q t hM hP hB hq hj hn hH fu hfu
    obtain ⟨g, rfl⟩ : ∃ g, fu = g + 1 := ⟨fu - 1, by omega⟩
    change (0 ≤ q.2.1 ∧ q.2.1 ≤ 24) ∧ 0 ≤ q.2.2.1 at hH
    obtain ⟨t', e, f⟩ := tellThrowW hB ⟨hH.2, hq.1.2⟩ hq.2 (k := q.2.1) (what := what) hH.1 hw
    simp only [F_X5_heard_41]
    rw [if_pos (by rw [k_25, iI_le (by omega) (by omega)]; omega), (hB.1 hH.2).2, e, bnd_s]
    exact OpM.q hM ⟨t', rfl, f.le fun _ _ => Shr_scr⟩
  | succ n ih =>
    intro j q t hM hP hB hq hj hn hH fu hfu
    obtain ⟨g, rfl⟩ : ∃ g, fu = g + 1 := ⟨fu - 1, by omega⟩
    obtain ⟨t1, e1, hL1, f1⟩ := e_X5_aimAt hM hW (j := j) (by omega)
    have hM1 := hM.scr (f1.le fun _ _ => Sam_scr)
    obtain ⟨t2, e2, hQ2, hp2, f2⟩ := e_X5_stepAll hM1 hL1 hW (thL_ok hW) (fr := c) (by omega)
    obtain ⟨t3, e3, hPt, f3⟩ := e_X5_findAll hQ2.1 (hW.pX hp2) (thL_ok hW) hQ2.2
    have hM3 := hQ2.1.scr (f3.le fun _ _ => Spt_scr)
    have hL3 := hQ2.2.go f3 fun _ _ => Spt_fl
    have hB3 := ((hB.go f1 fun _ _ => Sam_bs).go f2 fun _ _ => Sst_bs).go f3 fun _ _ z => Sst_bs (Or.inl z)
    have hP3 := ((hP.go f1 fun _ _ => Sam_5).go f2 fun _ _ => Sst_5).go f3 fun _ _ z => Sst_5 (Or.inl z)
    have hch := (thL_ok hW (j := j)).ch (w := w) (ls := ls) (n := w 2 8) (c := c) (f := hrP w ls (thL w ls j) c)
    have hl := th_l hW (ls := ls) (j := j)
    have hpc : si t3 26 c.toNat = iI (hdU w ls c j) := by
      have := hPt.1 c hc.1 hc.2
      rw [ch_pX] at this
      exact this
    have hu : 0 ≤ hdU w ls c j ∧ hdU w ls c j ≤ 1000000 := by unfold hdU; omega
    obtain ⟨t4, e4, hB4, hq4, f4⟩ := e_X5_weighW hB3 hq (a := j) (j := j) (u := hdU w ls c j) (l := 60 * sumW (thL w ls j)) hu (by omega)
    have hM4 := hM3.scr (f4.le fun _ _ => Sbs_scr)
    obtain ⟨t5, e5, hM5, f5⟩ := Pap.back hM4 (hP3.go f4 fun _ _ => Sbs_5)
    have hst : (bM q j j (hdU w ls c j) (60 * sumW (thL w ls j))).2 = (if q.2.2.1 * frL w ls j < hdU w ls c j * q.2.2.2 then (j, hdU w ls c j, frL w ls j) else q.2) := by
      unfold bM
      show (if q.2.2.1 * frL w ls j < hdU w ls c j * q.2.2.2 then _ else q).2 = _
      split <;> rfl
    have hmx : mxF (hdU w ls c) (frL w ls) (n + 1) j q.2 = mxF (hdU w ls c) (frL w ls) n (j + 1) (bM q j j (hdU w ls c j) (60 * sumW (thL w ls j))).2 := by rw [mxF, hst]
    rw [hmx] at hH ⊢
    have hP5 := (hP3.go f4 fun _ _ => Sbs_5).go f5 fun _ _ z => Sst_5 (Or.inr z)
    have this := ih (j + 1) _ t5 hM5 hP5 (hB4.go f5 fun _ _ => Sc3_bs) hq4 (by omega) (by omega) hH g (by omega)
    have fA : Fm Reg t t5 := ((((f1.le fun _ _ z => Or.inr (Sam_scr z)).tr (f2.le fun _ _ z => Sfs_reg (Or.inl z))).tr (f3.le fun _ _ z => Or.inr (Spt_scr z))).tr (f4.le fun _ _ z => Or.inr (Sbs_scr z))).tr (f5.le fun _ _ => Sc3_reg)
    refine OpM.after fA ?_
    simp only [F_X5_heard_41]
    rw [if_neg (by rw [k_25, iI_le (by omega) (by omega)]; omega), e1, bnd_s, e2, bnd_s, e3, bnd_s, inb_g (by omega), iI_nat (by omega), hpc, hL3.2.1, k_60, iI_mul, iI_l (by omega), iI_l (by omega), e4, bnd_s, k_96, e5, bnd_s, k_1, iI_add]
    exact this
theorem m_heard {t : St} {w : WR} {ls : List (List DC)} (hM : M0 t w ls) (hW : Wf w ls) {c what : Int} (h1 : i32 c) (h2 : i32 what) : OpM t ls (F_X5_heard t (iI c) (iI what)) (lI (heardV w ls c what)) w := by
  unfold F_X5_heard
  refine Mthr hM fun t1 hM1 => ?_
  have hm := hW.1
  have h2' := h2
  unfold i32 at h2'
  unfold heardV
  rw [e_X5_isCatcher hM1.1 hm h1, bnd_s, K_m1, k_0, K_0, K_3, iI_l (by omega), e_X5_in t1 (by omega) (by omega) (by omega), bnd_s]
  by_cases a1 : isC w c
  · have a3 : 0 ≤ c ∧ c < w 2 8 := a1
    rw [if_neg (by rw [bZ_i0]; exact fun z => z a1)]
    by_cases a2 : 0 ≤ what ∧ what ≤ 3
    · rw [if_neg (by rw [bZ_i0]; exact fun z => z a2), if_pos ⟨a1, a2⟩]
      obtain ⟨t2, e2, hB, f2⟩ := e_X5_beginBest t1
      obtain ⟨t3, e3, hM3, hP3, f3⟩ := Pap.keep (hM1.scr (f2.le fun _ _ => Sbs_scr))
      have hB3 : BsW t3 (0, 0, -1, 1) := (hB.w (a := 0) (b := 0) rfl).go f3 fun a j z => by unfold Sbs; omega
      rw [e2, bnd_s, k_96, e3, bnd_s]
      refine OpM.after ((f2.le fun _ _ z => Or.inr (Sbs_scr z)).tr (f3.le fun a j z => Or.inr (by unfold Scr; omega))) ?_
      exact e_X5_heard_41 hW a3 a2 25 0 (0, 0, -1, 1) t3 hM3 hP3 hB3 mxO_0 (by omega) (by omega) (mx_H (th_mx hW (g := fun j => hrP w ls (thL w ls j) c) (n := w 2 8) (c := c))) FU (FU_ge (by omega))
    · rw [if_pos (by rw [bZ_i0]; exact a2), if_neg (fun z => a2 z.2)]
      exact OpM.ret hM1
  · rw [if_pos (by rw [bZ_i0]; exact a1), if_neg (fun z => a1 z.1)]
    exact OpM.ret hM1
theorem litF_pX {w : WR} {p : Int → Int} {f sd : Int} : ∀ (n : Nat) (k : Int), litF (pX w p) f sd n k = litF w f sd n k
  | 0, _ => rfl
  | n + 1, k => by
    show (cellA (w 8 4 + (sd * k).tdiv f) k = w 8 6 ∨ litF (pX w p) f sd n (k + 1)) = _
    rw [litF_pX n]
    rfl
theorem litP_pX {w : WR} {p : Int → Int} {f sd : Int} : litP (pX w p) f sd = litP w f sd := by
  unfold litP
  rw [litF_pX]
  rfl
theorem lays_pX {w : WR} {ls : List (List DC)} {p : Int → Int} {f sd : Int} : laysL (pX w p) ls f sd = laysL w ls f sd := by
  have h9 : nineL (pX w p) ls f sd = nineL w ls f sd := rfl
  unfold laysL
  rw [h9]
  by_cases h : litP w f sd
  · rw [if_pos h, if_pos (by rw [litP_pX]; exact h)]
    rfl
  · rw [if_neg h, if_neg (by rw [litP_pX]; exact h)]
    rfl
theorem e_X5_feint_60 {w : WR} {ls : List (List DC)} (hW : Wf w ls) {c what a : Int} (hc : 0 ≤ c ∧ c < w 2 8) (ha : 0 ≤ a ∧ a < 25) {p : Int → Int} (hp : pOk p) {k41 : St → Int32 → Int32 → Int32 → Option (Int64 × St)} : ∀ (n : Nat) (j : Int) (q : Int × Int × Int × Int) (t : St), M0 t (pX w p) ls → PapE t (w 3) → BsW t q → mxO q.2 → 0 ≤ j → 25 = n + j → ∀ fu, n < fu → ∃ t', F_X5_feint_60 k41 fu t (iI c) (iI what) (iI a) (iI j) = k41 t' (iI c) (iI what) (iI (a + 1)) ∧ M0 t' w ls ∧ PapE t' (w 3) ∧ BsW t' (ftF (fun j => chF w ls (w 2 8) c p (thL w ls j)) (frL w ls) a n j q) ∧ mxO (ftF (fun j => chF w ls (w 2 8) c p (thL w ls j)) (frL w ls) a n j q).2 ∧ Fm Reg t t' := by
  have hm := hW.1
  intro n
  induction n with
  | zero =>
    intro j q t hM hP hB hq hj hn fu hfu
    obtain ⟨g, rfl⟩ : ∃ g, fu = g + 1 := ⟨fu - 1, by omega⟩
    obtain ⟨t5, e5, hM5, f5⟩ := Pap.back hM hP
    simp only [F_X5_feint_60]
    rw [if_pos (by rw [k_25, iI_le (by omega) (by omega)]; omega), k_96, e5, bnd_s, k_1, iI_add]
    exact ⟨t5, rfl, hM5, hP.go f5 fun _ _ z => Sst_5 (Or.inr z), hB.go f5 fun _ _ => Sc3_bs, hq, f5.le fun _ _ => Sc3_reg⟩
  | succ n ih =>
    intro j q t hM hP hB hq hj hn fu hfu
    obtain ⟨g, rfl⟩ : ∃ g, fu = g + 1 := ⟨fu - 1, by omega⟩
    have hWp := hW.pX hp (ls := ls)
    obtain ⟨t1, e1, hL1, f1⟩ := e_X5_aimAt hM hWp (j := j) (by omega)
    have hth : thL (pX w p) ls j = thL w ls j := lays_pX
    rw [hth] at hL1
    have hM1 := hM.scr (f1.le fun _ _ => Sam_scr)
    obtain ⟨t3, e3, hPt, f3⟩ := e_X5_findAll hM1 hWp (thL_ok hW) hL1
    have hM3 := hM1.scr (f3.le fun _ _ => Spt_scr)
    have hL3 := hL1.go f3 fun _ _ => Spt_fl
    have hB3 := (hB.go f1 fun _ _ => Sam_bs).go f3 fun _ _ z => Sst_bs (Or.inl z)
    have hP3 := (hP.go f1 fun _ _ => Sam_5).go f3 fun _ _ z => Sst_5 (Or.inl z)
    have hch := (thL_ok hW (j := j)).ch (w := w) (ls := ls) (n := w 2 8) (c := c) (f := p)
    have hl := th_l hW (ls := ls) (j := j)
    have hpc : si t3 26 c.toNat = iI (chF w ls (w 2 8) c p (thL w ls j)) := by
      have := hPt.1 c hc.1 hc.2
      rw [ch_pX] at this
      exact this
    obtain ⟨t4, e4, hB4, hq4, f4⟩ := e_X5_weighW hB3 hq (a := a) (j := j) (u := chF w ls (w 2 8) c p (thL w ls j)) (l := 60 * sumW (thL w ls j)) (by omega) (by omega)
    have hM4 := hM3.scr (f4.le fun _ _ => Sbs_scr)
    have hP4 := hP3.go f4 fun _ _ => Sbs_5
    obtain ⟨t5, e5, hM5, hP5, hB5, hq5, f5⟩ := ih (j + 1) _ t4 hM4 hP4 hB4 hq4 (by omega) (by omega) g (by omega)
    have hst : ftF (fun j => chF w ls (w 2 8) c p (thL w ls j)) (frL w ls) a (n + 1) j q = ftF (fun j => chF w ls (w 2 8) c p (thL w ls j)) (frL w ls) a n (j + 1) (bM q a j (chF w ls (w 2 8) c p (thL w ls j)) (60 * sumW (thL w ls j))) := rfl
    rw [hst]
    refine ⟨t5, ?_, hM5, hP5, hB5, hq5, (((f1.le fun _ _ z => Or.inr (Sam_scr z)).tr (f3.le fun _ _ z => Or.inr (Spt_scr z))).tr (f4.le fun _ _ z => Or.inr (Sbs_scr z))).tr f5⟩
    simp only [F_X5_feint_60]
    rw [if_neg (by rw [k_25, iI_le (by omega) (by omega)]; omega), e1, bnd_s, e3, bnd_s, inb_g (by omega), iI_nat (by omega), hpc, hL3.2.1, k_60, iI_mul, iI_l (by omega), iI_l (by omega), e4, bnd_s, k_1, iI_add]
    exact e5
theorem e_X5_feint_41 {w : WR} {ls : List (List DC)} (hW : Wf w ls) {c what : Int} (hc : 0 ≤ c ∧ c < w 2 8) (hw : 0 ≤ what ∧ what ≤ 5) : ∀ (n : Nat) (a : Int) (q : Int × Int × Int × Int) (t : St), M0 t w ls → PapE t (w 3) → BsW t q → mxO q.2 → (0 < n ∨ 0 ≤ q.2.2.1) → 0 ≤ a → 25 = n + a → (0 ≤ q.1 ∧ q.1 ≤ 24) → (0 ≤ q.2.1 ∧ q.2.1 ≤ 24) → ∀ fu, n < fu → OpM t ls (F_X5_feint_41 fu t (iI c) (iI what) (iI a)) (lI (ftZ what (ftG (ftU w ls c) (frL w ls) n a q))) w := by
  have hm := hW.1
  intro n
  induction n with
  | zero =>
    intro a q t hM hP hB hq h0 ha hn h1 h2 fu hfu
    obtain ⟨g, rfl⟩ : ∃ g, fu = g + 1 := ⟨fu - 1, by omega⟩
    have hq1 : 0 ≤ q.2.2.1 ∧ q.2.2.1 ≤ 1000000 := ⟨h0.resolve_left (by omega), hq.1.2⟩
    simp only [F_X5_feint_41]
    rw [if_pos (by rw [k_25, iI_le (by omega) (by omega)]; omega), (hB.1 hq1.1).1, (hB.1 hq1.1).2, k_2, iI_sub, ftG]
    unfold ftZ
    by_cases b : what < 2
    · obtain ⟨t', e, f⟩ := tellThrowW hB hq1 hq.2 (k := q.1) (what := what) h1 (by omega)
      rw [if_neg (by rw [iI_le (by omega) (by omega)]; omega), e, bnd_s, if_pos b]
      exact OpM.q hM ⟨t', rfl, f.le fun _ _ => Shr_scr⟩
    · obtain ⟨t', e, f⟩ := tellThrowW hB hq1 hq.2 (k := q.2.1) (what := what - 2) h2 (by omega)
      rw [if_pos (by rw [iI_le (by omega) (by omega)]; omega), e, bnd_s, if_neg b]
      exact OpM.q hM ⟨t', rfl, f.le fun _ _ => Shr_scr⟩
  | succ n ih =>
    intro a q t hM hP hB hq h0 ha hn h1 h2 fu hfu
    obtain ⟨g, rfl⟩ : ∃ g, fu = g + 1 := ⟨fu - 1, by omega⟩
    obtain ⟨t1, e1, hL1, f1⟩ := e_X5_aimAt hM hW (j := a) (by omega)
    have hM1 := hM.scr (f1.le fun _ _ => Sam_scr)
    obtain ⟨t2, e2, hQ2, hp2, f2⟩ := e_X5_stepAll hM1 hL1 hW (thL_ok hW) (fr := c) (by omega)
    have hB2 := (hB.go f1 fun _ _ => Sam_bs).go f2 fun _ _ => Sst_bs
    have hP2 := (hP.go f1 fun _ _ => Sam_5).go f2 fun _ _ => Sst_5
    obtain ⟨t3, e3, hM3, hP3, hB3, hq3, f3⟩ := e_X5_feint_60 hW (what := what) hc (a := a) (by omega) hp2 (k41 := F_X5_feint_41 g) 25 0 q t2 hQ2.1 hP2 hB2 hq (by omega) (by omega) FU (FU_ge (by omega))
    have hu : mxU (ftU w ls c a) (frL w ls) := th_mx hW (g := fun _ => hrP w ls (thL w ls a) c) (n := w 2 8) (c := c)
    have hmx := ftF_mx (u := ftU w ls c a) (l := frL w ls) (a := a) 25 0 q
    have hok := mxF_ok hu 25 0 q.2 hq
    have h11 := ftF_1 (u := ftU w ls c a) (l := frL w ls) (a := a) 25 0 q
    have h13 := mxF_0 (u := ftU w ls c a) (l := frL w ls) 25 0 q.2 h2.1 (by omega)
    have hth : (mxF (ftU w ls c a) (frL w ls) 25 0 q.2).1 ≤ 24 := mxF_le 25 0 q.2 h2.2 (by decide)
    have hq4 : 0 ≤ (ftF (ftU w ls c a) (frL w ls) a 25 0 q).2.2.1 := by rw [hmx]; exact hok.2 (Or.inl (by omega))
    have this := ih (a + 1) (ftF (ftU w ls c a) (frL w ls) a 25 0 q) t3 hM3 hP3 hB3 hq3 (Or.inr hq4) (by omega) (by omega) (by omega) (by rw [hmx]; omega) g (by omega)
    refine OpM.after (((f1.le fun _ _ z => Or.inr (Sam_scr z)).tr (f2.le fun _ _ z => Sfs_reg (Or.inl z))).tr f3) ?_
    simp only [F_X5_feint_41]
    rw [if_neg (by rw [k_25, iI_le (by omega) (by omega)]; omega), e1, bnd_s, e2, bnd_s, k_0, e3, ftG]
    exact this
theorem m_feint {t : St} {w : WR} {ls : List (List DC)} (hM : M0 t w ls) (hW : Wf w ls) {c what : Int} (h1 : i32 c) (h2 : i32 what) : OpM t ls (F_X5_feint t (iI c) (iI what)) (lI (feintV w ls c what)) w := by
  unfold F_X5_feint
  refine Mthr hM fun t1 hM1 => ?_
  have hm := hW.1
  have h2' := h2
  unfold i32 at h2'
  unfold feintV
  rw [e_X5_isCatcher hM1.1 hm h1, bnd_s, K_m1, k_0, K_0, K_5, iI_l (by omega), e_X5_in t1 (by omega) (by omega) (by omega), bnd_s]
  by_cases a1 : isC w c
  · have a3 : 0 ≤ c ∧ c < w 2 8 := a1
    rw [if_neg (by rw [bZ_i0]; exact fun z => z a1)]
    by_cases a2 : 0 ≤ what ∧ what ≤ 5
    · rw [if_neg (by rw [bZ_i0]; exact fun z => z a2), if_pos ⟨a1, a2⟩]
      obtain ⟨t2, e2, hB, f2⟩ := e_X5_beginBest t1
      obtain ⟨t3, e3, hM3, hP3, f3⟩ := Pap.keep (hM1.scr (f2.le fun _ _ => Sbs_scr))
      have hB3 : BsW t3 (0, 0, -1, 1) := (hB.w (a := 0) (b := 0) rfl).go f3 fun a j z => by unfold Sbs; omega
      rw [e2, bnd_s, k_96, e3, bnd_s]
      refine OpM.after ((f2.le fun _ _ z => Or.inr (Sbs_scr z)).tr (f3.le fun a j z => Or.inr (by unfold Scr; omega))) ?_
      exact e_X5_feint_41 hW a3 a2 25 0 (0, 0, -1, 1) t3 hM3 hP3 hB3 mxO_0 (Or.inl (by omega)) (by omega) (by omega) (by decide) (by decide) FU (FU_ge (by omega))
    · rw [if_pos (by rw [bZ_i0]; exact a2), if_neg (fun z => a2 z.2)]
      exact OpM.ret hM1
  · rw [if_pos (by rw [bZ_i0]; exact a1), if_neg (fun z => a1 z.1)]
    exact OpM.ret hM1
