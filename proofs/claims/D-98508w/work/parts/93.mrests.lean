set_option maxRecDepth 100000
/-! ===== the model: rests ===== -/
theorem who_free {p : Int → Int} {m cell : Int} (h : whoZ p m cell = -1) : ∀ i, 0 ≤ i → i < m → p i ≠ cell := by
  have hn := whoF_n (f := p) (z := cell) m.toNat 0 (by omega)
  change whoZ p m cell = -1 ↔ _ at hn
  intro i h0 h1
  exact hn.mp h i h0 (by omega)
theorem Ds.up {p : Int → Int} {m c cell : Int} (hD : Ds p m) (h : cell = p c ∨ whoZ p m cell = -1) : Ds (fup p c cell) m := by
  rcases h with h | h
  · rw [h, fup_self]
    exact hD
  · have hf := who_free h
    intro i j i0 i1 j0 j1 e
    unfold fup at e
    by_cases a : i = c
    · by_cases b : j = c
      · omega
      · rw [if_pos a, if_neg b] at e
        exact absurd e.symm (hf j j0 j1)
    · by_cases b : j = c
      · rw [if_neg a, if_pos b] at e
        exact absurd e (hf i i0 i1)
      · rw [if_neg a, if_neg b] at e
        exact hD i j i0 i1 j0 j1 e
theorem e_X5_goRound_4 {w : WR} {ls : List (List DC)} {fl : FL} (hW : Wf w ls) (hfl : flOk fl) : ∀ (n : Nat) (c : Int) (p : Int → Int) (g : Int) (t : St), 0 ≤ c → w 2 8 = n + c → Qs t w ls p fl → pOk p → Ds p (w 2 8) → (g = 0 ∨ g = 1) → ∀ fu, n < fu → ∃ t', F_X5_goRound_4 fu t (iI g) (iI c) = some (iI (rndF w ls fl n c p g).2, t') ∧ Qs t' w ls (rndF w ls fl n c p g).1 fl ∧ pOk (rndF w ls fl n c p g).1 ∧ Ds (rndF w ls fl n c p g).1 (w 2 8) ∧ ((rndF w ls fl n c p g).2 = 0 ∨ (rndF w ls fl n c p g).2 = 1) ∧ Fm Sfs t t' := by
  have hm := hW.1
  intro n
  induction n with
  | zero =>
    intro c p g t h0 hc hQ hp hD hg fu hfu
    obtain ⟨q, rfl⟩ : ∃ q, fu = q + 1 := ⟨fu - 1, by omega⟩
    have hmany : si t 2 0 = iI (w 2 8) := hQ.1.1.many
    simp only [F_X5_goRound_4]
    rw [k_0, inb_g (by omega), show (iI 0).toNatClampNeg = 0 from rfl, hmany, if_pos (by rw [iI_le (by omega) (by omega)]; omega), gd_ok (fits_z hg)]
    exact ⟨t, rfl, hQ, hp, hD, hg, Fm.rf⟩
  | succ n ih =>
    intro c p g t h0 hc hQ hp hD hg fu hfu
    obtain ⟨q, rfl⟩ : ∃ q, fu = q + 1 := ⟨fu - 1, by omega⟩
    have hmany : si t 2 0 = iI (w 2 8) := hQ.1.1.many
    have hcat := hW.cat (c := c) h0 (by omega)
    have hpc := hp c h0 (by omega)
    have e1 := of1 hQ.1.1 (c := c) (by omega)
    rw [pX_n (by decide)] at e1
    have e3 := of3 hQ.1.1 (c := c) (by omega)
    rw [pX_3] at e3
    simp only [F_X5_goRound_4]
    rw [k_0, inb_g (by omega), show (iI 0).toNatClampNeg = 0 from rfl, hmany, if_neg (by rw [iI_le (by omega) (by omega)]; omega), k_1, k_3, e1, bnd_s, rndF, iI_add]
    by_cases a : w 5 c ≤ 0
    · rw [if_pos (by rw [iI_le (by omega) (by omega)]; exact a), if_pos a]
      exact ih (c + 1) p g t (by omega) (by omega) hQ hp hD hg q (by omega)
    · rw [if_neg (by rw [iI_le (by omega) (by omega)]; exact a), if_neg a, e3, bnd_s]
      obtain ⟨t1, e4, hQ1, f1⟩ := e_X5_partsAt hQ hW hp hfl (c := c) (cell := p c) (by omega) hpc
      rw [fup_self] at e4
      obtain ⟨t2, e5, hQ2, ⟨q1, q2⟩, hO, f2⟩ := e_X5_findStand hQ1 hW hp hD hfl (c := c) (by omega)
      have hbc := bestC_ch (w := w) (ls := ls) (fl := fl) (p := p) (c := c)
      have hch := hfl.ch (w := w) (ls := ls) (n := w 2 8) (c := c) (f := p)
      have f12 : Fm Sfs t t2 := (f1.le fun _ _ z => Or.inl z).tr f2
      unfold bcO at hO
      rw [e4, bnd_s, e5, bnd_s, q2, q1]
      by_cases b : gbP w ls fl p c
      · have b2 : (bestC w ls fl p c).2 = chF w ls (w 2 8) c (fup p c (bestC w ls fl p c).1) fl ∧ (0 ≤ (bestC w ls fl p c).1 ∧ (bestC w ls fl p c).1 < 36) ∧ canSP w ls p c (bestC w ls fl p c).1 := by
          rcases hbc with h | h
          · exact absurd h.1 b.1
          · exact ⟨h.2.2.1, ⟨h.1, h.2.1⟩, h.2.2.2⟩
        have b3 := b.2
        rw [← b2.1] at b3
        obtain ⟨hM3, f3⟩ := hQ2.1.cup (c := c) (v := (bestC w ls fl p c).1) (by omega)
        have hQ3 : Qs (setI t2 2 (16 + 5 * c).toNat (iI (bestC w ls fl p c).1)) w ls (fup p c (bestC w ls fl p c).1) fl := ⟨hM3, hQ2.2.go f3 fun _ _ => Sst_fl⟩
        rw [if_neg (by rw [iI_le (by omega) (by omega)]; omega), e_X5_setCell t2 (by omega), bnd_s]
        have hgb : gbF w ls fl p c = fup p c (bestC w ls fl p c).1 := by unfold gbF; rw [if_pos b]
        obtain ⟨t', e', h1, h2, h3, h4, h5⟩ := ih (c + 1) (fup p c (bestC w ls fl p c).1) 1 _ (by omega) (by omega) hQ3 (hp.up (by omega)) (hD.up ((who_ds hD (by omega)).mp b2.2.2.1)) (Or.inr rfl) q (by omega)
        rw [hgb, if_pos b]
        exact ⟨t', e', h1, h2, h3, h4, (f12.tr (f3.le fun _ _ z => Or.inl z)).tr h5⟩
      · have b3 : (bestC w ls fl p c).2 ≤ chF w ls (w 2 8) c p fl := by
          rcases hbc with h | h
          · omega
          · have : ¬ chF w ls (w 2 8) c p fl < chF w ls (w 2 8) c (fup p c (bestC w ls fl p c).1) fl := fun z => b ⟨by omega, z⟩
            omega
        rw [if_pos (by rw [iI_le (by omega) (by omega)]; omega)]
        have hgb : gbF w ls fl p c = p := by unfold gbF; rw [if_neg b]
        obtain ⟨t', e', h1, h2, h3, h4, h5⟩ := ih (c + 1) p g t2 (by omega) (by omega) hQ2 hp hD hg q (by omega)
        rw [hgb, if_neg b]
        exact ⟨t', e', h1, h2, h3, h4, f12.tr h5⟩
/-- cells on paper -/
def PapE (t : St) (p : Int → Int) : Prop := ∀ i : Nat, i < 6 → si t 5 (96 + i) = iI (p i)
theorem Sfs_5 {a j : Nat} (h : Sfs a j) : a ≠ 5 := by unfold Sfs Sst Spt Hol Sq Stl Sso Sc3 at h; omega
theorem PapE.go {S : Nat → Nat → Prop} {t t' : St} {p : Int → Int} (h : PapE t p) (hF : Fm S t t') (hS : ∀ a j, S a j → a ≠ 5) : PapE t' p := fun i hi => by rw [hF.i _ _ (fun z => hS _ _ z rfl)]; exact h i hi
/-- the cells are put back -/
theorem Pap.back {t : St} {w : WR} {ls : List (List DC)} {p : Int → Int} (hM : M0 t (pX w p) ls) (hP : PapE t (w 3)) : ∃ t', F_X5_putBack t (iI 96) = some ((), t') ∧ M0 t' w ls ∧ Fm Sc3 t t' := by
  obtain ⟨t', e, hF, hv⟩ := e_X5_putBack (a := 96) (p := fun i => w 3 i) (t := t) (by omega) hP
  refine ⟨t', e, (hM.cells (p := w 3) hF hv).w fun r k h0 h1 => ?_, hF⟩
  unfold pW pX
  by_cases h : r = 3
  · subst h
    have : k < 6 := h1
    rw [if_pos ⟨rfl, h0, this⟩]
  · rw [if_neg (fun z => h z.1), if_neg h]
def Spp (a j : Nat) : Prop := Sfs a j ∨ (a = 5 ∧ 96 ≤ j)
theorem Pap.keep {t : St} {w : WR} {ls : List (List DC)} (hM : M0 t w ls) : ∃ t', F_X5_keepCells t (iI 96) = some ((), t') ∧ M0 t' w ls ∧ PapE t' (w 3) ∧ Fm (fun a j => a = 5 ∧ 96 ≤ j) t t' := by
  obtain ⟨t', e, hF, hv⟩ := e_X5_keepCells (a := 96) (p := fun i => w 3 i) (t := t) (by omega) hM.1.cls
  have f : Fm (fun a j => a = 5 ∧ 96 ≤ j) t t' := hF.le fun a j z => by unfold Sk5 at z; omega
  exact ⟨t', e, hM.scr (f.le fun a j z => by unfold Scr; omega), hv, f⟩
theorem e_X5_rests_34 {w : WR} {ls : List (List DC)} {fl : FL} (hW : Wf w ls) (hfl : flOk fl) {c : Int} (hc : c = -1 ∨ isC w c) : ∀ (n : Nat) (r : Int) (p : Int → Int) (t : St), r = 51 - n → n ≤ 50 → Qs t w ls p fl → pOk p → Ds p (w 2 8) → PapE t (w 3) → ∀ fu, n + 1 < fu → ∃ t', F_X5_rests_34 fu t (iI c) (iI (r - 1)) (iI 1) = some (iI (rstF w ls fl c n r p), t') ∧ M0 t' w ls ∧ Fm Sfs t t' := by
  have hm := hW.1
  have hc2 : c = -1 ∨ (0 ≤ c ∧ c < w 2 8) := hc
  have fin : ∀ t p z, M0 t (pX w p) ls → PapE t (w 3) → ∃ t', F_X5_rests_78 t (iI z) = some (iI z, t') ∧ M0 t' w ls ∧ Fm Sfs t t' := fun t p z hM hP => by
    obtain ⟨t', e, h1, h2⟩ := Pap.back hM hP
    unfold F_X5_rests_78
    rw [k_96, e, bnd_s]
    exact ⟨t', rfl, h1, h2.le fun _ _ z => Or.inl (Or.inr z)⟩
  intro n
  induction n with
  | zero =>
    intro r p t hr hn hQ hp hD hP fu hfu
    obtain ⟨q, rfl⟩ : ∃ q, fu = q + 1 := ⟨fu - 1, by omega⟩
    simp only [F_X5_rests_34]
    rw [if_neg (by decide), if_pos (by rw [k_50, iI_le (by omega) (by omega)]; omega)]
    unfold F_X5_rests_55
    rw [if_neg (by decide), k_m1]
    exact fin t p (-1) hQ.1 hP
  | succ n ih =>
    intro r p t hr hn hQ hp hD hP fu hfu
    obtain ⟨q, rfl⟩ : ∃ q, fu = q + 2 := ⟨fu - 2, by omega⟩
    obtain ⟨t1, e1, hQ1, hp1, hD1, hg, f1⟩ := e_X5_goRound_4 hW hfl (w 2 8).toNat 0 p 0 t (by omega) (by omega) hQ hp hD (Or.inl rfl) FU (FU_ge (by omega))
    have hP1 := hP.go f1 fun _ _ => Sfs_5
    rw [F_X5_rests_34]
    show ∃ t', (if iI 1 = 0 then _ else if 50 ≤ iI (r - 1) then _ else bnd (F_X5_goRound t) fun r3 s4 => F_X5_rests_34 (q + 1) s4 (iI c) (iI (r - 1) + 1) r3) = _ ∧ _
    rw [if_neg (by decide), if_neg (by rw [k_50, iI_le (by omega) (by omega)]; omega), k_1, iI_add, show r - 1 + 1 = r by omega]
    unfold F_X5_goRound
    rw [k_0, e1, bnd_s, rstF]
    by_cases a : (rndF w ls fl (w 2 8).toNat 0 p 0).2 = 0
    · rw [a, if_pos rfl]
      simp only [F_X5_rests_34]
      rw [if_pos (by rfl)]
      unfold F_X5_rests_55
      rw [if_pos (by rfl), k_m1]
      by_cases b : c = -1
      · rw [if_pos (by rw [b]), if_pos b]
        obtain ⟨t', e', h1, h2⟩ := fin t1 _ r hQ1.1 hP1
        exact ⟨t', e', h1, f1.tr h2⟩
      · have e3 := of3 hQ1.1.1 (c := c) (by omega)
        rw [pX_3] at e3
        rw [if_neg (by rw [iI_eq (by omega) (by omega)]; exact b), if_neg b, k_3, e3, bnd_s]
        obtain ⟨t', e', h1, h2⟩ := fin t1 _ ((rndF w ls fl (w 2 8).toNat 0 p 0).1 c) hQ1.1 hP1
        exact ⟨t', e', h1, f1.tr h2⟩
    · have hg1 : (rndF w ls fl (w 2 8).toNat 0 p 0).2 = 1 := hg.resolve_left a
      rw [hg1, if_neg (by omega)]
      obtain ⟨t', e', h1, h2⟩ := ih (r + 1) _ t1 (by omega) (by omega) hQ1 hp1 hD1 hP1 (q + 1) (by omega)
      rw [show r + 1 - 1 = r by omega] at e'
      exact ⟨t', e', h1, f1.tr h2⟩
theorem m_rests {t : St} {w : WR} {ls : List (List DC)} (hM : M0 t w ls) (hW : Wf w ls) (hD : Wd2 w) {c : Int} (h1 : i32 c) : OpM t ls (F_X5_rests t (iI c)) (iI (restsV w ls c)) w := by
  unfold F_X5_rests
  refine Mthr hM fun t1 hM1 => ?_
  have hm := hW.1
  have h1' := h1
  unfold i32 at h1'
  unfold restsV
  have key : (c = -1 ∨ isC w c) → OpM t1 ls (F_X5_rests_20 t1 (iI c)) (iI (@ite _ (c = -1 ∨ isC w c) (Classical.propDecidable _) (rstF w ls (nowL w ls) c 50 1 (w 3)) (-1))) w := fun hc => by
    rw [if_pos hc]
    obtain ⟨t2, e2, hM2, hP2, f2⟩ := Pap.keep hM1
    obtain ⟨t3, e3, hL, f3⟩ := e_X5_aimNow hM2 hW
    have hok : flOk (nowL w ls) := laysL_ok (f := w 8 0) (sd := w 8 1) hW
    have hM3 := hM2.scr (f3.le fun _ _ => Sam_scr)
    have hP3 := hP2.go f3 fun a j z => by unfold Sam Sq Stl Sso at z; omega
    obtain ⟨t4, e4, hM4, f4⟩ := e_X5_rests_34 hW hok hc 50 1 (w 3) t3 (by omega) (by omega) (Qs.of hM3 hL) hW.pok hD hP3 FU (FU_ge (by omega))
    unfold F_X5_rests_20
    rw [k_96, e2, bnd_s, e3, bnd_s, k_0, k_1]
    exact ⟨t4, e4, hM4, ((f2.le fun a j z => Or.inr (by unfold Scr; omega)).tr (f3.le fun _ _ z => Or.inr (Sam_scr z))).tr (f4.le fun _ _ => Sfs_reg)⟩
  rw [k_m1, e_X5_isCatcher hM1.1 hm h1, bnd_s, k_0]
  by_cases b : c = -1
  · rw [if_pos (by rw [b])]
    exact key (Or.inl b)
  · rw [if_neg (by rw [iI_eq (by omega) (by omega)]; exact b)]
    by_cases d : isC w c
    · rw [if_neg (by rw [bZ_i0]; exact fun z => z d)]
      exact key (Or.inr d)
    · rw [if_pos (by rw [bZ_i0]; exact d), if_neg (fun z => z.elim b d)]
      exact OpM.ret hM1
