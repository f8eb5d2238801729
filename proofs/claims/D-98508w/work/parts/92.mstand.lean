set_option maxRecDepth 100000
/-! ===== the model: stand, rests ===== -/
def pX (w : WR) (p : Int → Int) : WR := fun r k => if r = 3 then p k else w r k
theorem pX_3 {w : WR} {p : Int → Int} : pX w p 3 = p := rfl
theorem pX_n {w : WR} {p : Int → Int} {r : Nat} {k : Int} (h : r ≠ 3) : pX w p r k = w r k := if_neg h
theorem pX_self {w : WR} : pX w (w 3) = w := by
  funext r k
  unfold pX
  split
  · rename_i h; rw [h]
  · rfl
def pOk (p : Int → Int) : Prop := ∀ c, 0 ≤ c → c < 6 → 0 ≤ p c ∧ p c ≤ 35
def Ds (p : Int → Int) (m : Int) : Prop := ∀ i j, 0 ≤ i → i < m → 0 ≤ j → j < m → p i = p j → i = j
theorem pOk.up {p : Int → Int} (h : pOk p) {c v : Int} (hv : 0 ≤ v ∧ v ≤ 35) : pOk (fup p c v) := fun k k0 k1 => by
  unfold fup
  split
  · exact hv
  · exact h k k0 k1
theorem Wf.pX {w : WR} {ls : List (List DC)} (h : Wf w ls) {p : Int → Int} (hp : pOk p) : Wf (pX w p) ls := by
  obtain ⟨h1, h2, h3, h4, h5, h6, h7⟩ := h
  exact ⟨h1, h2, h3, h4, fun k k0 k6 => ⟨hp k k0 k6, (h5 k k0 k6).2⟩, h6, h7⟩
theorem says_pX {w : WR} {ls : List (List DC)} {p : Int → Int} {h : Int} {v : Nat → Int} : saysZ (pX w p) ls h v = saysZ w ls h v := rfl
theorem grip_pX {w : WR} {ls : List (List DC)} {p : Int → Int} {c f : Int} : gripZ (pX w p) ls c f = gripZ w ls c f := rfl
theorem bar_pX {w : WR} {ls : List (List DC)} {p : Int → Int} {c cell : Int} : barC (pX w p) ls c cell = barC w ls c cell := rfl
theorem grips_pX {w : WR} {ls : List (List DC)} {p : Int → Int} {c a b : Int} : gripsZ (pX w p) ls c a b = gripsZ w ls c a b := rfl
theorem best_pX {w : WR} {ls : List (List DC)} {p f : Int → Int} {cell : Int} : ∀ (k : Nat) (c : Int) (q : Int × Int × Int), bestF (pX w p) ls f cell k c q = bestF w ls f cell k c q
  | 0, _, _ => rfl
  | k + 1, c, q => by
    show bestF (pX w p) ls f cell k (c + 1) _ = bestF w ls f cell k (c + 1) _
    rw [best_pX k]
    rfl
theorem part_pX {w : WR} {ls : List (List DC)} {p f : Int → Int} {n c cell : Int} : partZ (pX w p) ls n c f cell = partZ w ls n c f cell := by
  unfold partZ bestI
  rw [best_pX]
  rfl
theorem ch_pX {w : WR} {ls : List (List DC)} {p f : Int → Int} {n c : Int} {fl : FL} : chF (pX w p) ls n c f fl = chF w ls n c f fl := by
  rw [chF_smX, chF_smX]
  exact smX_eq fun _ => part_pX
theorem pX_up {w : WR} {p : Int → Int} {c v : Int} : wup (pX w p) 3 c v = pX w (fup p c v) := by
  funext r k
  unfold wup pX fup
  by_cases h : r = 3
  · subst h
    by_cases h2 : k = c
    · simp [h2]
    · simp [h2]
  · simp [h]
def Sst (a j : Nat) : Prop := Spt a j ∨ Sc3 a j
theorem fup_self {p : Int → Int} {c : Int} : fup p c (p c) = p := by
  funext k
  unfold fup
  split
  · rename_i h; rw [h]
  · rfl
theorem fup_fup {p : Int → Int} {c a b : Int} : fup (fup p c a) c b = fup p c b := by
  funext k
  unfold fup
  split <;> rfl
/-- cells, and a flight -/
def Qs (t : St) (w : WR) (ls : List (List DC)) (p : Int → Int) (fl : FL) : Prop := M0 t (pX w p) ls ∧ FlM t fl
theorem Sst_fl {a j : Nat} (h : Sst a j) : ¬ (22 ≤ a ∧ a ≤ 24) ∧ ¬ (a = 0 ∧ j = 45) := by
  rcases h with h | h
  · exact Spt_fl h
  · unfold Sc3 at h; omega
theorem M0.cup {t : St} {w : WR} {ls : List (List DC)} {p : Int → Int} (h : M0 t (pX w p) ls) {c v : Int} (hc : 0 ≤ c ∧ c < 6) : M0 (setI t 2 (16 + 5 * c).toNat (iI v)) (pX w (fup p c v)) ls ∧ Fm Sst t (setI t 2 (16 + 5 * c).toNat (iI v)) := by
  refine ⟨?_, Fm.set (Or.inr (by unfold Sc3; omega))⟩
  have := h.set (r := 3) (k := c) (v := v) (a := 2) (j := (16 + 5 * c).toNat) (by show _ < _; omega) (by omega) rfl rfl
  rw [pX_up] at this
  exact this
theorem e_X5_partsAt {t : St} {w : WR} {ls : List (List DC)} {p : Int → Int} {fl : FL} (hQ : Qs t w ls p fl) (hW : Wf w ls) (hp : pOk p) (hfl : flOk fl) {c cell : Int} (hc : 0 ≤ c ∧ c < w 2 8) (hl : 0 ≤ cell ∧ cell ≤ 35) : ∃ t', F_X5_partsAt t (iI c) (iI cell) = some (iI (chF w ls (w 2 8) c (fup p c cell) fl), t') ∧ Qs t' w ls p fl ∧ Fm Sst t t' := by
  have hm := hW.1
  obtain ⟨hM, hL⟩ := hQ
  obtain ⟨hM1, f1⟩ := hM.cup (c := c) (v := cell) (by omega)
  obtain ⟨t2, e2, hP, f2⟩ := e_X5_findAll hM1 (hW.pX (hp.up hl)) hfl (hL.go f1 fun _ _ => Sst_fl)
  have hM2 := hM1.scr (f2.le fun _ _ => Spt_scr)
  obtain ⟨hM3, f3⟩ := hM2.cup (c := c) (v := p c) (by omega)
  rw [fup_fup, fup_self] at hM3
  have hpc : si t2 26 c.toNat = iI (chF w ls (w 2 8) c (fup p c cell) fl) := by
    have := hP.1 c hc.1 (by show c < w 2 8; omega)
    rw [ch_pX] at this
    exact this
  have e3 := of3 hM.1 (c := c) (by omega)
  rw [pX_3] at e3
  unfold F_X5_partsAt
  rw [k_3, e3, bnd_s, e_X5_setCell t (by omega), bnd_s, e2, bnd_s, e_X5_setCell t2 (by omega), bnd_s, inb_g (by omega), iI_nat (by omega), si_set, if_neg (by omega), hpc]
  have fA := (f1.tr (f2.le (S' := Sst) fun _ _ z => Or.inl z)).tr f3
  exact ⟨_, rfl, ⟨hM3, hL.go fA fun _ _ => Sst_fl⟩, fA⟩
theorem whoF_s {f : Int → Int} {z : Int} : ∀ (n : Nat) (c : Int), 0 ≤ c → whoF f z n c ≠ -1 → (c ≤ whoF f z n c ∧ whoF f z n c < c + n) ∧ f (whoF f z n c) = z
  | 0, c, _, h => absurd rfl h
  | n + 1, c, h0, h => by
    unfold whoF at h ⊢
    by_cases e : f c = z
    · rw [if_pos e]
      exact ⟨by omega, e⟩
    · rw [if_neg e] at h ⊢
      have := whoF_s n (c + 1) (by omega) h
      exact ⟨by omega, this.2⟩
theorem who_ds {p : Int → Int} {m c cell : Int} (hD : Ds p m) (hc : 0 ≤ c ∧ c < m) : (whoZ p m cell = -1 ∨ whoZ p m cell = c) ↔ (cell = p c ∨ whoZ p m cell = -1) := by
  have hs := whoF_s (f := p) (z := cell) m.toNat 0 (by omega)
  have hn := whoF_n (f := p) (z := cell) m.toNat 0 (by omega)
  change whoZ p m cell ≠ -1 → _ at hs
  change whoZ p m cell = -1 ↔ _ at hn
  refine ⟨fun h => ?_, fun h => ?_⟩
  · rcases h with h | h
    · exact Or.inr h
    · have := (hs (by omega)).2
      change p (whoZ p m cell) = cell at this
      rw [h] at this
      exact Or.inl this.symm
  · rcases h with h | h
    · by_cases e : whoZ p m cell = -1
      · exact Or.inl e
      · obtain ⟨⟨h1, h2⟩, h3⟩ := hs e
        change 0 ≤ whoZ p m cell at h1
        change whoZ p m cell < _ at h2
        change p (whoZ p m cell) = cell at h3
        exact Or.inr (hD _ c (by omega) (by omega) hc.1 hc.2 (by omega))
    · exact Or.inl h
theorem e_X5_canStand {t : St} {w : WR} {ls : List (List DC)} {p : Int → Int} {fl : FL} (hQ : Qs t w ls p fl) (hW : Wf w ls) (hp : pOk p) (hD : Ds p (w 2 8)) {c cell : Int} (hc : 0 ≤ c ∧ c < w 2 8) (hl : 0 ≤ cell ∧ cell ≤ 35) : ∃ t', F_X5_canStand t (iI c) (iI cell) = some (iI (bZ (canSP w ls p c cell)), t') ∧ Qs t' w ls p fl ∧ Fm Sst t t' := by
  have hm := hW.1
  obtain ⟨hM, hL⟩ := hQ
  have hW' := hW.pX hp
  have hpc := hp c (by omega) (by omega)
  have e3 := of3 hM.1 (c := c) (by omega)
  rw [pX_3] at e3
  obtain ⟨t1, e1, f1⟩ := e_X5_isBarred hM hW' (c := c) (cell := cell) (by omega) (by omega)
  rw [bar_pX] at e1
  have f1' : Fm Sst t t1 := f1.le fun _ _ z => Or.inl (Or.inl (Or.inl z))
  have hQ1 : Qs t1 w ls p fl := ⟨hM.sq f1, hL.go f1' fun _ _ => Sst_fl⟩
  have hw := who_ds (cell := cell) hD hc
  have e18 : (whoZ p (w 2 8) cell = -1 ∨ whoZ p (w 2 8) cell = c) → ∃ t', F_X5_canStand_18 t (iI c) (iI cell) = some (iI (bZ (canSP w ls p c cell)), t') ∧ Qs t' w ls p fl ∧ Fm Sst t t' := fun h => by
    unfold F_X5_canStand_18
    rw [e1, bnd_s, k_0]
    by_cases a : barC w ls c cell
    · rw [if_neg (by rw [bZ_i0]; exact fun z => z a), bZ_f (fun z => z.2 a)]
      exact ⟨t1, rfl, hQ1, f1'⟩
    · rw [if_pos (by rw [bZ_i0]; exact a), bZ_t ⟨h, a⟩]
      exact ⟨t1, rfl, hQ1, f1'⟩
  unfold F_X5_canStand
  rw [k_3, e3, bnd_s]
  by_cases a : cell = p c
  · rw [if_pos (by rw [a])]
    exact e18 (hw.mpr (Or.inl a))
  · have e4 := e_X5_isFree hM.1 hW' (z := cell) (by unfold i32; omega)
    rw [pX_3] at e4
    rw [if_neg (by rw [iI_eq (by omega) (by omega)]; exact a), e4, bnd_s, k_0]
    by_cases b : whoZ p (w 2 8) cell = -1
    · rw [if_neg (by rw [bZ_i0]; exact fun z => z b)]
      exact e18 (Or.inl b)
    · rw [if_pos (by rw [bZ_i0]; exact b), bZ_f (fun z => (hw.mp z.1).elim a b)]
      exact ⟨t, rfl, ⟨hM, hL⟩, Fm.rf⟩
def Sfs (a j : Nat) : Prop := Sst a j ∨ (a = 0 ∧ (j = 52 ∨ j = 53))
theorem Sfs_fl {a j : Nat} (h : Sfs a j) : ¬ (22 ≤ a ∧ a ≤ 24) ∧ ¬ (a = 0 ∧ j = 45) := by
  rcases h with h | h
  · exact Sst_fl h
  · omega
theorem Sst_52 {a j : Nat} (h : Sst a j) : ¬ (a = 0 ∧ (j = 52 ∨ j = 53)) := by unfold Sst Spt Hol Sq Stl Sso Sc3 at h; omega
theorem Qs.go {S : Nat → Nat → Prop} {t t' : St} {w : WR} {ls : List (List DC)} {p : Int → Int} {fl : FL} (h : Qs t w ls p fl) (hF : Fm S t t') (h1 : ∀ a j, S a j → Scr a j) (h2 : ∀ a j, S a j → ¬ (22 ≤ a ∧ a ≤ 24) ∧ ¬ (a = 0 ∧ j = 45)) : Qs t' w ls p fl := ⟨h.1.scr (hF.le h1), h.2.go hF h2⟩
def bcO (q : Int × Int) : Prop := (-1 ≤ q.1 ∧ q.1 ≤ 35) ∧ (-1 ≤ q.2 ∧ q.2 ≤ 4860)
theorem e_X5_findStand_12 {w : WR} {ls : List (List DC)} {p : Int → Int} {fl : FL} (hW : Wf w ls) (hp : pOk p) (hD : Ds p (w 2 8)) (hfl : flOk fl) {c : Int} (hc : 0 ≤ c ∧ c < w 2 8) : ∀ (n e : Nat) (q : Int × Int) (t : St), 36 = n + e → Qs t w ls p fl → si t 0 52 = iI q.1 ∧ si t 0 53 = iI q.2 → bcO q → ∀ fu, n < fu → ∃ t', F_X5_findStand_12 fu t (iI c) (iI e) = some ((), t') ∧ Qs t' w ls p fl ∧ (si t' 0 52 = iI (bcF w ls fl p c n e q).1 ∧ si t' 0 53 = iI (bcF w ls fl p c n e q).2) ∧ bcO (bcF w ls fl p c n e q) ∧ Fm Sfs t t' := by
  intro n
  have hm := hW.1
  induction n with
  | zero =>
    intro e q t he hQ hq hO fu hfu
    obtain ⟨g, rfl⟩ : ∃ g, fu = g + 1 := ⟨fu - 1, by omega⟩
    simp only [F_X5_findStand_12]
    rw [if_pos (by rw [k_36, iI_le (by omega) (by omega)]; omega)]
    exact ⟨t, rfl, hQ, hq, hO, Fm.rf⟩
  | succ n ih =>
    intro e q t he hQ hq hO fu hfu
    obtain ⟨g, rfl⟩ : ∃ g, fu = g + 1 := ⟨fu - 1, by omega⟩
    obtain ⟨t1, e1, hQ1, f1⟩ := e_X5_canStand hQ hW hp hD (c := c) (cell := (e : Int)) hc (by omega)
    have hq1 : si t1 0 52 = iI q.1 ∧ si t1 0 53 = iI q.2 := ⟨by rw [f1.i _ _ (fun z => Sst_52 z (by omega))]; exact hq.1, by rw [f1.i _ _ (fun z => Sst_52 z (by omega))]; exact hq.2⟩
    have f1' : Fm Sfs t t1 := f1.le fun _ _ z => Or.inl z
    simp only [F_X5_findStand_12]
    rw [if_neg (by rw [k_36, iI_le (by omega) (by omega)]; omega), e1, bnd_s, k_0, iI_su, bcF, show (e : Int) + 1 = ((e + 1 : Nat) : Int) by omega]
    by_cases a : canSP w ls p c e
    · have hch := hfl.ch (w := w) (ls := ls) (n := w 2 8) (c := c) (f := fup p c e)
      obtain ⟨t2, e2, hQ2, f2⟩ := e_X5_partsAt hQ1 hW hp hfl (c := c) (cell := (e : Int)) hc (by omega)
      have hq2 : si t2 0 52 = iI q.1 ∧ si t2 0 53 = iI q.2 := ⟨by rw [f2.i _ _ (fun z => Sst_52 z (by omega))]; exact hq1.1, by rw [f2.i _ _ (fun z => Sst_52 z (by omega))]; exact hq1.2⟩
      have f2' : Fm Sfs t t2 := f1'.tr (f2.le fun _ _ z => Or.inl z)
      have fin : ∀ q' : Int × Int, bcO q' → ∃ t', F_X5_findStand_12 g (setI (setI t2 0 52 (iI q'.1)) 0 53 (iI q'.2)) (iI c) (iI (e + 1 : Nat)) = some ((), t') ∧ Qs t' w ls p fl ∧ (si t' 0 52 = iI (bcF w ls fl p c n ((e + 1 : Nat) : Int) q').1 ∧ si t' 0 53 = iI (bcF w ls fl p c n ((e + 1 : Nat) : Int) q').2) ∧ bcO (bcF w ls fl p c n ((e + 1 : Nat) : Int) q') ∧ Fm Sfs t t' := fun q' hO' => by
        have f3 : Fm (fun a j => a = 0 ∧ (j = 52 ∨ j = 53)) t2 (setI (setI t2 0 52 (iI q'.1)) 0 53 (iI q'.2)) := (Fm.set (by omega)).tr (Fm.set (by omega))
        obtain ⟨t', e', h1, h2, h3, h4⟩ := ih (e + 1) q' _ (by omega) (hQ2.go f3 (fun a j z => by unfold Scr; omega) (fun a j z => by omega)) ⟨by rw [si_set, if_pos rfl, if_neg (by omega), si_set, if_pos rfl, if_pos rfl], by rw [si_set, if_pos rfl, if_pos rfl]⟩ hO' g (by omega)
        exact ⟨t', e', h1, h2, h3, (f2'.tr (f3.le fun _ _ z => Or.inr z)).tr h4⟩
      rw [if_neg (by rw [bZ_i0]; exact fun z => z a), e2, bnd_s, hq2.2, hq2.1]
      unfold F_X5_findStand_51 F_X5_findStand_71
      have r53 : ∀ v, si (setI t2 0 52 v) 0 53 = iI q.2 := fun v => by rw [si_set, if_pos rfl, if_neg (by omega)]; exact hq2.2
      unfold bcO at hO
      by_cases b : q.2 < chF w ls (w 2 8) c (fup p c e) fl
      · rw [if_neg (by rw [iI_le (by omega) (by omega)]; omega), nam_v, r53, if_neg (by rw [iI_le (by omega) (by omega)]; omega), nam_v, iI_su, if_pos ⟨a, b⟩]
        exact fin (e, chF w ls (w 2 8) c (fup p c e) fl) ⟨by show -1 ≤ (e : Int) ∧ (e : Int) ≤ 35; omega, by show -1 ≤ chF w ls (w 2 8) c (fup p c e) fl ∧ chF w ls (w 2 8) c (fup p c e) fl ≤ 4860; omega⟩
      · rw [if_pos (by rw [iI_le (by omega) (by omega)]; omega), nam_v, r53, if_pos (by rw [iI_le (by omega) (by omega)]; omega), nam_v, iI_su, if_neg (fun z => b z.2)]
        exact fin q hO
    · rw [if_pos (by rw [bZ_i0]; exact a), if_neg (fun z => a z.1)]
      obtain ⟨t', e', h1, h2, h3, h4⟩ := ih (e + 1) q t1 (by omega) hQ1 hq1 hO g (by omega)
      exact ⟨t', e', h1, h2, h3, f1'.tr h4⟩
theorem e_X5_findStand {t : St} {w : WR} {ls : List (List DC)} {p : Int → Int} {fl : FL} (hQ : Qs t w ls p fl) (hW : Wf w ls) (hp : pOk p) (hD : Ds p (w 2 8)) (hfl : flOk fl) {c : Int} (hc : 0 ≤ c ∧ c < w 2 8) : ∃ t', F_X5_findStand t (iI c) = some ((), t') ∧ Qs t' w ls p fl ∧ (si t' 0 52 = iI (bestC w ls fl p c).1 ∧ si t' 0 53 = iI (bestC w ls fl p c).2) ∧ bcO (bestC w ls fl p c) ∧ Fm Sfs t t' := by
  unfold F_X5_findStand bestC
  rw [k_m1, k_0, nam_v, nam_v]
  have f3 : Fm (fun a j => a = 0 ∧ (j = 52 ∨ j = 53)) t (setI (setI t 0 52 (iI (-1))) 0 53 (iI (-1))) := (Fm.set (by omega)).tr (Fm.set (by omega))
  obtain ⟨t', e', h1, h2, h3, h4⟩ := e_X5_findStand_12 hW hp hD hfl hc 36 0 (-1, -1) (setI (setI t 0 52 (iI (-1))) 0 53 (iI (-1))) (by omega) (hQ.go f3 (fun a j z => by unfold Scr; omega) (fun a j z => by omega)) ⟨by rw [si_set, if_pos rfl, if_neg (by omega), si_set, if_pos rfl, if_pos rfl], by rw [si_set, if_pos rfl, if_pos rfl]⟩ (by unfold bcO; decide) FU (FU_ge (by omega))
  exact ⟨t', e', h1, h2, h3, (f3.le fun _ _ z => Or.inr z).tr h4⟩
/-- the best there is, told by its cell -/
theorem bcF_ch {w : WR} {ls : List (List DC)} {fl : FL} {p : Int → Int} {c : Int} : ∀ (n : Nat) (e : Int) (q : Int × Int), 0 ≤ e → ((q.1 = -1 ∧ q.2 = -1) ∨ (0 ≤ q.1 ∧ q.1 < e ∧ q.2 = chF w ls (w 2 8) c (fup p c q.1) fl ∧ canSP w ls p c q.1)) → ((bcF w ls fl p c n e q).1 = -1 ∧ (bcF w ls fl p c n e q).2 = -1) ∨ (0 ≤ (bcF w ls fl p c n e q).1 ∧ (bcF w ls fl p c n e q).1 < e + n ∧ (bcF w ls fl p c n e q).2 = chF w ls (w 2 8) c (fup p c (bcF w ls fl p c n e q).1) fl ∧ canSP w ls p c (bcF w ls fl p c n e q).1)
  | 0, e, q, _, h => by
    show (q.1 = -1 ∧ q.2 = -1) ∨ _
    rcases h with h | h
    · exact Or.inl h
    · exact Or.inr ⟨h.1, by show q.1 < _; omega, h.2.2⟩
  | n + 1, e, q, h0, h => by
    rw [bcF]
    have := bcF_ch (w := w) (ls := ls) (fl := fl) (p := p) (c := c) n (e + 1) (@ite _ (canSP w ls p c e ∧ q.2 < chF w ls (w 2 8) c (fup p c e) fl) (Classical.propDecidable _) (e, chF w ls (w 2 8) c (fup p c e) fl) q) (by omega) (by
      by_cases a : canSP w ls p c e ∧ q.2 < chF w ls (w 2 8) c (fup p c e) fl
      · rw [if_pos a]
        exact Or.inr ⟨h0, by show e < _; omega, rfl, a.1⟩
      · rw [if_neg a]
        rcases h with h | h
        · exact Or.inl h
        · exact Or.inr ⟨h.1, by omega, h.2.2⟩)
    rcases this with h | h
    · exact Or.inl h
    · exact Or.inr ⟨h.1, by omega, h.2.2⟩
theorem bestC_ch {w : WR} {ls : List (List DC)} {fl : FL} {p : Int → Int} {c : Int} : ((bestC w ls fl p c).1 = -1 ∧ (bestC w ls fl p c).2 = -1) ∨ (0 ≤ (bestC w ls fl p c).1 ∧ (bestC w ls fl p c).1 < 36 ∧ (bestC w ls fl p c).2 = chF w ls (w 2 8) c (fup p c (bestC w ls fl p c).1) fl ∧ canSP w ls p c (bestC w ls fl p c).1) := by
  have := bcF_ch (w := w) (ls := ls) (fl := fl) (p := p) (c := c) 36 0 (-1, -1) (by omega) (Or.inl ⟨rfl, rfl⟩)
  unfold bestC
  rcases this with h | h
  · exact Or.inl h
  · exact Or.inr ⟨h.1, by omega, h.2.2⟩
theorem Qs.of {t : St} {w : WR} {ls : List (List DC)} {fl : FL} (h : M0 t w ls) (hL : FlM t fl) : Qs t w ls (w 3) fl := ⟨by rw [pX_self]; exact h, hL⟩
theorem Wf.pok {w : WR} {ls : List (List DC)} (hW : Wf w ls) : pOk (w 3) := fun c h0 h6 => (hW.cat h0 h6).1
/-- no two catchers in one cell -/
def Wd2 (w : WR) : Prop := Ds (w 3) (w 2 8)
theorem Sfs_reg {a j : Nat} (h : Sfs a j) : Reg a j := by
  rcases h with (h | h) | h
  · exact Or.inr (Spt_scr h)
  · exact Sc3_reg h
  · exact Or.inr (by unfold Scr; omega)
theorem m_stand {t : St} {w : WR} {ls : List (List DC)} (hM : M0 t w ls) (hW : Wf w ls) (hD : Wd2 w) {c what : Int} (h1 : i32 c) (h2 : i32 what) : OpM t ls (F_X5_stand t (iI c) (iI what)) (lI (standV w ls c what)) w := by
  unfold F_X5_stand
  refine Mthr hM fun t1 hM1 => ?_
  have h2' := h2
  have hm := hW.1
  unfold i32 at h2'
  unfold standV
  rw [e_X5_isCatcher hM1.1 hm h1, bnd_s, K_m1, k_m1, k_0, k_1, K_0, K_2, k_60, iI_l (by omega), e_X5_in t1 (by omega) (by omega) (by omega), bnd_s]
  by_cases d : isC w c
  · rw [if_neg (by rw [bZ_i0]; exact fun z => z d)]
    have d' : 0 ≤ c ∧ c < w 2 8 := d
    by_cases a : 0 ≤ what ∧ what ≤ 2
    · rw [if_neg (by rw [bZ_i0]; exact fun z => z a), if_pos ⟨d, a⟩]
      obtain ⟨t2, e2, hL, f2⟩ := e_X5_aimNow hM1 hW
      have hok : flOk (nowL w ls) := laysL_ok (f := w 8 0) (sd := w 8 1) hW
      have hs : 1 ≤ sumW (nowL w ls) ∧ sumW (nowL w ls) ≤ 81 := laysL_sum (f := w 8 0) (sd := w 8 1) hW
      have hM2 := hM1.scr (f2.le fun _ _ => Sam_scr)
      obtain ⟨t3, e3, hQ3, ⟨q1, q2⟩, hO, f3⟩ := e_X5_findStand (Qs.of hM2 hL) hW hW.pok hD hok d'
      have hbc := bestC_ch (w := w) (ls := ls) (fl := nowL w ls) (p := w 3) (c := c)
      have hM3 : M0 t3 w ls := by have := hQ3.1; rw [pX_self] at this; exact this
      have fA : Fm Reg t1 t3 := (f2.le fun _ _ z => Or.inr (Sam_scr z)).tr (f3.le fun _ _ => Sfs_reg)
      unfold bcO at hO
      rw [e2, bnd_s, e3, bnd_s, q1]
      unfold F_X5_stand_50
      rw [q1, iI_l (by omega)]
      refine OpM.after fA ?_
      by_cases b : (bestC w ls (nowL w ls) (w 3) c).1 = -1
      · rw [if_pos (by rw [b]), if_pos (Or.inl b)]
        exact OpM.ret hM3
      · rw [if_neg (by rw [iI_eq (by omega) (by omega)]; exact b)]
        by_cases b0 : what = 0
        · rw [if_pos (by rw [b0]), if_pos (Or.inr b0)]
          exact OpM.ret hM3
        · have hbc2 : 0 ≤ (bestC w ls (nowL w ls) (w 3) c).2 ∧ (bestC w ls (nowL w ls) (w 3) c).2 = chF w ls (w 2 8) c (fup (w 3) c (bestC w ls (nowL w ls) (w 3) c).1) (nowL w ls) := by
            rcases hbc with h | h
            · exact absurd h.1 b
            · have := hok.ch (w := w) (ls := ls) (n := w 2 8) (c := c) (f := fup (w 3) c (bestC w ls (nowL w ls) (w 3) c).1)
              exact ⟨by omega, h.2.2.1⟩
          rw [if_neg (by rw [iI_eq (by omega) (by omega)]; exact b0), if_neg (by omega), q2, hQ3.2.2.1, iI_mul, iI_l (by omega), iI_l (by omega), ← hbc2.2]
          obtain ⟨t4, e4, f4, g46, g47⟩ := e_X5_shorten t3 (u := (bestC w ls (nowL w ls) (w 3) c).2) (l := 60 * sumW (nowL w ls)) (by omega) (by omega)
          rw [e4, bnd_s, g46, g47]
          have hM4 := hM3.scr (f4.le fun _ _ => Shr_scr)
          have f4' : Fm Reg t3 t4 := f4.le fun _ _ z => Or.inr (Shr_scr z)
          by_cases b1 : what = 1
          · rw [if_pos (by rw [b1]), decide_eq_true b1]
            exact ⟨t4, rfl, hM4, f4'⟩
          · rw [if_neg (by rw [iI_eq (by omega) (by omega)]; exact b1), decide_eq_false b1]
            exact ⟨t4, rfl, hM4, f4'⟩
    · rw [if_pos (by rw [bZ_i0]; exact a), if_neg (fun z => a z.2)]
      exact OpM.ret hM1
  · rw [if_pos (by rw [bZ_i0]; exact d), if_neg (fun z => d z.1)]
    exact OpM.ret hM1
