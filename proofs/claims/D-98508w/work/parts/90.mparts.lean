set_option maxRecDepth 100000
/-! ===== the model: parts ===== -/
noncomputable def Gc (u : WR) (ls : List (List DC)) (cell : Int) (c : Int) : Int := if cell = -1 then -1 else gripsZ u ls c (u 3 c) cell
noncomputable def qc (u : WR) (ls : List (List DC)) (n cell : Int) : Int × Int × Int := if cell = -1 then (-1, 0, -1) else bestI u ls n (u 3) cell
def HoE (t : St) (u : WR) (ls : List (List DC)) (n cell : Int) : Prop := Hos t u (Gc u ls cell) n (qc u ls n cell)
theorem qc_inv {u : WR} {ls : List (List DC)} (hW : Wf u ls) {n cell : Int} (hn : 0 ≤ n ∧ n ≤ 6) : BInv (Gc u ls cell) n (qc u ls n cell) := by
  unfold qc
  by_cases h : cell = -1
  · rw [if_pos h]
    exact Or.inl ⟨rfl, rfl, fun c' _ _ => by unfold Gc; rw [if_pos h]⟩
  · rw [if_neg h]
    have key : ∀ (k c : Nat) (q : Int × Int × Int), n = k + c → BInv (Gc u ls cell) c q → BInv (Gc u ls cell) n (bestF u ls (u 3) cell k c q) := by
      intro k
      induction k with
      | zero =>
        intro c q hk hB
        rw [show n = (c : Int) by omega]
        exact hB
      | succ k ih =>
        intro c q hk hB
        rw [bestF_su, show ((c : Int) + 1) = ((c + 1 : Nat) : Int) by omega]
        have hg := gripsZ_b hW (ls := ls) (c := (c : Int)) (a := u 3 c) (b := cell) (by omega)
        have he : Gc u ls cell c = gripsZ u ls c (u 3 c) cell := by unfold Gc; rw [if_neg h]
        refine ih (c + 1) _ (by omega) ?_
        have := hB.step (by omega) (by rw [he]; exact hg)
        rw [he] at this
        rw [show ((c + 1 : Nat) : Int) = (c : Int) + 1 by omega]
        exact this
    unfold bestI
    exact key n.toNat 0 _ (by omega) (Or.inl ⟨rfl, rfl, fun c' _ _ => by omega⟩)
theorem e_X5_findHolders_9 {u : WR} {ls : List (List DC)} (hW : Wf u ls) {n : Int} (hn : 0 ≤ n ∧ n ≤ 6) {cell : Int} (hcell : -1 ≤ cell ∧ cell ≤ 35) : ∀ (k c : Nat) (t : St), 6 = k + c → M0 t u ls → si t 0 50 = iI n → si t 0 49 = iI 0 → (∀ j, j < c → si t 25 j = iI 0) → ∀ fu, k < fu → ∃ t', F_X5_findHolders_9 fu t (iI (cM cell)) (iI (-1)) (iI c) = some ((), t') ∧ HoE t' u ls n cell ∧ Fm Hol t t' := by
  intro k
  have hcr := cM_r hcell
  have ht := hW.trm
  induction k with
  | zero =>
    intro c t hk hM h50 h49 hz fu hfu
    obtain ⟨g, rfl⟩ : ∃ g, fu = g + 1 := ⟨fu - 1, by omega⟩
    have : c = 6 := by omega
    subst this
    simp only [F_X5_findHolders_9]
    rw [if_pos (by rw [k_6, iI_le (by omega) (by omega)]; omega)]
    have hI0 : ∀ G : Int → Int, HInv t G 0 (-1, 0, -1) := fun G => ⟨h49, fun j hj => by rw [hz j hj, bZ_f (fun z => z.2.2 rfl)]⟩
    have hB := qc_inv hW hn (ls := ls) (cell := cell)
    by_cases h : cell = -1
    · subst h
      have e : ∃ g, F_X5_findHolders_30 FU t (iI (cM (-1))) (iI (-1)) 0 = F_X5_findHolders_183 t ∧ g = (0 : Nat) := by
        obtain ⟨g, hg⟩ : ∃ g, FU = g + 1 := ⟨1048575, rfl⟩
        rw [hg]
        simp only [F_X5_findHolders_30]
        rw [h50, k_0]
        by_cases hn0 : n ≤ 0
        · rw [if_pos (by rw [iI_le (by omega) (by omega)]; exact hn0)]
          exact ⟨0, rfl, rfl⟩
        · rw [if_neg (by rw [iI_le (by omega) (by omega)]; exact hn0), if_pos (by rfl)]
          exact ⟨0, rfl, rfl⟩
      obtain ⟨-, e, -⟩ := e
      have hIn : HInv t (Gc u ls (-1)) n (qc u ls n (-1)) := by
        unfold qc
        rw [if_pos rfl]
        exact ⟨h49, fun j hj => by rw [hz j hj, bZ_f (fun z => z.2.2 rfl)]⟩
      obtain ⟨t', e', h1, h2⟩ := e_X5_findHolders_183 (by omega) hn hB hM hIn
      exact ⟨t', e.trans e', h1, h2⟩
    · have hc : cM cell = cell := by unfold cM; rw [if_neg h]
      have hG : Gc u ls cell = fun c => gripsZ u ls c (u 3 c) cell := by funext c; unfold Gc; rw [if_neg h]
      obtain ⟨t1, e1, b1, i1, f1⟩ := e_X5_findHolders_30 hW hn (cell := cell) (by omega) n.toNat 0 (-1, 0, -1) t (by omega) hM h50 (Or.inl ⟨rfl, rfl, fun c' _ _ => by omega⟩) (hI0 _) FU (FU_ge (by omega))
      obtain ⟨t', e', h1, h2⟩ := e_X5_findHolders_183 (by omega) hn b1 (hM.scr (f1.le fun _ _ => Hol_scr)) i1
      refine ⟨t', ?_, ?_, f1.tr h2⟩
      · rw [hc, k_0]
        exact e1.trans e'
      · unfold HoE qc
        rw [if_neg h, hG]
        exact h1
  | succ k ih =>
    intro c t hk hM h50 h49 hz fu hfu
    obtain ⟨g, rfl⟩ : ∃ g, fu = g + 1 := ⟨fu - 1, by omega⟩
    have f1 : Fm Hol t (setI t 25 c (iI 0)) := Fm.set (by unfold Hol; omega)
    simp only [F_X5_findHolders_9]
    rw [if_neg (by rw [k_6, iI_le (by omega) (by omega)]; omega), inb_g (by omega), nam_v, iI_nat (by omega), Int.toNat_natCast, vb0, iI_su]
    obtain ⟨t', e, h1, h2⟩ := ih (c + 1) (setI t 25 c (iI 0)) (by omega) (hM.scr (f1.le fun _ _ => Hol_scr)) (by rw [si_set, if_neg (by omega)]; exact h50) (by rw [si_set, if_neg (by omega)]; exact h49) (fun j hj => by
      rw [si_set, if_pos rfl]
      split
      · rfl
      · exact hz j (by omega)) g (by omega)
    exact ⟨t', e, h1, f1.tr h2⟩
theorem e_X5_findHolders {t : St} {u : WR} {ls : List (List DC)} (hM : M0 t u ls) (hW : Wf u ls) {n : Int} (hn : 0 ≤ n ∧ n ≤ 6) (h50 : si t 0 50 = iI n) {cell : Int} (hcell : -1 ≤ cell ∧ cell ≤ 35) : ∃ t', F_X5_findHolders t (iI (cM cell)) = some ((), t') ∧ HoE t' u ls n cell ∧ Fm Hol t t' := by
  have f1 : Fm Hol t (setI t 0 49 (iI 0)) := Fm.set (by unfold Hol; omega)
  unfold F_X5_findHolders
  rw [k_m1, k_0, nam_v]
  obtain ⟨t', e, h1, h2⟩ := e_X5_findHolders_9 hW hn hcell 6 0 (setI t 0 49 (iI 0)) (by omega) (hM.scr (f1.le fun _ _ => Hol_scr)) (by rw [si_set, if_pos rfl, if_neg (by omega)]; exact h50) (by rw [si_set, if_pos rfl, if_pos rfl]) (fun j hj => by omega) FU (FU_ge (by omega))
  exact ⟨t', e, h1, f1.tr h2⟩
/-! parts of a cell -/
noncomputable def aMc (u : WR) (ls : List (List DC)) (n cell : Int) : Int := alK u (qc u ls n cell)
def hMc (u : WR) (ls : List (List DC)) (n cell c : Int) : Prop := hPl u (Gc u ls cell) n (qc u ls n cell) c
theorem aMc_r {u : WR} {ls : List (List DC)} (hW : Wf u ls) {n cell : Int} (hn : 0 ≤ n ∧ n ≤ 6) : 0 ≤ aMc u ls n cell ∧ aMc u ls n cell ≤ 6 := by
  have := (qc_inv hW hn (ls := ls) (cell := cell)).q hn.2
  unfold aMc alK alA
  omega
theorem part_nob {u : WR} {ls : List (List DC)} (hW : Wf u ls) {n cell : Int} (hn : 0 ≤ n ∧ n ≤ 6) : partZ u ls n (-1) (u 3) cell = if aMc u ls n cell = 0 then 60 else 0 := by
  have hB := qc_inv hW hn (ls := ls) (cell := cell)
  unfold partZ aMc
  by_cases h : cell = -1
  · rw [if_pos h, if_pos rfl]
    unfold qc
    rw [if_pos h]
    show (60 : Int) = if alK u (-1, 0, -1) = 0 then 60 else 0
    rw [if_pos]
    unfold alK alA
    simp
  · rw [if_neg h]
    unfold qc at hB ⊢
    rw [if_neg h] at hB ⊢
    unfold partQ
    rw [if_pos rfl]
    generalize bestI u ls n (u 3) cell = q at hB ⊢
    have hq := hB.q hn.2
    have hl : lostP u q ↔ alK u q = 0 := by
      unfold lostP alK alA
      omega
    by_cases a : lostP u q
    · rw [if_pos a, if_pos (hl.mp a)]
    · rw [if_neg a, if_neg (fun z => a (hl.mpr z))]
theorem part_of {u : WR} {ls : List (List DC)} (hW : Wf u ls) {n cell c : Int} (hn : 0 ≤ n ∧ n ≤ 6) (hc : 0 ≤ c ∧ c < n) : partZ u ls n c (u 3) cell = @ite _ (hMc u ls n cell c) (Classical.propDecidable _) (60 / aMc u ls n cell) 0 := by
  have hB := qc_inv hW hn (ls := ls) (cell := cell)
  have ht := hW.trm
  unfold partZ aMc hMc
  by_cases h : cell = -1
  · rw [if_pos h, if_neg (by omega), if_neg]
    unfold qc
    rw [if_pos h]
    exact fun z => z.2.1.2.2 rfl
  · rw [if_neg h]
    have hG : ∀ j, Gc u ls cell j = gripsZ u ls j (u 3 j) cell := fun j => by unfold Gc; rw [if_neg h]
    unfold qc at hB ⊢
    rw [if_neg h] at hB ⊢
    unfold partQ
    rw [if_neg (by omega), ← hG c]
    generalize bestI u ls n (u 3) cell = q at hB ⊢
    have hq := hB.q hn.2
    have hl : lostP u q ↔ alA u q = 0 := by
      unfold lostP alA
      omega
    by_cases a : lostP u q
    · rw [if_pos a, if_neg]
      intro z
      have := z.1
      have := hl.mp a
      omega
    · have a0 : ¬ alA u q = 0 := fun z => a (hl.mpr z)
      have hne : q.1 ≠ -1 := fun z => by
        rcases hB with h | h
        · unfold alA at a0
          omega
        · omega
      have hB' : (0 ≤ q.1 ∧ q.1 ≤ 99) ∧ (1 ≤ q.2.1 ∧ q.2.1 ≤ n) ∧ (0 ≤ q.2.2 ∧ q.2.2 < n) ∧ Gc u ls cell q.2.2 = q.1 ∧ (q.2.1 = 1 → ∀ c', 0 ≤ c' → c' < n → Gc u ls cell c' = q.1 → c' = q.2.2) := by
        rcases hB with h | h
        · exact absurd h.1 hne
        · exact ⟨h.1, h.2.1, h.2.2.1, h.2.2.2.1, h.2.2.2.2.2.2⟩
      obtain ⟨b1, b2, b3, b4, b5⟩ := hB'
      have hA : 0 < alA u q := by unfold alA at a0 ⊢; omega
      have hAq : alA u q = q.2.1 := by unfold alA at a0 ⊢; omega
      rw [if_neg a]
      by_cases d : q.2.1 = 1 ∨ u 8 5 = 1
      · rw [if_pos d]
        have hk : alK u q = 1 := by unfold alK; omega
        rw [hk]
        by_cases e : c = q.2.2
        · rw [if_pos e, if_pos]
          · rfl
          · exact ⟨hA, ⟨hc.2, by rw [e]; exact b4, hne⟩, fun _ => e⟩
        · rw [if_neg e, if_neg]
          intro z
          rcases d with d | d
          · exact e (b5 d c hc.1 hc.2 z.2.1.2.1)
          · exact e (z.2.2 d)
      · rw [if_neg d]
        have hk : alK u q = q.2.1 := by unfold alK; omega
        rw [hk]
        by_cases e : Gc u ls cell c = q.1
        · rw [if_pos e, if_pos]
          exact ⟨hA, ⟨hc.2, e, hne⟩, fun z => absurd (Or.inr z) d⟩
        · rw [if_neg e, if_neg]
          exact fun z => e z.2.1.2.1
theorem hMc_n {u : WR} {ls : List (List DC)} {n cell c : Int} (h : n ≤ c) : ¬ hMc u ls n cell c := fun z => by
  have := z.2.1.1
  omega
/-! sums by cells are sums by slips -/
def ci (i : Nat) : Int := if i = 36 then -1 else i
theorem cM_ci {i : Nat} (h : i ≤ 36) : cM (ci i) = i := by unfold cM ci; split <;> omega
theorem ci_r {i : Nat} (h : i ≤ 36) : -1 ≤ ci i ∧ ci i ≤ 35 := by unfold ci; split <;> omega
def smW (h : Int → Int) (fl : FL) : Nat → Int
  | 0 => 0
  | m + 1 => smW h fl m + wOf (ci m) fl * h (ci m)
def smX (h : Int → Int) : FL → Int
  | [] => 0
  | x :: r => x.2 * h x.1 + smX h r
theorem smW_nil {h : Int → Int} : ∀ m, smW h [] m = 0
  | 0 => rfl
  | m + 1 => by
    show smW h [] m + 0 * h (ci m) = 0
    rw [smW_nil m]
    omega
theorem smW_cons {h : Int → Int} {x : Int × Int} {r : FL} (hx : -1 ≤ x.1 ∧ x.1 ≤ 35) : ∀ m, m ≤ 37 → smW h (x :: r) m = smW h r m + (if (cM x.1).toNat < m then x.2 * h x.1 else 0)
  | 0, _ => by simp [smW]
  | m + 1, hm => by
    have ih := smW_cons (h := h) (r := r) hx m (by omega)
    have hcr := cM_r hx
    show smW h (x :: r) m + ((if x.1 = ci m then x.2 else 0) + wOf (ci m) r) * h (ci m) = smW h r m + wOf (ci m) r * h (ci m) + _
    rw [ih, Int.add_mul]
    have hm36 : m ≤ 36 := by omega
    have hcm := cM_ci hm36
    have hi : x.1 = ci m ↔ (cM x.1).toNat = m := by
      rw [← cM_inj hx (ci_r hm36), hcm]
      omega
    by_cases e : x.1 = ci m
    · have e2 := hi.mp e
      rw [if_pos e, if_neg (by omega), if_pos (by omega), e]
      omega
    · have e2 : ¬ (cM x.1).toNat = m := fun z => e (hi.mpr z)
      rw [if_neg e, Int.zero_mul]
      by_cases e3 : (cM x.1).toNat < m
      · rw [if_pos e3, if_pos (by omega)]; omega
      · rw [if_neg e3, if_neg (by omega)]; omega
theorem smW_all {h : Int → Int} : ∀ {fl : FL}, (∀ x ∈ fl, -1 ≤ x.1 ∧ x.1 ≤ 35) → smW h fl 37 = smX h fl
  | [], _ => smW_nil 37
  | x :: r, hx => by
    have h1 := hx x List.mem_cons_self
    have hcr := cM_r h1
    rw [smW_cons h1 37 (by omega), smW_all fun y hy => hx y (List.mem_cons_of_mem _ hy), if_pos (by omega)]
    show _ = x.2 * h x.1 + smX h r
    omega
theorem chF_smX {w : WR} {ls : List (List DC)} {n c : Int} {f : Int → Int} : ∀ {fl : FL}, chF w ls n c f fl = smX (partZ w ls n c f) fl
  | [] => rfl
  | x :: r => by
    show x.2 * partZ w ls n c f x.1 + chF w ls n c f r = x.2 * partZ w ls n c f x.1 + smX (partZ w ls n c f) r
    rw [chF_smX]
/-- parts by who (6: nobody) of a cell -/
noncomputable def pzM (u : WR) (ls : List (List DC)) (n : Int) (j : Nat) (cell : Int) : Int := if j = 6 then (if aMc u ls n cell = 0 then 60 else 0) else @ite _ (hMc u ls n cell j) (Classical.propDecidable _) (60 / aMc u ls n cell) 0
theorem pzM_r {u : WR} {ls : List (List DC)} (hW : Wf u ls) {n : Int} (hn : 0 ≤ n ∧ n ≤ 6) {j : Nat} {cell : Int} : 0 ≤ pzM u ls n j cell ∧ pzM u ls n j cell ≤ 60 := by
  have ha := aMc_r hW hn (ls := ls) (cell := cell)
  have hd : 0 ≤ 60 / aMc u ls n cell ∧ 60 / aMc u ls n cell ≤ 60 := ⟨Int.ediv_nonneg (by omega) (by omega), Int.ediv_le_self _ (by omega)⟩
  unfold pzM
  split
  · split <;> omega
  · split <;> omega
def PtI (t : St) (u : WR) (ls : List (List DC)) (n : Int) (fl : FL) (m : Nat) : Prop := ∀ j, j < 7 → si t 26 j = iI (smW (pzM u ls n j) fl m)
def Spt (a j : Nat) : Prop := Hol a j ∨ a = 26 ∨ (a = 0 ∧ j = 50)
theorem Spt_scr {a j : Nat} (h : Spt a j) : Scr a j := by
  rcases h with h | h
  · exact Hol_scr h
  · unfold Scr; omega
theorem FlM.go {S : Nat → Nat → Prop} {t t' : St} {fl : FL} (h : FlM t fl) (hF : Fm S t t') (hS : ∀ a j, S a j → ¬ (22 ≤ a ∧ a ≤ 24) ∧ ¬ (a = 0 ∧ j = 45)) : FlM t' fl := by
  obtain ⟨h1, h2, g, h3, h4, h5⟩ := h
  exact ⟨fun c c0 c1 => by rw [hF.i _ _ (fun z => (hS _ _ z).1 (by omega))]; exact h1 c c0 c1, by rw [hF.i _ _ (fun z => (hS _ _ z).2 ⟨rfl, rfl⟩)]; exact h2, g, h3, fun i hi => ⟨by rw [hF.i _ _ (fun z => (hS _ _ z).1 (by omega))]; exact (h4 i hi).1, by rw [hF.i _ _ (fun z => (hS _ _ z).1 (by omega))]; exact (h4 i hi).2⟩, h5⟩
theorem Spt_fl {a j : Nat} (h : Spt a j) : ¬ (22 ≤ a ∧ a ≤ 24) ∧ ¬ (a = 0 ∧ j = 45) := by unfold Spt Hol Sq Stl Sso at h; omega
def flOk (fl : FL) : Prop := (∀ x ∈ fl, (-1 ≤ x.1 ∧ x.1 ≤ 35) ∧ (0 ≤ x.2 ∧ x.2 ≤ 9)) ∧ sumW fl ≤ 81
theorem smW_r {h : Int → Int} (hh : ∀ c, 0 ≤ h c ∧ h c ≤ 60) {fl : FL} (hf : flOk fl) : ∀ m, 0 ≤ smW h fl m ∧ smW h fl m ≤ 4860 * m
  | 0 => ⟨Int.le_refl _, Int.le_refl _⟩
  | m + 1 => by
    have ih := smW_r hh hf m
    have hw := wOf_r (cell := ci m) (fl := fl) fun x hx => (hf.1 x hx).2
    have hs := hf.2
    have h1 := hh (ci m)
    have h2 : 0 ≤ wOf (ci m) fl * h (ci m) := Int.mul_nonneg hw.1 h1.1
    have h3 : wOf (ci m) fl * h (ci m) ≤ 81 * 60 := Int.mul_le_mul (by omega) h1.2 h1.1 (by omega)
    show 0 ≤ smW h fl m + wOf (ci m) fl * h (ci m) ∧ _
    refine ⟨by omega, ?_⟩
    show smW h fl m + wOf (ci m) fl * h (ci m) ≤ _
    omega
theorem e_X5_findParts_80 {u : WR} {ls : List (List DC)} (hW : Wf u ls) {n : Int} (hn : 0 ≤ n ∧ n ≤ 6) {fl : FL} (hfl : flOk fl) {i : Nat} (hi : i ≤ 36) {k28 : St → Int32 → Option (Unit × St)} : ∀ (k c : Nat) (t : St), 6 = k + c → HoE t u ls n (ci i) → si t 22 i = iI (wOf (ci i) fl) → (∀ j, j < 7 → si t 26 j = iI (smW (pzM u ls n j) fl (if j < c ∨ j = 6 then i + 1 else i))) → ∀ fu, k < fu → ∃ t', F_X5_findParts_80 k28 fu t (iI i) (iI c) = k28 t' (iI (i + 1 : Nat)) ∧ PtI t' u ls n fl (i + 1) ∧ Fm (fun a _ => a = 26) t t' := by
  intro k
  have hw := wOf_r (cell := ci i) (fl := fl) fun x hx => (hfl.1 x hx).2
  have hs := hfl.2
  have ha := aMc_r hW hn (ls := ls) (cell := ci i)
  induction k with
  | zero =>
    intro c t hk hH h22 hp fu hfu
    obtain ⟨g, rfl⟩ : ∃ g, fu = g + 1 := ⟨fu - 1, by omega⟩
    simp only [F_X5_findParts_80]
    rw [if_pos (by rw [k_6, iI_le (by omega) (by omega)]; omega), iI_su]
    exact ⟨t, rfl, fun j hj => by rw [hp j hj, if_pos (by omega)], Fm.rf⟩
  | succ k ih =>
    intro c t hk hH h22 hp fu hfu
    obtain ⟨g, rfl⟩ : ∃ g, fu = g + 1 := ⟨fu - 1, by omega⟩
    have hpc := hp c (by omega)
    rw [if_neg (by omega)] at hpc
    have hb := smW_r (h := pzM u ls n c) (fun _ => pzM_r hW hn) hfl i
    have fin : ∀ z, z = wOf (ci i) fl * pzM u ls n c (ci i) → ∃ t', F_X5_findParts_120 k28 (F_X5_findParts_80 k28 g) t (iI i) (iI c) (iI z) (iI (smW (pzM u ls n c) fl i)) (iI c) = k28 t' (iI (i + 1 : Nat)) ∧ PtI t' u ls n fl (i + 1) ∧ Fm (fun a _ => a = 26) t t' := fun z hz => by
      have f1 : Fm (fun a _ => a = 26) t (setI t 26 c (iI (smW (pzM u ls n c) fl i + z))) := Fm.set rfl
      unfold F_X5_findParts_120
      rw [inb_g (by omega), nam_v, iI_nat (by omega), Int.toNat_natCast, iI_add, iI_su]
      obtain ⟨t', e, h1, h2⟩ := ih (c + 1) (setI t 26 c (iI (smW (pzM u ls n c) fl i + z))) (by omega) ⟨by rw [f1.i _ _ (by omega)]; exact hH.1, fun j hj => by rw [f1.i _ _ (by omega)]; exact hH.2 j hj⟩ (by rw [f1.i _ _ (by omega)]; exact h22) (fun j hj => by
        rw [si_set, if_pos rfl]
        by_cases e : j = c
        · rw [if_pos e, if_pos (by omega), e, hz]
          rfl
        · rw [if_neg e, hp j hj]
          congr 2
          by_cases e2 : j < c ∨ j = 6
          · rw [if_pos e2, if_pos (by omega)]
          · rw [if_neg e2, if_neg (by omega)]) g (by omega)
      exact ⟨t', e, h1, f1.tr h2⟩
    simp only [F_X5_findParts_80]
    rw [if_neg (by rw [k_6, iI_le (by omega) (by omega)]; omega), inb_g (by omega), inb_g (by omega), iI_nat (by omega), iI_nat (by omega), Int.toNat_natCast, Int.toNat_natCast, hH.2 c (by omega), hpc, hH.1, k_0]
    have hpz : pzM u ls n c (ci i) = @ite _ (hMc u ls n (ci i) c) (Classical.propDecidable _) (60 / aMc u ls n (ci i)) 0 := by
      unfold pzM
      rw [if_neg (by omega)]
    rw [hpz] at fin
    by_cases a : hMc u ls n (ci i) c
    · have hk1 : alK u (qc u ls n (ci i)) = aMc u ls n (ci i) := rfl
      have hne : aMc u ls n (ci i) ≠ 0 := by
        have h1 : 0 < alA u (qc u ls n (ci i)) := a.1
        unfold aMc alK
        split <;> omega
      rw [if_pos a] at fin
      have hd : 0 ≤ 60 / aMc u ls n (ci i) ∧ 60 / aMc u ls n (ci i) ≤ 60 := ⟨Int.ediv_nonneg (by omega) (by omega), Int.ediv_le_self _ (by omega)⟩
      rw [if_neg (by rw [bZ_i0]; exact fun z => z a), hk1, gd_ok (nzi_t hne (by omega)), inb_g (by omega), h22, k_60, iI_divn (by omega) (by omega), iI_mul]
      exact fin _ (Int.mul_comm _ _)
    · rw [if_neg a] at fin
      rw [if_pos (by rw [bZ_i0]; exact a)]
      exact fin 0 (by omega)
theorem e_X5_findParts_28 {u : WR} {ls : List (List DC)} (hW : Wf u ls) {n : Int} (hn : 0 ≤ n ∧ n ≤ 6) {fl : FL} (hfl : flOk fl) : ∀ (k i : Nat) (t : St), 37 = k + i → M0 t u ls → FlM t fl → si t 0 50 = iI n → PtI t u ls n fl i → ∀ fu, k < fu → ∃ t', F_X5_findParts_28 fu t (iI i) = some ((), t') ∧ PtI t' u ls n fl 37 ∧ Fm Spt t t' := by
  intro k
  induction k with
  | zero =>
    intro i t hk hM hL h50 hp fu hfu
    obtain ⟨g, rfl⟩ : ∃ g, fu = g + 1 := ⟨fu - 1, by omega⟩
    have : i = 37 := by omega
    subst this
    simp only [F_X5_findParts_28]
    rw [if_pos (by rw [k_37, iI_le (by omega) (by omega)]; omega)]
    exact ⟨t, rfl, hp, Fm.rf⟩
  | succ k ih =>
    intro i t hk hM hL h50 hp fu hfu
    obtain ⟨g, rfl⟩ : ∃ g, fu = g + 1 := ⟨fu - 1, by omega⟩
    have hw := wOf_r (cell := ci i) (fl := fl) fun x hx => (hfl.1 x hx).2
    have hs := hfl.2
    have hci := ci_r (i := i) (by omega)
    have hcm := cM_ci (i := i) (by omega)
    have h22 := hL.1 (ci i) hci.1 hci.2
    rw [hcm, Int.toNat_natCast] at h22
    simp only [F_X5_findParts_28]
    rw [if_neg (by rw [k_37, iI_le (by omega) (by omega)]; omega), inb_g (by omega), iI_nat (by omega), Int.toNat_natCast, h22, k_0, iI_su]
    by_cases h0 : wOf (ci i) fl ≤ 0
    · have hz : wOf (ci i) fl = 0 := by omega
      rw [if_pos (by rw [iI_le (by omega) (by omega)]; exact h0)]
      exact ih (i + 1) t (by omega) hM hL h50 (fun j hj => by
        rw [hp j hj]
        congr 1
        show _ = smW (pzM u ls n j) fl i + wOf (ci i) fl * pzM u ls n j (ci i)
        rw [hz]
        omega) g (by omega)
    · rw [if_neg (by rw [iI_le (by omega) (by omega)]; exact h0)]
      obtain ⟨t1, e1, hH, f1⟩ := e_X5_findHolders hM hW hn h50 hci
      rw [hcm] at e1
      have f1' : Fm Spt t t1 := f1.le fun _ _ z => Or.inl z
      have nh : ∀ a j, Hol a j → a ≠ 26 ∧ a ≠ 22 ∧ ¬ (a = 0 ∧ j = 50) := fun a j z => by unfold Hol Sq Stl Sso at z; omega
      have h22' : si t1 22 i = iI (wOf (ci i) fl) := by rw [f1.i _ _ (fun z => (nh _ _ z).2.1 rfl)]; exact h22
      have hp1 : ∀ j, j < 7 → si t1 26 j = iI (smW (pzM u ls n j) fl i) := fun j hj => by rw [f1.i _ _ (fun z => (nh _ _ z).1 rfl)]; exact hp j hj
      have ha := aMc_r hW hn (ls := ls) (cell := ci i)
      have hb := smW_r (h := pzM u ls n 6) (fun _ => pzM_r hW hn) hfl i
      have hal : si t1 0 49 = iI (aMc u ls n (ci i)) := hH.1
      have fin : ∀ z, z = wOf (ci i) fl * pzM u ls n 6 (ci i) → ∃ t', F_X5_findParts_76 (F_X5_findParts_28 g) t1 (iI i) (iI z) (iI (smW (pzM u ls n 6) fl i)) (iI 6) = some ((), t') ∧ PtI t' u ls n fl 37 ∧ Fm Spt t t' := fun z hz => by
        have f2 : Fm (fun a _ => a = 26) t1 (setI t1 26 6 (iI (smW (pzM u ls n 6) fl i + z))) := Fm.set rfl
        unfold F_X5_findParts_76
        rw [inb_g (by omega), nam_v, show (iI 6).toNatClampNeg = 6 from rfl, iI_add]
        obtain ⟨t3, e3, h3, f3⟩ := e_X5_findParts_80 hW hn hfl (i := i) (by omega) (k28 := F_X5_findParts_28 g) 6 0 (setI t1 26 6 (iI (smW (pzM u ls n 6) fl i + z))) (by omega) ⟨by rw [f2.i _ _ (by omega)]; exact hH.1, fun j hj => by rw [f2.i _ _ (by omega)]; exact hH.2 j hj⟩ (by rw [f2.i _ _ (by omega)]; exact h22') (fun j hj => by
          rw [si_set, if_pos rfl]
          by_cases e : j = 6
          · rw [if_pos e, if_pos (by omega), e, hz]
            rfl
          · rw [if_neg e, if_neg (by omega)]
            exact hp1 j hj) FU (FU_ge (by omega))
        have f23 : Fm Spt t1 t3 := (f2.tr f3).le fun _ _ z => Or.inr (Or.inl z)
        have fA := f1'.tr f23
        have f50 : si t3 0 50 = iI n := by rw [(f2.tr f3).i _ _ (by omega), f1.i _ _ (fun z => (nh _ _ z).2.2 ⟨rfl, rfl⟩)]; exact h50
        obtain ⟨t4, e4, h4, f4⟩ := ih (i + 1) t3 (by omega) (hM.scr (fA.le fun _ _ => Spt_scr)) (hL.go fA fun _ _ => Spt_fl) f50 h3 g (by omega)
        exact ⟨t4, e3.trans e4, h4, fA.tr f4⟩
      have hpz : pzM u ls n 6 (ci i) = if aMc u ls n (ci i) = 0 then 60 else 0 := by
        unfold pzM
        rw [if_pos rfl]
      rw [hpz] at fin
      rw [e1, bnd_s, k_6, inb_g (by omega), hal, inb_g (by omega), show (iI 6).toNatClampNeg = 6 from rfl, hp1 6 (by omega), h22', k_60, iI_mul]
      by_cases a : aMc u ls n (ci i) = 0
      · rw [if_pos a] at fin
        rw [if_pos (by rw [a])]
        exact fin _ (Int.mul_comm _ _)
      · rw [if_neg a] at fin
        rw [if_neg (by rw [iI_eq (by omega) (by omega)]; exact a)]
        exact fin 0 (by omega)
def PtE (t : St) (u : WR) (ls : List (List DC)) (n : Int) (fl : FL) : Prop := (∀ c : Int, 0 ≤ c → c < n → si t 26 c.toNat = iI (chF u ls n c (u 3) fl)) ∧ si t 26 6 = iI (chF u ls n (-1) (u 3) fl)
theorem smX_eq {h h' : Int → Int} (e : ∀ c, h c = h' c) : ∀ {fl : FL}, smX h fl = smX h' fl
  | [] => rfl
  | x :: r => by
    show x.2 * h x.1 + smX h r = x.2 * h' x.1 + smX h' r
    rw [e, smX_eq e]
theorem PtI.all {t : St} {u : WR} {ls : List (List DC)} (hW : Wf u ls) {n : Int} (hn : 0 ≤ n ∧ n ≤ 6) {fl : FL} (hfl : flOk fl) (h : PtI t u ls n fl 37) : PtE t u ls n fl := by
  refine ⟨fun c h0 h1 => ?_, ?_⟩
  · rw [h c.toNat (by omega), smW_all fun x hx => (hfl.1 x hx).1, chF_smX]
    congr 1
    refine smX_eq fun d => ?_
    rw [part_of hW hn ⟨h0, h1⟩]
    unfold pzM
    rw [if_neg (by omega), show ((c.toNat : Nat) : Int) = c by omega]
  · rw [h 6 (by omega), smW_all fun x hx => (hfl.1 x hx).1, chF_smX]
    congr 1
    refine smX_eq fun d => ?_
    rw [part_nob hW hn]
    unfold pzM
    rw [if_pos rfl]
theorem e_X5_findParts_7 {u : WR} {ls : List (List DC)} (hW : Wf u ls) {n : Int} (hn : 0 ≤ n ∧ n ≤ 6) {fl : FL} (hfl : flOk fl) : ∀ (k i : Nat) (t : St), 7 = k + i → M0 t u ls → FlM t fl → si t 0 50 = iI n → (∀ j, j < i → si t 26 j = iI 0) → ∀ fu, k < fu → ∃ t', F_X5_findParts_7 fu t (iI i) = some ((), t') ∧ PtI t' u ls n fl 37 ∧ Fm Spt t t' := by
  intro k
  induction k with
  | zero =>
    intro i t hk hM hL h50 hz fu hfu
    obtain ⟨g, rfl⟩ : ∃ g, fu = g + 1 := ⟨fu - 1, by omega⟩
    simp only [F_X5_findParts_7]
    rw [if_pos (by rw [k_7, iI_le (by omega) (by omega)]; omega), k_0]
    exact e_X5_findParts_28 hW hn hfl 37 0 t (by omega) hM hL h50 (fun j hj => hz j (by omega)) FU (FU_ge (by omega))
  | succ k ih =>
    intro i t hk hM hL h50 hz fu hfu
    obtain ⟨g, rfl⟩ : ∃ g, fu = g + 1 := ⟨fu - 1, by omega⟩
    have f1 : Fm Spt t (setI t 26 i (iI 0)) := Fm.set (by unfold Spt; omega)
    simp only [F_X5_findParts_7]
    rw [if_neg (by rw [k_7, iI_le (by omega) (by omega)]; omega), inb_g (by omega), nam_v, iI_nat (by omega), Int.toNat_natCast, iI_su, k_0]
    obtain ⟨t', e, h1, h2⟩ := ih (i + 1) (setI t 26 i (iI 0)) (by omega) (hM.scr (f1.le fun _ _ => Spt_scr)) (hL.go f1 fun _ _ => Spt_fl) (by rw [si_set, if_neg (by omega)]; exact h50) (fun j hj => by
      rw [si_set, if_pos rfl]
      split
      · rfl
      · exact hz j (by omega)) g (by omega)
    exact ⟨t', e, h1, f1.tr h2⟩
theorem e_X5_findParts {t : St} {u : WR} {ls : List (List DC)} (hM : M0 t u ls) (hW : Wf u ls) {n : Int} (hn : 0 ≤ n ∧ n ≤ 6) {fl : FL} (hfl : flOk fl) (hL : FlM t fl) : ∃ t', F_X5_findParts t (iI n) = some ((), t') ∧ PtE t' u ls n fl ∧ Fm Spt t t' := by
  have f1 : Fm Spt t (setI t 0 50 (iI n)) := Fm.set (by unfold Spt; omega)
  unfold F_X5_findParts
  rw [nam_v, k_0]
  obtain ⟨t', e, h1, h2⟩ := e_X5_findParts_7 hW hn hfl 7 0 (setI t 0 50 (iI n)) (by omega) (hM.scr (f1.le fun _ _ => Spt_scr)) (hL.go f1 fun _ _ => Spt_fl) (by rw [si_set, if_pos rfl, if_pos rfl]) (fun j hj => by omega) FU (FU_ge (by omega))
  exact ⟨t', e, h1.all hW hn hfl, f1.tr h2⟩
theorem e_X5_findAll {t : St} {u : WR} {ls : List (List DC)} (hM : M0 t u ls) (hW : Wf u ls) {fl : FL} (hfl : flOk fl) (hL : FlM t fl) : ∃ t', F_X5_findAll t = some ((), t') ∧ PtE t' u ls (u 2 8) fl ∧ Fm Spt t t' := by
  obtain ⟨t1, e1, h1, f1⟩ := e_X5_findParts hM hW hW.1 hfl hL
  unfold F_X5_findAll
  rw [k_0, inb_g (by omega), show (iI 0).toNatClampNeg = 0 from rfl, hM.1.many, e1, bnd_s]
  exact ⟨t1, rfl, h1, f1⟩
theorem laysL_ok {w : WR} {ls : List (List DC)} (hW : Wf w ls) {f sd : Int} : flOk (laysL w ls f sd) := ⟨(laysL_mem hW).2, (laysL_sum hW).2⟩
