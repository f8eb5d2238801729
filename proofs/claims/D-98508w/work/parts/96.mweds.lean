set_option maxRecDepth 100000
/-! ===== the model: weddings ===== -/
def Swn (a j : Nat) : Prop := Hol a j ∨ (a = 28 ∧ j < 12) ∨ (a = 100 ∧ j = 63)
theorem Swn_fl {a j : Nat} (h : Swn a j) : ¬ (22 ≤ a ∧ a ≤ 24) ∧ ¬ (a = 0 ∧ j = 45) := by unfold Swn Hol Sq Stl Sso at h; omega
/-- what weddings keep -/
def WM (t : St) (w w' : WR) (ls : List (List DC)) : Prop := M0 t w' ls ∧ FlM t (nowL w ls) ∧ si t 0 50 = iI (w 2 8) ∧ sl t 0 63 = lI (w' 0 27) ∧ Eq9 w w' ∧ (0 ≤ w' 0 27 ∧ w' 0 27 ≤ 1000003) ∧ w' 0 26 = w 2 8
theorem WM.hol {t t' : St} {w w' : WR} {ls : List (List DC)} (h : WM t w w' ls) (hF : Fm Hol t t') : WM t' w w' ls := by
  obtain ⟨h1, h2, h3, h4, h5⟩ := h
  exact ⟨h1.scr (hF.le fun _ _ => Hol_scr), h2.go hF fun _ _ z => Spt_fl (Or.inl z), by rw [hF.i _ _ (by unfold Hol Sq Stl Sso; omega)]; exact h3, by rw [hF.l _ _ (by unfold Hol Sq Stl Sso; omega)]; exact h4, h5⟩
theorem e_X5_draw {t : St} {w w' : WR} {ls : List (List DC)} (h : WM t w w' ls) {n : Int} (hn : 1 ≤ n ∧ n ≤ 1000) : ∃ t', F_X5_draw t (iI n) = some (iI (drV w' n), t') ∧ WM t' w (drW w') ls ∧ Fm (fun a j => a = 100 ∧ j = 63) t t' := by
  obtain ⟨h1, h2, h3, h4, h5, h6, h7⟩ := h
  unfold F_X5_draw
  have e1 : lI (w' 0 27) * lI 1103 + lI 12345 - (lI (w' 0 27) * lI 1103 + lI 12345) / lI 1000003 * lI 1000003 = lI ((w' 0 27 * 1103 + 12345) % 1000003) := by
    rw [lI_mul, lI_add, lI_remn (by omega) (by omega)]
  rw [h4, K_1103, K_12345, K_1000003, e1, nam_v, iI_l (by omega), gd_ok (nzl_t (by omega) (by omega)), sl_set, if_pos rfl, if_pos rfl]
  have hz : 0 ≤ (w' 0 27 * 1103 + 12345) % 1000003 ∧ (w' 0 27 * 1103 + 12345) % 1000003 < 1000003 := by omega
  have hf : Fm (fun a j => a = 100 ∧ j = 63) t (setL t 0 63 (lI ((w' 0 27 * 1103 + 12345) % 1000003))) := Fm.setL ⟨rfl, rfl⟩
  have hmod := Int.emod_lt_of_pos ((w' 0 27 * 1103 + 12345) % 1000003) (show 0 < n by omega)
  have hmod0 := Int.emod_nonneg ((w' 0 27 * 1103 + 12345) % 1000003) (show n ≠ 0 by omega)
  rw [lI_remn (by omega) (by omega), lI_i (by omega)]
  refine ⟨_, rfl, ⟨?_, h2.go hf fun a j z => by omega, by rw [hf.i _ _ (by omega)]; exact h3, by rw [sl_set, if_pos rfl, if_pos rfl]; unfold drW; rw [wup_s], h5.up (by omega), by unfold drW; rw [wup_s]; omega, by unfold drW; rw [wup_k (by decide)]; exact h7⟩, hf⟩
  refine (h1.scr (hf.le fun a j z => by unfold Scr; omega)).w fun r k h0 hr => ?_
  unfold drW wup
  rw [if_neg]
  rintro ⟨rfl, rfl⟩
  have hr' : (27 : Int) = 0 ∨ (11 ≤ (27 : Int) ∧ (27 : Int) ≤ 15) ∨ (27 : Int) = 26 := hr
  omega
/-! a cell is drawn -/
def slG (g : Nat → Int × Int) : Nat → Nat → Int → Int
  | 0, _, _ => -1
  | n + 1, k, a => if a < (g k).2 then (g k).1 else slG g n (k + 1) (a - (g k).2)
def sG (g : Nat → Int × Int) : Nat → Nat → Int
  | 0, _ => 0
  | n + 1, k => (g k).2 + sG g n (k + 1)
theorem slC_g {g : Nat → Int × Int} {a : Int} : slC (preL g 9) a = slG g 9 0 a := rfl
theorem sG_g {g : Nat → Int × Int} : sumW (preL g 9) = sG g 9 0 := rfl
theorem e_X5_drawCell_11 {t : St} {g : Nat → Int × Int} (hg : gOk g) (h : ∀ i, i < 9 → si t 23 i = iI (cM (g i).1) ∧ si t 24 i = iI (g i).2) : ∀ (n k : Nat) (a : Int), 9 = n + k → 0 ≤ a → a < sG g n k → a ≤ 81 → ∀ fu, n ≤ fu → F_X5_drawCell_11 fu t (iI a) (iI k) = some (iI (cM (slG g n k a)), t) ∧ (-1 ≤ slG g n k a ∧ slG g n k a ≤ 35) := by
  intro n
  induction n with
  | zero =>
    intro k a hk h0 ha
    change a < 0 at ha
    omega
  | succ n ih =>
    intro k a hk h0 ha ha2 fu hfu
    obtain ⟨q, rfl⟩ : ∃ q, fu = q + 1 := ⟨fu - 1, by omega⟩
    have gk := hg k
    have hk2 := h k (by omega)
    change a < (g k).2 + sG g n (k + 1) at ha
    simp only [F_X5_drawCell_11]
    rw [inb_g (by omega), iI_nat (by omega), Int.toNat_natCast, hk2.2, inb_g (by omega), inb_g (by omega), hk2.1, iI_sub, nam_v, iI_su, slG]
    by_cases c : a < (g k).2
    · rw [if_pos (by rw [iI_lt (by omega) (by omega)]; exact c), if_pos c]
      exact ⟨rfl, gk.1⟩
    · rw [if_neg (by rw [iI_lt (by omega) (by omega)]; exact c), if_neg c]
      exact ih (k + 1) _ (by omega) (by omega) (by omega) (by omega) q (by omega)
theorem e_X5_drawCell {t : St} {w w' : WR} {ls : List (List DC)} (hW : Wf w ls) (h : WM t w w' ls) : ∃ t', F_X5_drawCell t = some (iI (cM (slC (nowL w ls) (drV w' (sumW (nowL w ls))))), t') ∧ (-1 ≤ slC (nowL w ls) (drV w' (sumW (nowL w ls))) ∧ slC (nowL w ls) (drV w' (sumW (nowL w ls))) ≤ 35) ∧ WM t' w (drW w') ls ∧ Fm (fun a j => a = 100 ∧ j = 63) t t' := by
  have hs : 1 ≤ sumW (nowL w ls) ∧ sumW (nowL w ls) ≤ 81 := laysL_sum (f := w 8 0) (sd := w 8 1) hW
  obtain ⟨t1, e1, h1, f1⟩ := e_X5_draw h (n := sumW (nowL w ls)) (by omega)
  obtain ⟨-, -, g, hg, h9, hsum, hslc⟩ := h1.2.1
  have hd0 : 0 ≤ drV w' (sumW (nowL w ls)) := Int.emod_nonneg _ (by omega)
  have hd1 : drV w' (sumW (nowL w ls)) < sumW (nowL w ls) := Int.emod_lt_of_pos _ (by omega)
  have := e_X5_drawCell_11 hg h9 9 0 (drV w' (sumW (nowL w ls))) (by omega) hd0 (by rw [← sG_g, hsum]; exact hd1) (by omega) FU (Nat.le_of_lt (FU_ge (by omega)))
  rw [← slC_g, hslc _ hd0 hd1] at this
  unfold F_X5_drawCell
  rw [h.2.1.2.1, e1, bnd_s, k_0]
  exact ⟨t1, this.1, this.2, h1, f1⟩
/-! who has it -/
def cG (G : Int → Int) (m : Int) : Nat → Int
  | 0 => 0
  | k + 1 => cG G m k + (if G k = m then 1 else 0)
theorem cG_0 {G : Int → Int} {m : Int} : ∀ (k : Nat), (∀ i : Int, 0 ≤ i → i < k → G i ≠ m) → cG G m k = 0
  | 0, _ => rfl
  | k + 1, h => by
    show cG G m k + (if G k = m then 1 else 0) = 0
    rw [cG_0 k fun i h0 h1 => h i h0 (by omega), if_neg (h k (by omega) (by omega))]
    rfl
theorem cG_step {G : Int → Int} {c : Nat} {q : Int × Int × Int} (hB : BInv G c q) (hg : -1 ≤ G c) (hc : q.1 ≠ -1 → q.2.1 = cG G q.1 c) : (stepB (G c) c q).1 ≠ -1 → (stepB (G c) c q).2.1 = cG G (stepB (G c) c q).1 (c + 1) := by
  have hs : ∀ m, cG G m (c + 1) = cG G m c + (if G c = m then 1 else 0) := fun m => rfl
  unfold stepB
  by_cases a : G c = -1 ∨ G c < q.1
  · rw [if_pos a]
    intro h
    rw [hs, if_neg (by omega), hc h]
    omega
  · rw [if_neg a]
    by_cases b : q.1 < G c
    · rw [if_pos b]
      intro _
      show (1 : Int) = cG G (G c) (c + 1)
      rw [hs, if_pos rfl, cG_0 c]
      · rfl
      · intro i h0 h1
        rcases hB with h | h
        · rw [h.2.2 i h0 h1]; omega
        · have := h.2.2.2.2.1 i h0 h1; omega
    · rw [if_neg b]
      intro _
      show q.2.1 + 1 = cG G (G c) (c + 1)
      have e : G c = q.1 := by omega
      rw [hs, if_pos rfl, e, hc (by omega)]
theorem best_cG {u : WR} {ls : List (List DC)} (hW : Wf u ls) {n cell : Int} (hn : 0 ≤ n ∧ n ≤ 6) (h : cell ≠ -1) (hq : (qc u ls n cell).1 ≠ -1) : (qc u ls n cell).2.1 = cG (Gc u ls cell) (qc u ls n cell).1 n.toNat := by
  unfold qc at hq ⊢
  rw [if_neg h] at hq ⊢
  have key : ∀ (k c : Nat) (q : Int × Int × Int), n = k + c → BInv (Gc u ls cell) c q → (q.1 ≠ -1 → q.2.1 = cG (Gc u ls cell) q.1 c) → (bestF u ls (u 3) cell k c q).1 ≠ -1 → (bestF u ls (u 3) cell k c q).2.1 = cG (Gc u ls cell) (bestF u ls (u 3) cell k c q).1 n.toNat := by
    intro k
    induction k with
    | zero =>
      intro c q hk hB hc
      rw [show n.toNat = c by omega]
      exact hc
    | succ k ih =>
      intro c q hk hB hc
      have he : Gc u ls cell c = gripsZ u ls c (u 3 c) cell := by unfold Gc; rw [if_neg h]
      have hg := gripsZ_b hW (ls := ls) (c := (c : Int)) (a := u 3 c) (b := cell) (by omega)
      have h1 := hB.step (by omega) (by rw [he]; exact hg)
      have h2 := cG_step hB (by rw [he]; exact hg.1) hc
      rw [he] at h1 h2
      rw [bestF_su, show (c : Int) + 1 = ((c + 1 : Nat) : Int) by omega]
      exact ih (c + 1) _ (by omega) (by rw [show ((c + 1 : Nat) : Int) = (c : Int) + 1 by omega]; exact h1) h2
  exact key n.toNat 0 _ (by omega) (Or.inl ⟨rfl, rfl, fun c' _ _ => by omega⟩) (fun z => absurd rfl z) hq
/-- how many have it -/
noncomputable def nH (P : Int → Prop) : Nat → Int
  | 0 => 0
  | k + 1 => nH P k + @ite _ (P k) (Classical.propDecidable _) 1 0
theorem nH_eq {P Q : Int → Prop} : ∀ (k : Nat), (∀ i : Int, 0 ≤ i → i < k → (P i ↔ Q i)) → nH P k = nH Q k
  | 0, _ => rfl
  | k + 1, h => by
    show nH P k + _ = nH Q k + _
    rw [nH_eq k fun i h0 h1 => h i h0 (by omega)]
    have := h k (by omega) (by omega)
    by_cases a : P k
    · rw [if_pos a, if_pos (this.mp a)]
    · rw [if_neg a, if_neg fun z => a (this.mpr z)]
theorem nH_cG {G : Int → Int} {m : Int} : ∀ (k : Nat), nH (fun c => G c = m) k = cG G m k
  | 0 => rfl
  | k + 1 => by
    show nH (fun c => G c = m) k + @ite _ (G k = m) (Classical.propDecidable _) 1 0 = cG G m k + (if G k = m then 1 else 0)
    rw [nH_cG k]
    by_cases a : G k = m
    · rw [if_pos a, if_pos a]
    · rw [if_neg a, if_neg a]
theorem nH_0 {P : Int → Prop} : ∀ (k : Nat), (∀ i : Int, 0 ≤ i → i < k → ¬ P i) → nH P k = 0
  | 0, _ => rfl
  | k + 1, h => by
    show nH P k + _ = 0
    rw [nH_0 k fun i h0 h1 => h i h0 (by omega), if_neg (h k (by omega) (by omega))]
    rfl
theorem nH_1 {P : Int → Prop} {a : Int} : ∀ (k : Nat), 0 ≤ a → a < k → (∀ i : Int, 0 ≤ i → i < k → (P i ↔ i = a)) → nH P k = 1
  | 0, h0, h1, _ => by omega
  | k + 1, h0, h1, h => by
    show nH P k + _ = 1
    have hk := h k (by omega) (by omega)
    by_cases e : (k : Int) = a
    · rw [if_pos (hk.mpr e), nH_0 k fun i i0 i1 => fun z => by have := (h i i0 (by omega)).mp z; omega]
      rfl
    · rw [if_neg (fun z => e (hk.mp z)), nH_1 k h0 (by omega) fun i i0 i1 => h i i0 (by omega)]
      rfl
theorem aMc_n {u : WR} {ls : List (List DC)} (hW : Wf u ls) {n cell : Int} (hn : 0 ≤ n ∧ n ≤ 6) : nH (hMc u ls n cell) n.toNat = aMc u ls n cell := by
  have hB := qc_inv hW hn (ls := ls) (cell := cell)
  have ht := hW.trm
  have hq := hB.q hn.2
  by_cases h : cell = -1
  · have e : qc u ls n cell = (-1, 0, -1) := by unfold qc; rw [if_pos h]
    rw [nH_0]
    · unfold aMc
      rw [e]
      unfold alK alA
      simp
    · intro i _ _ z
      unfold hMc at z
      rw [e] at z
      exact z.2.1.2.2 rfl
  · have hcnt := best_cG hW (ls := ls) hn h
    unfold aMc hMc
    generalize qc u ls n cell = q at hB hq hcnt ⊢
    by_cases a : alA u q = 0
    · rw [nH_0]
      · unfold alK
        rw [if_neg (by omega), a]
      · intro i _ _ z
        have := z.1
        omega
    · have hA : 0 < alA u q ∧ alA u q = q.2.1 := by unfold alA at a ⊢; omega
      have hne : q.1 ≠ -1 := fun z => by
        rcases hB with h | h <;> omega
      have hB' : (0 ≤ q.2.2 ∧ q.2.2 < n) ∧ Gc u ls cell q.2.2 = q.1 := by
        rcases hB with h | h
        · exact absurd h.1 hne
        · exact ⟨h.2.2.1, h.2.2.2.1⟩
      by_cases b : u 8 5 = 1
      · rw [nH_1 (a := q.2.2) n.toNat hB'.1.1 (by omega)]
        · unfold alK
          by_cases c : 1 < alA u q
          · rw [if_pos ⟨c, b⟩]
          · rw [if_neg (by omega)]; omega
        · intro i i0 i1
          refine ⟨fun z => z.2.2 b, fun z => ⟨hA.1, ⟨by omega, by rw [z]; exact hB'.2, hne⟩, fun _ => z⟩⟩
      · rw [nH_eq (Q := fun c => Gc u ls cell c = q.1) n.toNat, nH_cG, ← hcnt hne]
        · unfold alK
          rw [if_neg (by omega), hA.2]
        · intro i i0 i1
          exact ⟨fun z => z.2.1.2.1, fun z => ⟨hA.1, ⟨by omega, z, hne⟩, fun y => absurd y b⟩⟩

/-! the same rows have the same holders -/
theorem Eq9.eGc {w w' : WR} {ls : List (List DC)} (h : Eq9 w w') {cell : Int} : Gc w' ls cell = Gc w ls cell := funext fun c => by
  unfold Gc
  rw [h.grips, h 3 c (by decide) (by decide)]
theorem Eq9.eqc {w w' : WR} {ls : List (List DC)} (h : Eq9 w w') {n cell : Int} : qc w' ls n cell = qc w ls n cell := by
  have e3 : w' 3 = w 3 := funext fun k => h 3 k (by decide) (by decide)
  have e : bestI w' ls n (w 3) cell = bestI w ls n (w 3) cell := h.best _ _ _
  unfold qc
  rw [e3, e]
theorem Eq9.ehM {w w' : WR} {ls : List (List DC)} (h : Eq9 w w') {n cell c : Int} : hMc w' ls n cell c ↔ hMc w ls n cell c := by
  unfold hMc hPl alA
  rw [h.eGc, h.eqc, h 8 5 (by decide) (by decide)]
theorem Eq9.eaM {w w' : WR} {ls : List (List DC)} (h : Eq9 w w') {n cell : Int} : aMc w' ls n cell = aMc w ls n cell := by
  unfold aMc alK alA
  rw [h.eqc, h 8 5 (by decide) (by decide)]
theorem hMc_a {w : WR} {ls : List (List DC)} (hW : Wf w ls) {n cell c : Int} (hn : 0 ≤ n ∧ n ≤ 6) (h : hMc w ls n cell c) : 1 ≤ aMc w ls n cell := by
  have h1 := h.1
  unfold aMc alK
  split <;> omega
theorem part_z {w : WR} {ls : List (List DC)} (hW : Wf w ls) {n cell c : Int} (hn : 0 ≤ n ∧ n ≤ 6) (hc : 0 ≤ c ∧ c < n) : (hMc w ls n cell c → 1 ≤ partZ w ls n c (w 3) cell) ∧ (¬ hMc w ls n cell c → partZ w ls n c (w 3) cell = 0) := by
  rw [part_of hW hn hc]
  constructor
  · intro h
    have h1 := hMc_a hW hn h
    have h2 := (aMc_r hW hn (ls := ls) (cell := cell)).2
    rw [if_pos h]
    have : 10 ≤ 60 / aMc w ls n cell := by
      apply Int.le_ediv_of_mul_le (by omega)
      omega
    omega
  · intro h
    rw [if_neg h]
theorem alk_nH {w : WR} {ls : List (List DC)} (hW : Wf w ls) {cell : Int} : ∀ (k c : Nat), w 2 8 = k + c → alkF w ls cell k c (nH (hMc w ls (w 2 8) cell) c) = nH (hMc w ls (w 2 8) cell) (w 2 8).toNat := by
  have hm := hW.1
  intro k
  induction k with
  | zero =>
    intro c hc
    rw [alkF, show (w 2 8).toNat = c by omega]
  | succ k ih =>
    intro c hc
    have hp := part_z hW (ls := ls) hm (cell := cell) (c := (c : Int)) (by omega)
    rw [alkF, ← ih (c + 1) (by omega)]
    have e : nH (hMc w ls (w 2 8) cell) (c + 1) = nH (hMc w ls (w 2 8) cell) c + @ite _ (partZ w ls (w 2 8) c (w 3) cell ≤ 0) (Classical.propDecidable _) 0 1 := by
      show nH (hMc w ls (w 2 8) cell) c + @ite _ (hMc w ls (w 2 8) cell c) (Classical.propDecidable _) 1 0 = _
      by_cases a : hMc w ls (w 2 8) cell c
      · have := hp.1 a
        rw [if_pos a, if_neg (by omega)]
      · have := hp.2 a
        rw [if_neg a, if_pos (by omega)]
    rw [e]
    rfl
theorem alk_a {w : WR} {ls : List (List DC)} (hW : Wf w ls) {cell : Int} : alkZ w ls cell = aMc w ls (w 2 8) cell := by
  have hm := hW.1
  rw [← aMc_n hW hm, ← alk_nH hW (w 2 8).toNat 0 (by omega)]
  rfl
theorem hld_no {w : WR} {ls : List (List DC)} (hW : Wf w ls) {cell : Int} (h : ∀ c, ¬ hMc w ls (w 2 8) cell c) : ∀ (k : Nat) (c a : Int), 0 ≤ c → w 2 8 = k + c → hldF w ls cell k c a = -1 := by
  have hm := hW.1
  intro k
  induction k with
  | zero =>
    intro c a _ _
    rw [hldF]
  | succ k ih =>
    intro c a h0 hc
    rw [hldF, if_pos ((part_z hW hm (by omega)).2 (h c))]
    exact ih (c + 1) a (by omega) (by omega)
/-- the holders are found -/
def HoW (t : St) (w : WR) (ls : List (List DC)) (cell : Int) : Prop := si t 0 49 = iI (aMc w ls (w 2 8) cell) ∧ ∀ j : Nat, j < 6 → si t 25 j = iI (bZ (hMc w ls (w 2 8) cell j))
theorem e_X5_drawHolder_23 {w : WR} {ls : List (List DC)} (hW : Wf w ls) {cell : Int} {t : St} (h : HoW t w ls cell) : ∀ (k c : Nat) (a : Int), 6 = k + c → (0 ≤ a ∧ a ≤ 1000) → ∀ fu, k < fu → F_X5_drawHolder_23 fu t (iI a) (iI c) = some (iI (hldF w ls cell (w 2 8 - c).toNat c a), t) := by
  have hm := hW.1
  have har := aMc_r hW hm (ls := ls) (cell := cell)
  intro k
  induction k with
  | zero =>
    intro c a hc ha fu hfu
    obtain ⟨g, rfl⟩ : ∃ g, fu = g + 1 := ⟨fu - 1, by omega⟩
    simp only [F_X5_drawHolder_23]
    rw [k_6, if_pos (by rw [iI_le (by omega) (by omega)]; omega), show (w 2 8 - c).toNat = 0 by omega, hldF, k_m1]
  | succ k ih =>
    intro c a hc ha fu hfu
    obtain ⟨g, rfl⟩ : ∃ g, fu = g + 1 := ⟨fu - 1, by omega⟩
    simp only [F_X5_drawHolder_23]
    rw [k_6, if_neg (by rw [iI_le (by omega) (by omega)]; omega), h.1, k_m1, k_0, k_1]
    by_cases al : aMc w ls (w 2 8) cell ≤ 0
    · rw [if_pos (by rw [iI_le (by omega) (by omega)]; exact al)]
      have hno : ∀ c, ¬ hMc w ls (w 2 8) cell c := fun c z => by
        have := hMc_a hW hm z
        omega
      by_cases cm : (c : Int) ≤ w 2 8
      · rw [hld_no hW hno _ _ _ (by omega) (by omega)]
      · rw [show (w 2 8 - c).toNat = 0 by omega, hldF]
    · rw [if_neg (by rw [iI_le (by omega) (by omega)]; exact al), inb_g (by omega), iI_nat (by omega), Int.toNat_natCast, h.2 c (by omega)]
      have nx : ∀ b : Int, (0 ≤ b ∧ b ≤ 1000) → F_X5_drawHolder_23 g t (iI b) (iI (c + 1)) = some (iI (hldF w ls cell (w 2 8 - ((c + 1 : Nat) : Int)).toNat ((c + 1 : Nat) : Int) b), t) := fun b hb => ih (c + 1) b (by omega) hb g (by omega)
      by_cases cm : w 2 8 ≤ (c : Int)
      · rw [if_pos (by rw [bZ_i0]; exact hMc_n cm), iI_add, nx a ha, show (w 2 8 - ((c + 1 : Nat) : Int)).toNat = 0 by omega, show (w 2 8 - (c : Int)).toNat = 0 by omega, hldF, hldF]
      · have hp := part_z hW (ls := ls) hm (cell := cell) (c := (c : Int)) (by omega)
        rw [show (w 2 8 - (c : Int)).toNat = (w 2 8 - ((c + 1 : Nat) : Int)).toNat + 1 by omega, hldF]
        by_cases b : hMc w ls (w 2 8) cell c
        · have := hp.1 b
          rw [if_neg (by rw [bZ_i0]; exact fun z => z b), if_neg (show ¬ partZ w ls (w 2 8) c (w 3) cell = 0 by omega)]
          by_cases d : a = 0
          · rw [if_pos (by rw [d]), if_pos d]
          · rw [if_neg (by rw [iI_eq (by omega) (by omega)]; exact d), if_neg d, iI_add, iI_add, nx (a + -1) (by omega)]
            rfl
        · rw [if_pos (by rw [bZ_i0]; exact b), if_pos (hp.2 b), iI_add, nx a ha]
          rfl
theorem e_X5_drawHolder {t : St} {w w' : WR} {ls : List (List DC)} (hW : Wf w ls) (h : WM t w w' ls) {cell : Int} (hc : -1 ≤ cell ∧ cell ≤ 35) (hH : HoW t w ls cell) : ∃ t', F_X5_drawHolder t = some (iI (hldV w ls w' cell), t') ∧ WM t' w (hldW w ls w' cell) ls ∧ Fm Swn t t' ∧ (-1 ≤ hldV w ls w' cell ∧ hldV w ls w' cell < w 2 8) := by
  have hm := hW.1
  have har := aMc_r hW hm (ls := ls) (cell := cell)
  have hr := hldF_r (w := w) (ls := ls) (cell := cell) (w 2 8).toNat 0 (if alkZ w ls cell ≤ 1 then 0 else drV w' (alkZ w ls cell)) (by omega)
  have key : ∀ (t : St) (a : Int), HoW t w ls cell → (0 ≤ a ∧ a ≤ 1000) → F_X5_drawHolder_23 FU t (iI a) (iI 0) = some (iI (hldF w ls cell (w 2 8).toNat 0 a), t) := fun t a h ha => by
    have := e_X5_drawHolder_23 hW h 6 0 a (by omega) ha FU (FU_ge (by omega))
    rw [show (w 2 8 - ((0 : Nat) : Int)).toNat = (w 2 8).toNat by omega] at this
    exact this
  unfold F_X5_drawHolder
  rw [hH.1, k_1, k_0]
  unfold hldV at hr ⊢
  unfold hldW
  rw [alk_a hW] at hr ⊢
  by_cases a : aMc w ls (w 2 8) cell ≤ 1
  · rw [if_pos a] at hr
    rw [if_pos (by rw [iI_le (by omega) (by omega)]; exact a), if_pos a, if_pos a, key t 0 hH (by omega)]
    exact ⟨t, rfl, h, Fm.rf, hr.1, by omega⟩
  · obtain ⟨t1, e1, h1, f1⟩ := e_X5_draw h (n := aMc w ls (w 2 8) cell) (by omega)
    have d0 : 0 ≤ drV w' (aMc w ls (w 2 8) cell) := Int.emod_nonneg _ (by omega)
    have d1 : drV w' (aMc w ls (w 2 8) cell) < aMc w ls (w 2 8) cell := Int.emod_lt_of_pos _ (by omega)
    have hH1 : HoW t1 w ls cell := ⟨by rw [f1.i _ _ (by omega)]; exact hH.1, fun j hj => by rw [f1.i _ _ (by omega)]; exact hH.2 j hj⟩
    rw [if_neg a] at hr
    rw [if_neg (by rw [iI_le (by omega) (by omega)]; exact a), if_neg a, if_neg a, e1, bnd_s, key t1 _ hH1 (by omega)]
    exact ⟨t1, rfl, h1, f1.le fun _ _ z => Or.inr (Or.inr z), hr.1, by omega⟩
/-! one wedding -/
theorem WM.set {t : St} {w w' : WR} {ls : List (List DC)} (h : WM t w w' ls) {r j : Nat} {c v : Int} (hr : r = 29 ∨ r = 30) (hc : 0 ≤ c ∧ c < 6) (hj : j = mK r c) : WM (setI t 28 j (iI v)) w (wup w' r c v) ls ∧ Fm Swn t (setI t 28 j (iI v)) := by
  have f : Fm (fun a _ => a = 28) t (setI t 28 j (iI v)) := Fm.set rfl
  have hj' : j < 12 := by
    rcases hr with rfl | rfl
    · have : j = (2 * c).toNat := hj
      omega
    · have : j = (2 * c + 1).toNat := hj
      omega
  obtain ⟨h1, h2, h3, h4, h5, h6, h7⟩ := h
  have hset : M0 (setI t 28 j (iI v)) (wup w' r c v) ls := h1.set (r := r) (k := c) (by rcases hr with rfl | rfl <;> exact hc.2) hc.1 (by rcases hr with rfl | rfl <;> rfl) hj
  refine ⟨⟨hset, h2.go f fun a j z => by omega, by rw [f.i _ _ (by omega)]; exact h3, ?_, h5.up (by omega), ?_, ?_⟩, Fm.set (Or.inr (Or.inl ⟨rfl, hj'⟩))⟩
  · rw [f.l _ _ (by omega), wup_n (by omega)]; exact h4
  · rw [wup_n (by omega)]; exact h6
  · rw [wup_n (by omega)]; exact h7
theorem WM.sq {t t' : St} {w w' : WR} {ls : List (List DC)} (h : WM t w w' ls) (hF : Fm Sq t t') : WM t' w w' ls := h.hol (hF.le fun _ _ z => Or.inl z)
def wd1 (w : WR) (ls : List (List DC)) (w' : WR) (c k : Int) : Int := if wedZ w ls c k ≤ drV w' 100 then 0 else 1
theorem e_X5_wedNow {t : St} {w w' : WR} {ls : List (List DC)} (hW : Wf w ls) (h : WM t w w' ls) {c k : Int} (hc : 0 ≤ c ∧ c < 6) (hk : 0 ≤ k ∧ k ≤ 1) : ∃ t', F_X5_wedNow t (iI c) (iI k) = some (iI (wd1 w ls w' c k), t') ∧ WM t' w (oth1 w ls w' c k) ls ∧ Fm Swn t t' := by
  obtain ⟨t1, e1, h1, f1⟩ := e_X5_draw h (n := 100) (by omega)
  obtain ⟨t2, e2, f2⟩ := e_X5_wedOf h1.1 (h1.2.2.2.2.1.wf hW) (c := c) (far := k) hc (by omega)
  have h2 := h1.sq f2
  have e30 : si t2 28 (2 * c + 1).toNat = iI (drW w' 30 c) := h2.1.1 30 c hc.1 hc.2
  have hwr := wedZ_r (w := w) (ls := ls) (c := c) (k := k)
  have dr0 : 0 ≤ drV w' 100 := Int.emod_nonneg _ (by omega)
  have dr1 : drV w' 100 < 100 := Int.emod_lt_of_pos _ (by omega)
  rw [h1.2.2.2.2.1.wed] at e2
  have fin : ∀ d : Int, ∃ t', F_X5_wedNow_20 t2 (iI c) (iI d) = some (iI d, t') ∧ WM t' w (wup (drW w') 30 c (w' 30 c + d)) ls ∧ Fm Swn t t' := fun d => by
    have h3 := h2.set (r := 30) (c := c) (v := w' 30 c + d) (Or.inr rfl) hc (j := (2 * c + 1).toNat) rfl
    unfold F_X5_wedNow_20
    rw [k_2, k_1, iI_mul, iI_add, inb_g (by omega), inb_g (by omega), iI_nat (by omega), e30, drW_o (by omega), iI_add, nam_v]
    exact ⟨_, rfl, h3.1, ((f1.le fun _ _ z => Or.inr (Or.inr z)).tr (f2.le fun _ _ z => Or.inl (Or.inl z))).tr h3.2⟩
  unfold F_X5_wedNow oth1 wd1
  rw [k_100, e1, bnd_s, e2, bnd_s, k_0, k_1]
  by_cases a : wedZ w ls c k ≤ drV w' 100
  · rw [if_pos (by rw [iI_le (by omega) (by omega)]; exact a), if_pos a]
    exact fin 0
  · rw [if_neg (by rw [iI_le (by omega) (by omega)]; exact a), if_neg a]
    exact fin 1
theorem all_same {w' w'' : WR} (h : ∀ c, w'' 30 c = w' 30 c) : ∀ (n : Nat) (c z : Int), allF w'' n c z = allF w' n c z
  | 0, _, _ => rfl
  | n + 1, c, z => by
    rw [allF, allF, h, all_same h n]
theorem all_z {w' : WR} : ∀ (n : Nat) (c z : Int), allF w' n c z = allF w' n c 0 + z
  | 0, _, z => by rw [allF, allF]; omega
  | n + 1, c, z => by rw [allF, all_z n (c + 1) (z + w' 30 c), allF, all_z n (c + 1) (0 + w' 30 c)]; omega
theorem all_lo {w' : WR} {c v : Int} : ∀ (n : Nat) (i z : Int), c < i → allF (wup w' 30 c v) n i z = allF w' n i z
  | 0, _, _, _ => rfl
  | n + 1, i, z, h => by
    rw [allF, allF, wup_k (by omega), all_lo n (i + 1) _ (by omega)]
theorem all_up {w' : WR} {c v : Int} : ∀ (n : Nat) (i z : Int), i ≤ c → c < i + n → allF (wup w' 30 c v) n i z = allF w' n i z + (v - w' 30 c)
  | 0, _, _, h1, h2 => by omega
  | n + 1, i, z, h1, h2 => by
    rw [allF, allF]
    by_cases e : c = i
    · subst e
      rw [wup_s, all_lo n _ _ (by omega), all_z n _ (z + v), all_z n _ (z + w' 30 c)]
      omega
    · rw [wup_k (by omega), all_up n (i + 1) _ (by omega) (by omega)]
theorem all_oth {w w' : WR} {ls : List (List DC)} {c k m : Int} (hc : 0 ≤ c ∧ c < m) : allF (oth1 w ls w' c k) m.toNat 0 0 = allF w' m.toNat 0 0 + wd1 w ls w' c k := by
  unfold oth1 wd1
  have e : ∀ n (i z : Int), allF (drW w') n i z = allF w' n i z := fun n i z => all_same (fun c => drW_o (by omega)) n i z
  rw [all_up _ _ _ (by omega) (by omega), e, drW_o (by omega)]
  split <;> omega
theorem wd1_r {w w' : WR} {ls : List (List DC)} {c k : Int} : 0 ≤ wd1 w ls w' c k ∧ wd1 w ls w' c k ≤ 1 := by
  unfold wd1
  split <;> omega
theorem e_X5_weddings_146 {w : WR} {ls : List (List DC)} (hW : Wf w ls) {n0 k0 who : Int} (hwho : -1 ≤ who ∧ who ≤ 6) {k : St → Int32 → Int32 → Int32 → Option (Int32 × St)} : ∀ (n : Nat) (c v : Int) (t : St) (w' : WR), WM t w w' ls → 0 ≤ c → w 2 8 = n + c → v = allF w' (w 2 8).toNat 0 0 → ∀ fu, n < fu → ∃ t' v', F_X5_weddings_146 k fu t (iI n0) (iI v) (iI k0) (iI who) (iI c) = k t' (iI n0) (iI v') (iI (k0 + 1)) ∧ v' = allF (othF w ls who n c w') (w 2 8).toNat 0 0 ∧ (v ≤ v' ∧ v' ≤ v + n) ∧ WM t' w (othF w ls who n c w') ls ∧ Fm Swn t t' := by
  have hm := hW.1
  intro n
  induction n with
  | zero =>
    intro c v t w' h h0 hn hv fu hfu
    obtain ⟨g, rfl⟩ : ∃ g, fu = g + 1 := ⟨fu - 1, by omega⟩
    refine ⟨t, v, ?_, hv, by omega, h, Fm.rf⟩
    have h65 : si t 0 65 = iI (w' 0 26) := h.1.1 0 26 (by omega) (by show _ ∨ _; omega)
    rw [F_X5_weddings_146]
    show (if si t 0 65 ≤ iI c then _ else _) = _
    rw [h65, h.2.2.2.2.2.2, if_pos (by rw [iI_le (by omega) (by omega)]; omega), k_1, iI_add]
  | succ n ih =>
    intro c v t w' h h0 hn hv fu hfu
    obtain ⟨g, rfl⟩ : ∃ g, fu = g + 1 := ⟨fu - 1, by omega⟩
    have h65 : si t 0 65 = iI (w' 0 26) := h.1.1 0 26 (by omega) (by show _ ∨ _; omega)
    rw [F_X5_weddings_146, othF]
    show ∃ t' v', (if si t 0 65 ≤ iI c then _ else _) = _ ∧ _
    rw [h65, h.2.2.2.2.2.2, if_neg (by rw [iI_le (by omega) (by omega)]; omega), k_0, k_1, iI_add, iI_add]
    by_cases a : c = who
    · rw [if_pos (by rw [a]), if_pos a, show v + 0 = v by omega]
      obtain ⟨t', v', e, h1, h2, h3, h4⟩ := ih (c + 1) v t w' h (by omega) (by omega) hv g (by omega)
      exact ⟨t', v', e, h1, by omega, h3, h4⟩
    · obtain ⟨t1, e1, h1, f1⟩ := e_X5_wedNow hW h (c := c) (k := 0) (by omega) (by omega)
      have hd := wd1_r (w := w) (ls := ls) (w' := w') (c := c) (k := 0)
      rw [if_neg (by rw [iI_eq (by omega) (by omega)]; exact a), if_neg a, e1, bnd_s, iI_add]
      obtain ⟨t', v', e, h1, h2, h3, h4⟩ := ih (c + 1) (v + wd1 w ls w' c 0) t1 _ h1 (by omega) (by omega) (by rw [hv, all_oth (by omega)]) g (by omega)
      exact ⟨t', v', e, h1, by omega, h3, f1.tr h4⟩
theorem all_had {w w' : WR} {ls : List (List DC)} {c m : Int} (hc : 0 ≤ c ∧ c < m) {v : Int} : allF (oth1 w ls (wup w' 29 c v) c 1) m.toNat 0 0 = allF w' m.toNat 0 0 + wd1 w ls (wup w' 29 c v) c 1 := by
  rw [all_oth hc]
  have e : ∀ n (i z : Int), allF (wup w' 29 c v) n i z = allF w' n i z := fun n i z => all_same (fun c => wup_n (by omega)) n i z
  rw [e]
theorem all_hld {w w' : WR} {ls : List (List DC)} {cell m : Int} : allF (hldW w ls w' cell) m.toNat 0 0 = allF w' m.toNat 0 0 := by
  unfold hldW
  split
  · rfl
  · exact all_same (fun c => drW_o (by omega)) _ _ _
theorem Hol_swn {a j : Nat} (h : Hol a j) : Swn a j := Or.inl h
theorem Dw_swn {a j : Nat} (h : a = 100 ∧ j = 63) : Swn a j := Or.inr (Or.inr h)
theorem Swn_reg {a j : Nat} (h : Swn a j) : Reg a j := by
  rcases h with h | h | h
  · exact Or.inr (Hol_scr h)
  · exact Or.inl (by unfold inM; omega)
  · exact Or.inr (by unfold Scr; omega)
theorem e_X5_weddings_94 {w : WR} {ls : List (List DC)} (hW : Wf w ls) {n0 : Int} (hn0 : 1 ≤ n0 ∧ n0 ≤ 100) : ∀ (n : Nat) (k v : Int) (t : St) (w' : WR), WM t w w' ls → 0 ≤ k → n0 = n + k → v = allF w' (w 2 8).toNat 0 0 → (0 ≤ v ∧ v ≤ 7 * k) → ∀ fu, n < fu → OpM t ls (F_X5_weddings_94 fu t (iI n0) (iI v) (iI k)) (iI (allF (wdsF w ls n w') (w 2 8).toNat 0 0)) (wup (wdsF w ls n w') 0 0 0) := by
  have hm := hW.1
  intro n
  induction n with
  | zero =>
    intro k v t w' h h0 hn hv hv2 fu hfu
    obtain ⟨g, rfl⟩ : ∃ g, fu = g + 1 := ⟨fu - 1, by omega⟩
    rw [F_X5_weddings_94, wdsF]
    show OpM t ls (if iI n0 ≤ iI k then _ else _) _ _
    rw [if_pos (by rw [iI_le (by omega) (by omega)]; omega), ← hv]
    exact OpM.tell0 h.1 (by omega)
  | succ n ih =>
    intro k v t w' h h0 hn hv hv2 fu hfu
    obtain ⟨g, rfl⟩ : ∃ g, fu = g + 1 := ⟨fu - 1, by omega⟩
    obtain ⟨t1, e1, r1, h1, f1⟩ := e_X5_drawCell hW h
    rw [F_X5_weddings_94, wdsF]
    show OpM t ls (if iI n0 ≤ iI k then _ else _) _ _
    rw [if_neg (by rw [iI_le (by omega) (by omega)]; omega), e1, bnd_s]
    unfold oneW afterW hadW
    have hv1 : v = allF (drW w') (w 2 8).toNat 0 0 := by
      rw [hv]
      exact (all_same (fun c => drW_o (by omega)) _ _ _).symm
    generalize hz : slC (nowL w ls) (drV w' (sumW (nowL w ls))) = cell at r1 ⊢
    generalize drW w' = w1 at h1 hv1 ⊢
    obtain ⟨t2, e2, hH, f2⟩ := e_X5_findHolders h1.1 (h1.2.2.2.2.1.wf hW) hm h1.2.2.1 r1
    have h2 := h1.hol f2
    have hH2 : HoW t2 w ls cell := by
      refine ⟨?_, fun j hj => ?_⟩
      · have : si t2 0 49 = iI (aMc w1 ls (w 2 8) cell) := hH.1
        rw [this, h1.2.2.2.2.1.eaM]
      · have : si t2 25 j = iI (bZ (hMc w1 ls (w 2 8) cell j)) := hH.2 j hj
        rw [this, show hMc w1 ls (w 2 8) cell j = hMc w ls (w 2 8) cell j from propext h1.2.2.2.2.1.ehM]
    obtain ⟨t3, e3, h3, f3, r3⟩ := e_X5_drawHolder hW h2 r1 hH2
    rw [e2, bnd_s, e3, bnd_s, k_m1, k_0, k_1, k_2]
    have hv3 : v = allF (hldW w ls w1 cell) (w 2 8).toNat 0 0 := by rw [all_hld]; exact hv1
    have F13 : Fm Reg t t3 := ((f1.le fun _ _ z => Swn_reg (Dw_swn z)).tr (f2.le fun _ _ z => Swn_reg (Hol_swn z))).tr (f3.le fun _ _ z => Swn_reg z)
    generalize hldV w ls w1 cell = who at r3 ⊢
    generalize hldW w ls w1 cell = w3 at h3 hv3 ⊢
    by_cases c : who = -1
    · rw [if_pos (by rw [c]), if_pos c]
      obtain ⟨t4, v4, e4, q4, b4, h4, f4⟩ := e_X5_weddings_146 hW (n0 := n0) (k0 := k) (who := who) (by omega) (k := F_X5_weddings_94 g) (w 2 8).toNat 0 v t3 w3 h3 (by omega) (by omega) hv3 FU (FU_ge (by omega))
      rw [e4]
      exact ((ih (k + 1) v4 t4 _ h4 (by omega) (by omega) q4 (by omega) g (by omega)).after (f4.le fun _ _ z => Swn_reg z)).after F13
    · have e29 : si t3 28 (2 * who).toNat = iI (w3 29 who) := h3.1.1 29 who (by omega) (by show _ < _; omega)
      have h4 := h3.set (r := 29) (c := who) (v := w3 29 who + 1) (Or.inl rfl) (by omega) (j := (2 * who).toNat) rfl
      obtain ⟨t5, e5, h5, f5⟩ := e_X5_wedNow hW h4.1 (c := who) (k := 1) (by omega) (by omega)
      have hd := wd1_r (w := w) (ls := ls) (w' := wup w3 29 who (w3 29 who + 1)) (c := who) (k := 1)
      obtain ⟨t6, v6, e6, q6, b6, h6, f6⟩ := e_X5_weddings_146 hW (n0 := n0) (k0 := k) (who := who) (by omega) (k := F_X5_weddings_94 g) (w 2 8).toNat 0 (v + wd1 w ls (wup w3 29 who (w3 29 who + 1)) who 1) t5 _ h5 (by omega) (by omega) (by rw [hv3, all_had (by omega)]) FU (FU_ge (by omega))
      rw [if_neg (by rw [iI_eq (by omega) (by omega)]; exact c), if_neg c, iI_mul, inb_g (by omega), inb_g (by omega), iI_nat (by omega), e29, iI_add, nam_v, e5, bnd_s, iI_add, e6]
      exact (((ih (k + 1) v6 t6 _ h6 (by omega) (by omega) q6 (by omega) g (by omega)).after (f6.le fun _ _ z => Swn_reg z)).after ((h4.2.tr f5).le fun _ _ z => Swn_reg z)).after F13
theorem clr_0 {w' : WR} : ∀ (n : Nat) (c : Int), (∀ i, 0 ≤ i → i < c → w' 30 i = 0) → 0 ≤ c → ∀ i, 0 ≤ i → i < c + n → clrF n c w' 30 i = 0
  | 0, _, h, _, i, h0, h1 => h i h0 (by omega)
  | n + 1, c, h, hc, i, h0, h1 => by
    rw [clrF]
    refine clr_0 n (c + 1) (fun i i0 i1 => ?_) (by omega) i h0 (by omega)
    by_cases e : c = i
    · rw [e, wup_s]
    · rw [wup_k (by omega), wup_n (by omega)]
      exact h i i0 (by omega)
theorem all_0 {w' : WR} {m : Int} (h : ∀ i, 0 ≤ i → i < m → w' 30 i = 0) : ∀ (n : Nat) (c z : Int), 0 ≤ c → m = n + c → allF w' n c z = z
  | 0, _, _, _, _ => rfl
  | n + 1, c, z, h0, hm => by
    rw [allF, h c h0 (by omega), all_0 h n (c + 1) _ (by omega) (by omega)]
    omega
theorem clr_k {w w' : WR} (h : Eq9 w w') : ∀ (n : Nat) (c : Int), Eq9 w (clrF n c w')
  | 0, _ => h
  | n + 1, c => by
    rw [clrF]
    exact clr_k ((h.up (by omega)).up (by omega)) n (c + 1)
theorem clr_27 {w' : WR} {k : Int} : ∀ (n : Nat) (c : Int), clrF n c w' 0 k = w' 0 k
  | 0, _ => rfl
  | n + 1, c => by
    rw [clrF, clr_27 n (c + 1), wup_n (by omega), wup_n (by omega)]
theorem Eq9.now {w w' : WR} {ls : List (List DC)} (h : Eq9 w w') : nowL w' ls = nowL w ls := by
  have e8 : w' 8 = w 8 := funext fun k => h 8 k (by decide) (by decide)
  have e2 : w' 2 = w 2 := funext fun k => h 2 k (by decide) (by decide)
  have eS : ∀ f sd dx dy, slipZ w' ls f sd dx dy = slipZ w ls f sd dx dy := fun f sd dx dy => by
    unfold slipZ slipO vSlip
    rw [h.says, e8, e2]
  have eE : ∀ f sd, slE w' ls f sd = slE w ls f sd := fun f sd => funext fun a => funext fun b => by
    unfold slE
    rw [eS, e8]
  have eN : ∀ f sd, nineL w' ls f sd = nineL w ls f sd := fun f sd => by
    unfold nineL
    rw [eE]
  have eF : ∀ f sd n k, litF w' f sd n k = litF w f sd n k := fun f sd n => by
    induction n with
    | zero => intro k; rfl
    | succ n ih => intro k; rw [litF, litF, ih, e8]
  have eP : ∀ f sd, litP w' f sd = litP w f sd := fun f sd => by
    unfold litP
    rw [eF, e8]
  unfold nowL laysL
  rw [eP, eN, e8]
theorem e_X5_weddings_66 {w : WR} {ls : List (List DC)} (hW : Wf w ls) {n0 : Int} (hn0 : 1 ≤ n0 ∧ n0 ≤ 100) : ∀ (n : Nat) (c : Int) (t : St) (w' : WR), M0 t w' ls → si t 0 50 = iI (w 2 8) → sl t 0 63 = lI (w' 0 27) → Eq9 w w' → (0 ≤ w' 0 27 ∧ w' 0 27 ≤ 1000003) → w' 0 26 = w 2 8 → 0 ≤ c → 6 = n + c → (∀ i, 0 ≤ i → i < c → w' 30 i = 0) → ∀ fu, 2 * n < fu → OpM t ls (F_X5_weddings_66 fu t (iI n0) (iI (2 * c))) (iI (allF (wdsF w ls n0.toNat (clrF n c w')) (w 2 8).toNat 0 0)) (wup (wdsF w ls n0.toNat (clrF n c w')) 0 0 0) := by
  have hm := hW.1
  intro n
  induction n with
  | zero =>
    intro c t w' h h50 h63 h9 h27 h26 h0 hn hz fu hfu
    obtain ⟨g, rfl⟩ : ∃ g, fu = g + 1 := ⟨fu - 1, by omega⟩
    obtain ⟨t1, e1, hL, f1⟩ := e_X5_aimNow h (h9.wf hW)
    have hl := h9.wf hW
    rw [h9.now] at hL
    have hF : Fm Scr t t1 := f1.le fun _ _ => Sam_scr
    have hwm : WM t1 w w' ls := ⟨h.scr hF, hL, by rw [f1.i _ _ (by unfold Sam Sq Stl Sso; omega)]; exact h50, by rw [f1.l _ _ (by unfold Sam Sq Stl Sso; omega)]; exact h63, h9, h27, h26⟩
    rw [F_X5_weddings_66, clrF]
    show OpM t ls (if (12 : Int32) ≤ iI (2 * c) then _ else _) _ _
    rw [k_12, if_pos (by rw [iI_le (by omega) (by omega)]; omega), e1, bnd_s, k_0]
    exact (e_X5_weddings_94 hW hn0 n0.toNat 0 0 t1 w' hwm (by omega) (by omega) (all_0 (m := w 2 8) (fun i i0 i1 => hz i i0 (by omega)) _ _ _ (by omega) (by omega)).symm (by omega) FU (FU_ge (by omega))).after (hF.le fun _ _ => Or.inr)
  | succ n ih =>
    intro c t w' h h50 h63 h9 h27 h26 h0 hn hz fu hfu
    obtain ⟨g, rfl⟩ : ∃ g, fu = g + 2 := ⟨fu - 2, by omega⟩
    have f1 : ∀ t j v, Fm (fun a _ => a = 28) t (setI t 28 j v) := fun t j v => Fm.set rfl
    have h1 := h.set (r := 29) (k := c) (v := 0) (a := 28) (j := (2 * c).toNat) (by show _ < _; omega) h0 rfl rfl
    have h2 := h1.set (r := 30) (k := c) (v := 0) (a := 28) (j := (2 * c + 1).toNat) (by show _ < _; omega) h0 rfl rfl
    have F2 := (f1 t (2 * c).toNat (iI 0)).tr (f1 (setI t 28 (2 * c).toNat (iI 0)) (2 * c + 1).toNat (iI 0))
    have R2 : Fm Reg t (setI (setI t 28 (2 * c).toNat (iI 0)) 28 (2 * c + 1).toNat (iI 0)) := (Fm.reg (r := 29) (k := c) (by show _ < _; omega) h0 rfl rfl).tr (Fm.reg (r := 30) (k := c) (by show _ < _; omega) h0 rfl rfl)
    rw [F_X5_weddings_66, clrF]
    show OpM t ls (if (12 : Int32) ≤ iI (2 * c) then _ else _) _ _
    rw [k_12, if_neg (by rw [iI_le (by omega) (by omega)]; omega), inb_g (by omega), iI_nat (by omega), k_0, nam_v, k_1, iI_add, F_X5_weddings_66]
    show OpM t ls (if (12 : Int32) ≤ iI (2 * c + 1) then _ else _) _ _
    rw [k_12, if_neg (by rw [iI_le (by omega) (by omega)]; omega), inb_g (by omega), iI_nat (by omega), k_0, nam_v, k_1, iI_add, show 2 * c + 1 + 1 = 2 * (c + 1) by omega]
    refine (ih (c + 1) _ _ h2 (by rw [F2.i _ _ (by omega)]; exact h50) (by rw [F2.l _ _ (by omega), wup_n (by omega), wup_n (by omega)]; exact h63) ((h9.up (by omega)).up (by omega)) (by rw [wup_n (by omega), wup_n (by omega)]; exact h27) (by rw [wup_n (by omega), wup_n (by omega)]; exact h26) (by omega) (by omega) (fun i i0 i1 => ?_) g (by omega)).after R2
    by_cases e : c = i
    · rw [e, wup_s]
    · rw [wup_k (by omega), wup_n (by omega)]
      exact hz i i0 (by omega)
/-- a call that may set the field 66 -/
def OpD (t : St) (ls : List (List DC)) (x : Option (Int32 × St)) (r : Int) (w' : WR) : Prop := ∃ t', x = some (iI r, t') ∧ M0 t' w' ls ∧ Fm (fun a j => Reg a j ∨ (a = 0 ∧ j = 66)) t t' ∧ DrM t' w'
theorem wup_k2 {w : WR} {r r' : Nat} {k k' v : Int} (h : ¬ (r' = r ∧ k' = k)) : wup w r k v r' k' = w r' k' := if_neg h
theorem m_weddings {t : St} {w : WR} {ls : List (List DC)} (hM : M0 t w ls) (hW : Wf w ls) (hD : DrM t w) {seed n : Int} (h1 : i32 seed) (h2 : i32 n) : OpD t ls (F_X5_weddings t (iI seed) (iI n)) (weddingsV w ls seed n) (weddingsW w ls seed n) := by
  have hm := hW.1
  unfold i32 at h1 h2
  have bad : ∀ t, M0 t w ls → DrM t w → OpD t ls (F_X5_weddings_29 t) (-1) (refW w (-1)) := fun t hM hD => by
    unfold F_X5_weddings_29
    rw [k_m1]
    obtain ⟨t', e, hM', hF⟩ := OpM.tellN hM (v := -1) (by omega)
    refine ⟨t', e, hM', hF.le fun _ _ => Or.inl, ?_⟩
    have e1 : refW w (-1) 0 26 = w 0 26 := by
      unfold refW
      rw [wup_n (by omega), wup_k (by omega)]
    unfold DrM at hD ⊢
    rw [e1, hF.i _ _ (by unfold Reg inM Scr; omega)]
    exact hD
  have aft : ∀ {t t1 : St} {x : Option (Int32 × St)} {r : Int} {w' : WR}, Fm (fun a j => Reg a j ∨ (a = 0 ∧ j = 66)) t t1 → OpD t1 ls x r w' → OpD t ls x r w' := fun h ⟨t', e, h1, h2, h3⟩ => ⟨t', e, h1, h.tr h2, h3⟩
  have hD' : DrM (setI t 0 0 (0 : Int32)) w := by
    unfold DrM at hD ⊢
    rw [si_set, if_pos rfl, if_neg (by omega)]
    exact hD
  unfold F_X5_weddings weddingsV weddingsW
  rw [nam_v]
  refine aft (hM.thrown.2.le fun _ _ => Or.inl) ?_
  have hM1 := hM.thrown.1
  generalize setI t 0 0 (0 : Int32) = t1 at hM1 hD' ⊢
  rw [K_0, K_1, K_1000000, K_100, iI_l (by omega), iI_l (by omega), k_0, e_X5_in t1 (by omega) (by omega) (by omega), bnd_s]
  by_cases a1 : 0 ≤ seed ∧ seed ≤ 1000000
  · rw [if_neg (by rw [bZ_i0]; exact fun z => z a1), e_X5_in t1 (by omega) (by omega) (by omega), bnd_s]
    by_cases a2 : 1 ≤ n ∧ n ≤ 100
    · have f1 : Fm (fun a j => Reg a j ∨ (a = 0 ∧ j = 66)) t1 (setI (setL t1 0 63 (lI seed)) 0 66 (1 : Int32)) := Fm.tr (Fm.setL (Or.inl (Or.inr (by unfold Scr; omega)))) (Fm.set (Or.inr ⟨rfl, rfl⟩))
      have c1 : M0 (setI (setL t1 0 63 (lI seed)) 0 66 (1 : Int32)) w ls := by
        obtain ⟨q1, q2, q3, q4⟩ := hM1.scr (t' := setL t1 0 63 (lI seed)) (Fm.setL (by unfold Scr; omega))
        have f : Fm (fun a j => a = 0 ∧ j = 66) (setL t1 0 63 (lI seed)) (setI (setL t1 0 63 (lI seed)) 0 66 (1 : Int32)) := Fm.set ⟨rfl, rfl⟩
        exact ⟨q1.go f fun a j h => by unfold inM at h; omega, by rw [f.i _ _ (by omega)]; exact q2, by rw [f.i _ _ (by omega)]; exact q3, fun i law e => (q4 i law e).go fun j _ _ => f.i _ _ (by omega)⟩
      have c2 := c1.set (r := 0) (k := 26) (v := w 2 8) (a := 0) (j := 65) (by show _ ∨ _; omega) (by omega) rfl rfl
      have f2 : Fm Scr (setI (setI (setL t1 0 63 (lI seed)) 0 66 (1 : Int32)) 0 65 (iI (w 2 8))) (setI (setI (setI (setL t1 0 63 (lI seed)) 0 66 (1 : Int32)) 0 65 (iI (w 2 8))) 0 50 (iI (w 2 8))) := Fm.set (by unfold Scr; omega)
      have c3 : M0 (setI (setI (setI (setL t1 0 63 (lI seed)) 0 66 (1 : Int32)) 0 65 (iI (w 2 8))) 0 50 (iI (w 2 8))) (wup (wup w 0 27 seed) 0 26 (w 2 8)) ls := by
        refine (c2.scr f2).w fun r k h0 hr => ?_
        by_cases e : r = 0 ∧ k = 26
        · rw [e.1, e.2, wup_s, wup_s]
        · rw [wup_k2 (by omega), wup_k2 (w := w), wup_k2 (by omega)]
          rintro ⟨rfl, rfl⟩
          have hr' : (27 : Int) = 0 ∨ (11 ≤ (27 : Int) ∧ (27 : Int) ≤ 15) ∨ (27 : Int) = 26 := hr
          omega
      have F : Fm (fun a j => Reg a j ∨ (a = 0 ∧ j = 66)) t1 (setI (setI (setI (setL t1 0 63 (lI seed)) 0 66 (1 : Int32)) 0 65 (iI (w 2 8))) 0 50 (iI (w 2 8))) := (f1.tr (Fm.set (Or.inl (Or.inl (by unfold inM; omega))))).tr (f2.le fun _ _ z => Or.inl (Or.inr z))
      rw [if_neg (by rw [bZ_i0]; exact fun z => z a2), if_pos (And.intro a1 a2), if_pos (And.intro a1 a2), nam_v, nam_v, inb_g (by omega), show si (setI (setL t1 0 63 (lI seed)) 0 66 (1 : Int32)) 2 (iI 0).toNatClampNeg = iI (w 2 8) from c1.1.many, nam_v, show si (setI (setI (setL t1 0 63 (lI seed)) 0 66 (1 : Int32)) 0 65 (iI (w 2 8))) 0 65 = iI (w 2 8) from c2.1 0 26 (by omega) (by show _ ∨ _; omega), nam_v]
      obtain ⟨t', e, hM', hF'⟩ := e_X5_weddings_66 hW a2 6 0 _ _ c3 (by rw [si_set, if_pos rfl, if_pos rfl]) (by rw [wup_k (by omega), wup_s]; rfl) ((Eq9.rf.up (by omega)).up (by omega)) (by rw [wup_k (by omega), wup_s]; omega) (by rw [wup_s]) (by omega) (by omega) (fun i i0 i1 => by omega) FU (FU_ge (by omega))
      refine ⟨t', e, hM', F.tr (hF'.le fun _ _ => Or.inl), Or.inl ?_⟩
      rw [hF'.i _ _ (by unfold Reg inM Scr; omega)]
      rfl
    · rw [if_pos (by rw [bZ_i0]; exact a2), if_neg (fun z => a2 z.2), if_neg (fun z => a2 z.2)]
      exact bad t1 hM1 hD'
  · rw [if_pos (by rw [bZ_i0]; exact a1), if_neg (fun z => a1 z.1), if_neg (fun z => a1 z.1)]
    exact bad t1 hM1 hD'
