set_option maxRecDepth 100000
/-! ===== the model: who has it in a cell ===== -/
def stepB (g c : Int) (q : Int × Int × Int) : Int × Int × Int := if g = -1 ∨ g < q.1 then q else if q.1 < g then (g, 1, c) else (g, q.2.1 + 1, q.2.2)
theorem bestF_su {w : WR} {ls : List (List DC)} {f : Int → Int} {cell : Int} {k : Nat} {c : Int} {q : Int × Int × Int} : bestF w ls f cell (k + 1) c q = bestF w ls f cell k (c + 1) (stepB (gripsZ w ls c (f c) cell) c q) := rfl
/-- what is told of the hardest so far -/
def BInv (G : Int → Int) (c : Int) (q : Int × Int × Int) : Prop := (q.1 = -1 ∧ q.2.1 = 0 ∧ ∀ c', 0 ≤ c' → c' < c → G c' = -1) ∨ ((0 ≤ q.1 ∧ q.1 ≤ 99) ∧ (1 ≤ q.2.1 ∧ q.2.1 ≤ c) ∧ (0 ≤ q.2.2 ∧ q.2.2 < c) ∧ G q.2.2 = q.1 ∧ (∀ c', 0 ≤ c' → c' < c → G c' ≤ q.1) ∧ (∀ c', 0 ≤ c' → c' < q.2.2 → G c' < q.1) ∧ (q.2.1 = 1 → ∀ c', 0 ≤ c' → c' < c → G c' = q.1 → c' = q.2.2))
theorem BInv.step {G : Int → Int} {c : Int} {q : Int × Int × Int} (h : BInv G c q) (hc : 0 ≤ c) (hg : -1 ≤ G c ∧ G c ≤ 99) : BInv G (c + 1) (stepB (G c) c q) := by
  unfold stepB
  rcases h with ⟨h1, h2, h3⟩ | ⟨h1, h2, h3, h4, h5, h6, h7⟩
  · by_cases a : G c = -1
    · rw [if_pos (Or.inl a)]
      refine Or.inl ⟨h1, h2, fun c' k0 k1 => ?_⟩
      by_cases e : c' = c
      · subst e; exact a
      · exact h3 c' k0 (by omega)
    · rw [if_neg (by omega), if_pos (by omega)]
      refine Or.inr ⟨by show 0 ≤ G c ∧ G c ≤ 99; omega, by show (1 : Int) ≤ 1 ∧ (1 : Int) ≤ c + 1; omega, by show 0 ≤ c ∧ c < c + 1; omega, rfl, fun c' k0 k1 => ?_, fun c' k0 k1 => ?_, fun _ c' k0 k1 k2 => ?_⟩
      · show G c' ≤ G c
        by_cases e : c' = c
        · subst e; omega
        · rw [h3 c' k0 (by omega)]; omega
      · show G c' < G c
        rw [h3 c' k0 k1]; omega
      · show c' = c
        by_cases e : c' = c
        · exact e
        · have := h3 c' k0 (by omega)
          change G c' = G c at k2
          omega
  · by_cases a : G c = -1 ∨ G c < q.1
    · rw [if_pos a]
      refine Or.inr ⟨h1, by omega, by omega, h4, fun c' k0 k1 => ?_, h6, fun k c' k0 k1 k2 => ?_⟩
      · by_cases e : c' = c
        · subst e; omega
        · exact h5 c' k0 (by omega)
      · by_cases e : c' = c
        · subst e; omega
        · exact h7 k c' k0 (by omega) k2
    · rw [if_neg a]
      by_cases b : q.1 < G c
      · rw [if_pos b]
        refine Or.inr ⟨by show 0 ≤ G c ∧ G c ≤ 99; omega, by show (1 : Int) ≤ 1 ∧ (1 : Int) ≤ c + 1; omega, by show 0 ≤ c ∧ c < c + 1; omega, rfl, fun c' k0 k1 => ?_, fun c' k0 k1 => ?_, fun _ c' k0 k1 k2 => ?_⟩
        · show G c' ≤ G c
          by_cases e : c' = c
          · subst e; omega
          · have := h5 c' k0 (by omega); omega
        · show G c' < G c
          have := h5 c' k0 k1; omega
        · show c' = c
          by_cases e : c' = c
          · exact e
          · have := h5 c' k0 (by omega)
            change G c' = G c at k2
            omega
      · rw [if_neg b]
        have e : G c = q.1 := by omega
        refine Or.inr ⟨by show 0 ≤ G c ∧ G c ≤ 99; omega, by show 1 ≤ q.2.1 + 1 ∧ q.2.1 + 1 ≤ c + 1; omega, by show 0 ≤ q.2.2 ∧ q.2.2 < c + 1; omega, by show G q.2.2 = G c; omega, fun c' k0 k1 => ?_, fun c' k0 k1 => ?_, fun k c' k0 k1 k2 => ?_⟩
        · show G c' ≤ G c
          by_cases e2 : c' = c
          · subst e2; omega
          · have := h5 c' k0 (by omega); omega
        · show G c' < G c
          have := h6 c' k0 k1; omega
        · change q.2.1 + 1 = 1 at k
          omega
def Hol (a j : Nat) : Prop := Sq a j ∨ a = 25 ∨ (a = 0 ∧ j = 49)
theorem Hol_scr {a j : Nat} (h : Hol a j) : Scr a j := by
  rcases h with h | h
  · exact Sq_scr h
  · unfold Scr; omega
/-- the holders so far, as they lie -/
def HInv (t : St) (G : Int → Int) (c : Int) (q : Int × Int × Int) : Prop := si t 0 49 = iI q.2.1 ∧ ∀ j : Nat, j < 6 → si t 25 j = iI (bZ ((j : Int) < c ∧ G j = q.1 ∧ q.1 ≠ -1))
theorem vb {p : Prop} : vp_nar .boolean (iI (bZ p)) = iI (bZ p) := by
  rcases bZ_01 p with h | h <;> rw [h] <;> rfl
theorem vb0 : vp_nar .boolean (0 : Int32) = iI 0 := by rfl
theorem vb1 : vp_nar .boolean (1 : Int32) = iI 1 := by rfl
/-- the others are cleared when one grips harder -/
theorem e_X5_findHolders_88 {k30 : St → Int32 → Int32 → Int32 → Option (Unit × St)} {x1 : Int32} {m g : Int} {c : Nat} (hc : c < 6) (hg : 0 ≤ g ∧ g ≤ 99) (hm : -1 ≤ m ∧ m ≤ 99) : ∀ (n o : Nat) (t : St), c = n + o → ∀ fu, n < fu → ∃ t', F_X5_findHolders_88 k30 fu t x1 (iI m) (iI c) (iI g) (iI o) = F_X5_findHolders_114 k30 t' x1 (iI m) (iI c) (iI g) ∧ Fm (fun a _ => a = 25) t t' ∧ ∀ j : Nat, j < 6 → si t' 25 j = if m < g ∧ o ≤ j ∧ j < c then iI 0 else si t 25 j := by
  intro n
  induction n with
  | zero =>
    intro o t ho fu hfu
    obtain ⟨q, rfl⟩ : ∃ q, fu = q + 1 := ⟨fu - 1, by omega⟩
    simp only [F_X5_findHolders_88]
    rw [if_pos (by rw [iI_le (by omega) (by omega)]; omega)]
    exact ⟨t, rfl, Fm.rf, fun j hj => by rw [if_neg (by omega)]⟩
  | succ n ih =>
    intro o t ho fu hfu
    obtain ⟨q, rfl⟩ : ∃ q, fu = q + 1 := ⟨fu - 1, by omega⟩
    simp only [F_X5_findHolders_88]
    rw [if_neg (by rw [iI_le (by omega) (by omega)]; omega)]
    by_cases h : g ≤ m
    · rw [if_pos (by rw [iI_le (by omega) (by omega)]; exact h)]
      exact ⟨t, rfl, Fm.rf, fun j hj => by rw [if_neg (by omega)]⟩
    · rw [if_neg (by rw [iI_le (by omega) (by omega)]; exact h), inb_g (by omega), nam_v, iI_nat (by omega), Int.toNat_natCast, vb0, iI_su]
      obtain ⟨t', e, hF, hv⟩ := ih (o + 1) (setI t 25 o (iI 0)) (by omega) q (by omega)
      refine ⟨t', e, (Fm.set (S := fun a _ => a = 25) rfl).tr hF, fun j hj => ?_⟩
      rw [hv j hj, si_set, if_pos rfl]
      by_cases a : j = o
      · rw [if_neg (by omega), if_pos a, if_pos (by omega)]
      · by_cases b : m < g ∧ o + 1 ≤ j ∧ j < c
        · rw [if_pos b, if_pos (by omega)]
        · rw [if_neg b, if_neg a, if_neg (by omega)]
theorem e_X5_findHolders_114 {k30 : St → Int32 → Int32 → Int32 → Option (Unit × St)} {t : St} {x1 : Int32} {G : Int → Int} {c : Nat} {q : Int × Int × Int} (hc : c < 6) (hg : 0 ≤ G c ∧ G c ≤ 99) (hB : BInv G c q) (hI : si t 0 49 = iI q.2.1 ∧ ∀ j : Nat, j < 6 → si t 25 j = if q.1 < G c ∧ 0 ≤ j ∧ j < c then iI 0 else iI (bZ ((j : Int) < c ∧ G j = q.1 ∧ q.1 ≠ -1))) : ∃ t', F_X5_findHolders_114 k30 t x1 (iI q.1) (iI c) (iI (G c)) = k30 t' x1 (iI (stepB (G c) c q).1) (iI (c + 1 : Nat)) ∧ HInv t' G (c + 1) (stepB (G c) c q) ∧ Fm Hol t t' := by
  have hq : (-1 ≤ q.1 ∧ q.1 ≤ 99) ∧ (0 ≤ q.2.1 ∧ q.2.1 ≤ 6) := by rcases hB with h | h <;> omega
  have hq1 : q.1 = -1 ∨ 0 ≤ q.1 := by omega
  have two : ∀ (a b : Int), (b = 0 ∨ b = 1) → (b = 0 ↔ G c < q.1) → a = (stepB (G c) c q).2.1 → ∃ t', F_X5_findHolders_163 k30 (setI t 0 49 (iI a)) x1 (iI q.1) (iI c) (iI (G c)) (iI b) (iI c) = k30 t' x1 (iI (stepB (G c) c q).1) (iI (c + 1 : Nat)) ∧ HInv t' G (c + 1) (stepB (G c) c q) ∧ Fm Hol t t' := by
    intro a b hb hb2 ha
    unfold F_X5_findHolders_163
    rw [inb_g (by omega), nam_v, iI_nat (by omega), Int.toNat_natCast, show vp_nar .boolean (iI b) = iI b by rcases hb with rfl | rfl <;> rfl, iI_su]
    have fin : ∀ m, m = (stepB (G c) c q).1 → ∃ t', k30 (setI (setI t 0 49 (iI a)) 25 c (iI b)) x1 (iI m) (iI (c + 1 : Nat)) = k30 t' x1 (iI (stepB (G c) c q).1) (iI (c + 1 : Nat)) ∧ HInv t' G (c + 1) (stepB (G c) c q) ∧ Fm Hol t t' := by
      intro m hm
      refine ⟨_, by rw [hm], ⟨?_, fun j hj => ?_⟩, (Fm.set (by unfold Hol; omega)).tr (Fm.set (by unfold Hol; omega))⟩
      · rw [si_set, if_neg (by omega), si_set, if_pos rfl, if_pos rfl, ha]
      · rw [si_set, if_pos rfl]
        by_cases e : j = c
        · rw [if_pos e]
          subst e
          rcases hb with rfl | rfl
          · rw [bZ_f]
            have h9 := hb2.mp rfl
            unfold stepB
            rw [if_pos (Or.inr h9)]
            omega
          · rw [bZ_t]
            have h9 : ¬ G j < q.1 := fun z => by have := hb2.mpr z; omega
            unfold stepB
            rw [if_neg (by omega)]
            split
            · exact ⟨by omega, rfl, by show G j ≠ -1; omega⟩
            · exact ⟨by omega, rfl, by show G j ≠ -1; omega⟩
        · rw [if_neg e, si_set, if_neg (by omega), hI.2 j hj]
          by_cases h9 : q.1 < G c
          · have hs : stepB (G c) c q = (G c, 1, (c : Int)) := by
              unfold stepB
              rw [if_neg (by omega), if_pos h9]
            rw [hs]
            by_cases h8 : j < c
            · rw [if_pos (by omega), bZ_f]
              rintro ⟨-, z1, z2⟩
              change G j = G c at z1
              have : G j ≤ q.1 := by
                rcases hB with h | h
                · rw [h.2.2 j (by omega) (by omega)]; omega
                · exact h.2.2.2.2.1 j (by omega) (by omega)
              omega
            · rw [if_neg (by omega), bZ_f (by omega), bZ_f (by omega)]
          · rw [if_neg (by omega)]
            have hs : (stepB (G c) c q).1 = q.1 := by
              unfold stepB
              by_cases h7 : G c = -1 ∨ G c < q.1
              · rw [if_pos h7]
              · rw [if_neg h7, if_neg h9]
                show G c = q.1
                omega
            rw [hs]
            congr 2
            exact propext (by omega)
    by_cases h : G c ≤ q.1
    · rw [if_pos (by rw [iI_le (by omega) (by omega)]; exact h)]
      refine fin q.1 ?_
      unfold stepB
      by_cases h7 : G c = -1 ∨ G c < q.1
      · rw [if_pos h7]
      · rw [if_neg h7, if_neg (by omega)]
        show q.1 = G c
        omega
    · rw [if_neg (by rw [iI_le (by omega) (by omega)]; exact h)]
      refine fin (G c) ?_
      unfold stepB
      rw [if_neg (by omega), if_pos (by omega)]
  unfold F_X5_findHolders_114 F_X5_findHolders_144
  simp (disch := omega) only [k_0, k_1, nam_v, iI_le, iI_lt, iI_eq]
  rw [hI.1, iI_add]
  by_cases h : G c ≤ q.1
  · rw [if_pos h]
    by_cases h2 : G c = q.1
    · rw [if_pos h2, if_neg (by omega)]
      refine two _ 1 (Or.inr rfl) (by omega) ?_
      unfold stepB
      rw [if_neg (by omega), if_neg (by omega)]
    · rw [if_neg h2, if_pos (by omega)]
      refine two _ 0 (Or.inl rfl) (by omega) ?_
      unfold stepB
      rw [if_pos (by omega)]
  · rw [if_neg h, if_neg (by omega)]
    refine two _ 1 (Or.inr rfl) (by omega) ?_
    unfold stepB
    rw [if_neg (by omega), if_pos (by omega)]
theorem gripsZ_b {w : WR} {ls : List (List DC)} (hW : Wf w ls) {c a b : Int} (hc : 0 ≤ c ∧ c < 6) : -1 ≤ gripsZ w ls c a b ∧ gripsZ w ls c a b ≤ 99 := by
  have := gripZ_r hW (f := farZ a b) hc
  unfold gripsZ
  split <;> omega
theorem BInv.q {G : Int → Int} {c : Int} {q : Int × Int × Int} (h : BInv G c q) (hc : c ≤ 6) : (-1 ≤ q.1 ∧ q.1 ≤ 99) ∧ (0 ≤ q.2.1 ∧ q.2.1 ≤ 6) := by rcases h with h | h <;> omega
theorem HInv.go {S : Nat → Nat → Prop} {t t' : St} {G : Int → Int} {c : Int} {q : Int × Int × Int} (h : HInv t G c q) (hF : Fm S t t') (hS : ∀ a j, S a j → a ≠ 25 ∧ ¬ (a = 0 ∧ j = 49)) : HInv t' G c q :=
  ⟨by rw [hF.i _ _ (fun z => (hS _ _ z).2 ⟨rfl, rfl⟩)]; exact h.1, fun j hj => by rw [hF.i _ _ (fun z => (hS _ _ z).1 rfl)]; exact h.2 j hj⟩
theorem Sq_nh {a j : Nat} (h : Sq a j) : a ≠ 25 ∧ ¬ (a = 0 ∧ j = 49) := by unfold Sq Stl Sso at h; omega
theorem e_X5_findHolders_30 {u : WR} {ls : List (List DC)} (hW : Wf u ls) {n : Int} (hn : 0 ≤ n ∧ n ≤ 6) {cell : Int} (hcell : 0 ≤ cell ∧ cell ≤ 35) : ∀ (k c : Nat) (q : Int × Int × Int) (t : St), n = k + c → M0 t u ls → si t 0 50 = iI n → BInv (fun c => gripsZ u ls c (u 3 c) cell) c q → HInv t (fun c => gripsZ u ls c (u 3 c) cell) c q → ∀ fu, k < fu → ∃ t', F_X5_findHolders_30 fu t (iI cell) (iI q.1) (iI c) = F_X5_findHolders_183 t' ∧ BInv (fun c => gripsZ u ls c (u 3 c) cell) n (bestF u ls (u 3) cell k c q) ∧ HInv t' (fun c => gripsZ u ls c (u 3 c) cell) n (bestF u ls (u 3) cell k c q) ∧ Fm Hol t t' := by
  intro k
  induction k with
  | zero =>
    intro c q t hk hM h50 hB hI fu hfu
    obtain ⟨g, rfl⟩ : ∃ g, fu = g + 1 := ⟨fu - 1, by omega⟩
    have hcn : (c : Int) = n := by omega
    rw [hcn] at hB hI
    simp only [F_X5_findHolders_30]
    rw [h50, if_pos (by rw [iI_le (by omega) (by omega)]; omega)]
    exact ⟨t, rfl, hB, hI, Fm.rf⟩
  | succ k ih =>
    intro c q t hk hM h50 hB hI fu hfu
    obtain ⟨g, rfl⟩ : ∃ g, fu = g + 1 := ⟨fu - 1, by omega⟩
    have hcat := hW.cat (c := (c : Int)) (by omega) (by omega)
    have hfar := farZ_r hcat.1 hcell
    have hqr := hB.q (by omega)
    have hg := gripsZ_b hW (ls := ls) (c := (c : Int)) (a := u 3 c) (b := cell) (by omega)
    have hB2 := hB.step (by omega) hg
    rw [show ((c : Int) + 1) = ((c + 1 : Nat) : Int) by omega] at hB2
    simp only [F_X5_findHolders_30]
    rw [h50, if_neg (by rw [iI_le (by omega) (by omega)]; omega), if_neg (by rw [k_36, iI_eq (by omega) (by omega)]; omega), k_3, k_1, k_0, of3 hM.1 (by omega), bnd_s, e_X5_farOf t hcat.1 hcell, bnd_s, of1 hM.1 (by omega), bnd_s]
    rw [show iI (c : Int) + iI 1 = iI ((c + 1 : Nat) : Int) from iI_su, of0 hM.1 (by omega), bnd_s]
    have skip : gripsZ u ls c (u 3 c) cell = -1 → ∃ t', F_X5_findHolders_30 g t (iI cell) (iI q.1) (iI (c + 1 : Nat)) = F_X5_findHolders_183 t' ∧ BInv (fun c => gripsZ u ls c (u 3 c) cell) n (bestF u ls (u 3) cell (k + 1) c q) ∧ HInv t' (fun c => gripsZ u ls c (u 3 c) cell) n (bestF u ls (u 3) cell (k + 1) c q) ∧ Fm Hol t t' := by
      intro hz
      have hs : stepB (gripsZ u ls c (u 3 c) cell) c q = q := by
        unfold stepB
        rw [if_pos (Or.inl hz)]
      rw [hs] at hB2
      have hI2 : HInv t (fun c => gripsZ u ls c (u 3 c) cell) ((c + 1 : Nat) : Int) q := by
        refine ⟨hI.1, fun j hj => ?_⟩
        rw [hI.2 j hj]
        congr 2
        refine propext ⟨fun z => ⟨by omega, z.2⟩, fun z => ⟨?_, z.2⟩⟩
        by_cases e : j = c
        · subst e
          have z1 := z.2.1
          have z2 := z.2.2
          exact absurd (z1.symm.trans hz) z2
        · omega
      obtain ⟨t', e, h1, h2, h3⟩ := ih (c + 1) q t (by omega) hM h50 hB2 hI2 g (by omega)
      rw [bestF_su, hs, show ((c : Int) + 1) = ((c + 1 : Nat) : Int) by omega]
      exact ⟨t', e, h1, h2, h3⟩
    by_cases a1 : u 5 c ≤ 0
    · rw [if_pos (by rw [iI_le (by omega) (by omega)]; exact a1)]
      refine skip ?_
      unfold gripsZ
      rw [if_neg (by omega)]
    · rw [if_neg (by rw [iI_le (by omega) (by omega)]; exact a1)]
      by_cases a2 : u 4 c < farZ (u 3 c) cell
      · rw [if_pos (by rw [iI_lt (by omega) (by omega)]; exact a2)]
        refine skip ?_
        unfold gripsZ
        rw [if_neg (by omega)]
      · rw [if_neg (by rw [iI_lt (by omega) (by omega)]; exact a2)]
        have hge : gripsZ u ls c (u 3 c) cell = gripZ u ls c (farZ (u 3 c) cell) := by
          unfold gripsZ
          rw [if_pos (by omega)]
        have hgr := gripZ_r hW (ls := ls) (c := (c : Int)) (f := farZ (u 3 c) cell) (by omega)
        obtain ⟨t1, e1, f1⟩ := e_X5_gripOf hM hW (c := (c : Int)) (far := farZ (u 3 c) cell) (by omega) (by omega)
        rw [e1, bnd_s, ← hge]
        obtain ⟨t2, e2, f2, hv2⟩ := e_X5_findHolders_88 (k30 := F_X5_findHolders_30 g) (x1 := iI cell) (m := q.1) (g := gripsZ u ls c (u 3 c) cell) (c := c) (by omega) (by omega) (by omega) c 0 t1 (by omega) FU (FU_ge (by omega))
        have hI1 := hI.go f1 (fun _ _ => Sq_nh)
        obtain ⟨t3, e3, hI3, f3⟩ := e_X5_findHolders_114 (k30 := F_X5_findHolders_30 g) (x1 := iI cell) (t := t2) (G := fun c => gripsZ u ls c (u 3 c) cell) (c := c) (q := q) (by omega) (by show 0 ≤ gripsZ u ls c (u 3 c) cell ∧ gripsZ u ls c (u 3 c) cell ≤ 99; omega) hB ⟨by rw [f2.i _ _ (by omega)]; exact hI1.1, fun j hj => by rw [hv2 j hj, hI1.2 j hj]⟩
        have fA : Fm Hol t t3 := ((f1.le fun _ _ z => Or.inl z).tr (f2.le fun _ _ z => Or.inr (Or.inl z))).tr f3
        have h50' : si t3 0 50 = iI n := by rw [fA.i _ _ (by unfold Hol Sq Stl Sso; omega)]; exact h50
        rw [show (((c : Nat) : Int) + 1) = ((c + 1 : Nat) : Int) by omega] at hI3
        obtain ⟨t4, e4, h1, h2, h3⟩ := ih (c + 1) (stepB (gripsZ u ls c (u 3 c) cell) c q) t3 (by omega) (hM.scr (fA.le fun _ _ => Hol_scr)) h50' hB2 hI3 g (by omega)
        rw [bestF_su, show ((c : Int) + 1) = ((c + 1 : Nat) : Int) by omega]
        refine ⟨t4, ?_, h1, h2, fA.tr h3⟩
        exact (e2.trans e3).trans e4

def alA (u : WR) (q : Int × Int × Int) : Int := if 1 < q.2.1 ∧ 1 < u 8 5 then 0 else q.2.1
def hP0 (G : Int → Int) (n : Int) (q : Int × Int × Int) (j : Int) : Prop := j < n ∧ G j = q.1 ∧ q.1 ≠ -1
def hPl (u : WR) (G : Int → Int) (n : Int) (q : Int × Int × Int) (j : Int) : Prop := 0 < alA u q ∧ hP0 G n q j ∧ (u 8 5 = 1 → j = q.2.2)
def alK (u : WR) (q : Int × Int × Int) : Int := if 1 < alA u q ∧ u 8 5 = 1 then 1 else alA u q
def Hos (t : St) (u : WR) (G : Int → Int) (n : Int) (q : Int × Int × Int) : Prop := si t 0 49 = iI (alK u q) ∧ ∀ j : Nat, j < 6 → si t 25 j = iI (bZ (hPl u G n q j))
theorem e_X5_findHolders_210 {u : WR} {ls : List (List DC)} (h5 : 0 ≤ u 8 5 ∧ u 8 5 ≤ 2) {G : Int → Int} {n : Int} (hn : 0 ≤ n ∧ n ≤ 6) {q : Int × Int × Int} (hB : BInv G n q) : ∀ (k c : Nat) (t : St), 6 = k + c → M0 t u ls → si t 0 49 = iI (alA u q) → (∀ j : Nat, j < 6 → si t 25 j = iI (bZ (if j < c then hPl u G n q j else hP0 G n q j))) → ∀ fu, k < fu → ∃ t', F_X5_findHolders_210 fu t (iI (bZ (∀ j : Nat, j < c → ¬ hPl u G n q j))) (iI c) = some ((), t') ∧ Hos t' u G n q ∧ Fm Hol t t' := by
  intro k
  have hq := hB.q hn.2
  have hA : 0 ≤ alA u q ∧ alA u q ≤ 6 := by unfold alA; omega
  induction k with
  | zero =>
    intro c t hk hM h49 hh fu hfu
    obtain ⟨g, rfl⟩ : ∃ g, fu = g + 1 := ⟨fu - 1, by omega⟩
    have : c = 6 := by omega
    subst this
    have fin : ∀ a, a = alK u q → ∃ t', F_X5_findHolders_311 t (iI a) = some ((), t') ∧ Hos t' u G n q ∧ Fm Hol t t' := fun a ha => by
      unfold F_X5_findHolders_311
      rw [nam_v]
      refine ⟨_, rfl, ⟨by rw [si_set, if_pos rfl, if_pos rfl, ha], fun j hj => ?_⟩, Fm.set (by unfold Hol; omega)⟩
      rw [si_set, if_neg (by omega), hh j hj, if_pos hj]
    simp only [F_X5_findHolders_210]
    unfold F_X5_findHolders_307
    rw [if_pos (by rw [k_6, iI_le (by omega) (by omega)]; omega), h49, k_1, k_5]
    unfold alK at fin
    by_cases a1 : alA u q ≤ 1
    · rw [if_pos (by rw [iI_le (by omega) (by omega)]; exact a1)]
      exact fin _ (by rw [if_neg (by omega)])
    · rw [if_neg (by rw [iI_le (by omega) (by omega)]; exact a1), e_X5_term hM.1 (by omega), bnd_s]
      by_cases a2 : u 8 5 = 1
      · rw [if_pos (by rw [a2])]
        exact fin _ (by rw [if_pos ⟨by omega, a2⟩])
      · rw [if_neg (by rw [iI_eq (by omega) (by omega)]; exact a2), h49]
        exact fin _ (by rw [if_neg (fun z => a2 z.2)])
  | succ k ih =>
    intro c t hk hM h49 hh fu hfu
    obtain ⟨g, rfl⟩ : ∃ g, fu = g + 1 := ⟨fu - 1, by omega⟩
    have hc := hh c (by omega)
    rw [if_neg (Nat.lt_irrefl c)] at hc
    have hc6 : c < 6 := by omega
    -- the place told anew
    have step : ∀ (p : Prop), p = hPl u G n q c → ∃ t', F_X5_findHolders_258 (F_X5_findHolders_210 g) t (iI (bZ (∀ j : Nat, j < c → ¬ hPl u G n q j))) (iI c) (iI (bZ p)) (iI c) = some ((), t') ∧ Hos t' u G n q ∧ Fm Hol t t' := fun p hp => by
      unfold F_X5_findHolders_258
      rw [inb_g (by omega), nam_v, iI_nat (by omega), Int.toNat_natCast, vb, inb_g (by omega), iI_su, si_set, if_pos rfl, if_pos rfl]
      have f1 : Fm Hol t (setI t 25 c (iI (bZ p))) := Fm.set (by unfold Hol; omega)
      have nxt : ∀ r : Prop, r = (∀ j : Nat, j < c + 1 → ¬ hPl u G n q j) → ∃ t', F_X5_findHolders_210 g (setI t 25 c (iI (bZ p))) (iI (bZ r)) (iI (c + 1 : Nat)) = some ((), t') ∧ Hos t' u G n q ∧ Fm Hol t t' := fun r hr => by
        subst hr
        obtain ⟨t', e, h1, h2⟩ := ih (c + 1) (setI t 25 c (iI (bZ p))) (by omega) (hM.scr (f1.le fun _ _ => Hol_scr)) (by rw [si_set, if_neg (by omega)]; exact h49) (fun j hj => by
          rw [si_set, if_pos rfl]
          by_cases e : j = c
          · rw [if_pos e, if_pos (by omega), hp, e]
          · rw [if_neg e, hh j hj]
            congr 2
            by_cases e2 : j < c
            · rw [if_pos e2, if_pos (by omega)]
            · rw [if_neg e2, if_neg (by omega)]) g (by omega)
        exact ⟨t', e, h1, f1.tr h2⟩
      have n1 : iI 1 = iI (bZ True) := by rw [bZ_t trivial]
      have n0 : iI 0 = iI (bZ False) := by rw [bZ_f (fun z => z)]
      by_cases a : ∀ j : Nat, j < c → ¬ hPl u G n q j
      · rw [if_neg (by rw [k_0, bZ_i0]; exact fun z => z a)]
        by_cases b : p
        · rw [if_neg (by rw [k_0, bZ_i0]; exact fun z => z b), k_0, n0]
          exact nxt _ (propext ⟨fun z => z.elim, fun z => z c (by omega) (hp ▸ b)⟩)
        · rw [if_pos (by rw [k_0, bZ_i0]; exact b), k_1, n1]
          refine nxt _ (propext ⟨fun _ j hj z => ?_, fun _ => trivial⟩)
          by_cases e : j = c
          · subst e; exact b (hp ▸ z)
          · exact a j (by omega) z
      · rw [if_pos (by rw [k_0, bZ_i0]; exact a), k_0, n0]
        exact nxt _ (propext ⟨fun z => z.elim, fun z => a fun j hj => z j (by omega)⟩)
    have s0 : (¬ hPl u G n q c) → ∃ t', F_X5_findHolders_257 (F_X5_findHolders_210 g) t (iI (bZ (∀ j : Nat, j < c → ¬ hPl u G n q j))) (iI c) (iI c) = some ((), t') ∧ Hos t' u G n q ∧ Fm Hol t t' := fun h => by
      have := step False (propext ⟨fun z => z.elim, h⟩)
      rw [bZ_f (fun z => z)] at this
      exact this
    have s1 : hPl u G n q c → ∃ t', F_X5_findHolders_253 (F_X5_findHolders_210 g) t (iI (bZ (∀ j : Nat, j < c → ¬ hPl u G n q j))) (iI c) (iI c) = some ((), t') ∧ Hos t' u G n q ∧ Fm Hol t t' := fun h => by
      have := step True (propext ⟨fun _ => h, fun _ => trivial⟩)
      rw [bZ_t trivial] at this
      exact this
    simp only [F_X5_findHolders_210]
    rw [if_neg (by rw [k_6, iI_le (by omega) (by omega)]; omega), inb_g (by omega), iI_nat (by omega), Int.toNat_natCast, hc, h49]
    by_cases a0 : hP0 G n q c
    · rw [if_neg (by rw [k_0, bZ_i0]; exact fun z => z a0)]
      by_cases a1 : alA u q ≤ 0
      · rw [if_pos (by rw [k_0, iI_le (by omega) (by omega)]; exact a1)]
        exact s0 fun z => by have := z.1; omega
      · rw [if_neg (by rw [k_0, iI_le (by omega) (by omega)]; exact a1), k_5, e_X5_term hM.1 (by omega), bnd_s]
        by_cases a2 : u 8 5 = 1
        · rw [if_pos (by rw [a2]; rfl)]
          -- the first of them
          have hB' : (0 ≤ q.1 ∧ q.1 ≤ 99) ∧ (1 ≤ q.2.1 ∧ q.2.1 ≤ n) ∧ (0 ≤ q.2.2 ∧ q.2.2 < n) ∧ G q.2.2 = q.1 ∧ (∀ c', 0 ≤ c' → c' < n → G c' ≤ q.1) ∧ (∀ c', 0 ≤ c' → c' < q.2.2 → G c' < q.1) := by
            rcases hB with h | h
            · exact absurd h.1 a0.2.2
            · exact ⟨h.1, h.2.1, h.2.2.1, h.2.2.2.1, h.2.2.2.2.1, h.2.2.2.2.2.1⟩
          obtain ⟨b1, b2, b3, b4, b5, b6⟩ := hB'
          have hfst : hPl u G n q q.2.2 := ⟨by omega, ⟨b3.2, b4, by omega⟩, fun _ => rfl⟩
          by_cases a3 : ∀ j : Nat, j < c → ¬ hPl u G n q j
          · rw [if_neg (by rw [k_0, bZ_i0]; exact fun z => z a3)]
            refine s1 ⟨by omega, a0, fun _ => ?_⟩
            have x1 : ¬ q.2.2 < c := fun z => a3 q.2.2.toNat (by omega) (by rw [show ((q.2.2.toNat : Nat) : Int) = q.2.2 by omega]; exact hfst)
            have x2 : ¬ (c : Int) < q.2.2 := fun z => by
              have y1 := b6 c (by omega) z
              have y2 := a0.2.1
              omega
            omega
          · rw [if_pos (by rw [k_0, bZ_i0]; exact a3)]
            refine s0 fun z => a3 fun j hj y => ?_
            have y1 := y.2.2 a2
            have y2 := z.2.2 a2
            omega
        · rw [if_neg (by rw [k_1, iI_eq (by omega) (by omega)]; exact a2)]
          exact s1 ⟨by omega, a0, fun z => absurd z a2⟩
    · rw [if_pos (by rw [k_0, bZ_i0]; exact a0)]
      exact s0 fun z => a0 z.2.1
theorem e_X5_findHolders_183 {t : St} {u : WR} {ls : List (List DC)} (h5 : 0 ≤ u 8 5 ∧ u 8 5 ≤ 2) {G : Int → Int} {n : Int} (hn : 0 ≤ n ∧ n ≤ 6) {q : Int × Int × Int} (hB : BInv G n q) (hM : M0 t u ls) (hI : HInv t G n q) : ∃ t', F_X5_findHolders_183 t = some ((), t') ∧ Hos t' u G n q ∧ Fm Hol t t' := by
  have hq := hB.q hn.2
  have go : ∀ t1, Fm Hol t t1 → si t1 0 49 = iI (alA u q) → (∀ j, si t1 25 j = si t 25 j) → ∃ t', F_X5_findHolders_205 t1 = some ((), t') ∧ Hos t' u G n q ∧ Fm Hol t t' := fun t1 hF h49 h25 => by
    obtain ⟨t', e, h1, h2⟩ := e_X5_findHolders_210 h5 hn hB 6 0 t1 (by omega) (hM.scr (hF.le fun _ _ => Hol_scr)) h49 (fun j hj => by
      rw [if_neg (by omega), h25, hI.2 j hj]
      rfl) FU (FU_ge (by omega))
    rw [bZ_t (fun j hj => by omega)] at e
    exact ⟨t', e, h1, hF.tr h2⟩
  unfold F_X5_findHolders_183
  rw [hI.1, k_1, k_5, k_2, k_0]
  unfold alA at go
  by_cases a1 : q.2.1 ≤ 1
  · rw [if_pos (by rw [iI_le (by omega) (by omega)]; exact a1)]
    exact go t Fm.rf (by rw [if_neg (by omega)]; exact hI.1) (fun _ => rfl)
  · rw [if_neg (by rw [iI_le (by omega) (by omega)]; exact a1), e_X5_term hM.1 (by omega), bnd_s]
    by_cases a2 : u 8 5 = 2
    · rw [if_pos (by rw [a2]), nam_v]
      exact go _ (Fm.set (by unfold Hol; omega)) (by rw [si_set, if_pos rfl, if_pos rfl, if_pos (by omega)]) (fun j => by rw [si_set, if_neg (by omega)])
    · rw [if_neg (by rw [iI_eq (by omega) (by omega)]; exact a2)]
      exact go t Fm.rf (by rw [if_neg (by omega)]; exact hI.1) (fun _ => rfl)
