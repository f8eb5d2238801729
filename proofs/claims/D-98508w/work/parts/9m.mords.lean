set_option maxRecDepth 100000
/-! ===== the model's reader: an order ===== -/
def moZ (h : Int) : Int := if h = 0 then 0 else if h = 2 then 1 else 2
def OrN (t : St) (k : Nat) (C : CD) (nc : Nat) (c : OC) : Prop := si t 27 k = iI (moZ c.1) ∧ (0 ≤ c.1 ∧ c.1 ≤ 2) ∧ (c.2.1 = none ↔ c.1 = 1) ∧ (∀ q, c.2.1 = some q → (dok q.1 ∧ dok q.2) ∧ ∃ a b a' b' : Nat, (si t 27 (k + 1) = iI a ∧ si t 27 (k + 2) = iI b ∧ si t 27 (k + 3) = iI a' ∧ si t 27 (k + 4) = iI b') ∧ (b ≤ nc ∧ b' ≤ nc) ∧ ClS true C a b q.1 ∧ ClS true C a' b' q.2) ∧ (si t 27 (k + 7) = iI c.2.2.1 ∧ 1 ≤ c.2.2.1 ∧ c.2.2.1 ≤ 20) ∧ ((c.2.2.2 = none → ∃ a : Nat, si t 27 (k + 5) = iI a ∧ si t 27 (k + 6) = iI a ∧ a ≤ 400) ∧ ∀ f, c.2.2.2 = some f → ∃ a b : Nat, si t 27 (k + 5) = iI a ∧ si t 27 (k + 6) = iI b ∧ b ≤ nc ∧ ClT true C a b f)
theorem OrN.go {t t' : St} {k nc nc' : Nat} {C C' : CD} {c : OC} (h : OrN t k C nc c) (g : ∀ j, j < 8 → si t' 27 (k + j) = si t 27 (k + j)) (hn : nc ≤ nc') (hC : ∀ j, j < nc → C' j = C j) : OrN t' k C' nc' c := by
  obtain ⟨h1, h2, h3, h4, h5, h6, h7⟩ := h
  refine ⟨(g 0 (by omega)).trans h1, h2, h3, fun q e => ?_, ⟨(g 7 (by omega)).trans h5.1, h5.2⟩, fun e => ?_, fun f e => ?_⟩
  · obtain ⟨d, a, b, a', b', ⟨i1, i2, i3, i4⟩, i5, i6, i7⟩ := h4 q e
    exact ⟨d, a, b, a', b', ⟨(g 1 (by omega)).trans i1, (g 2 (by omega)).trans i2, (g 3 (by omega)).trans i3, (g 4 (by omega)).trans i4⟩, by omega, i6.ext fun j _ j2 => hC j (by omega), i7.ext fun j _ j2 => hC j (by omega)⟩
  · obtain ⟨a, i1, i2, i3⟩ := h6 e
    exact ⟨a, (g 5 (by omega)).trans i1, (g 6 (by omega)).trans i2, i3⟩
  · obtain ⟨a, b, i1, i2, i3, i4⟩ := h7 f e
    exact ⟨a, b, (g 5 (by omega)).trans i1, (g 6 (by omega)).trans i2, by omega, i4.ext fun j _ j2 => hC j (by omega)⟩
def OwM (t : St) (T : Nat → Int) (n p : Nat) (C : CD) (nc l : Nat) (cs : List OC) : Prop := RdW true t T n p C nc l ∧ si t 0 22 = iI cs.length ∧ cs.length ≤ 12 ∧ ∀ i c, cs[i]? = some c → OrN t (8 * i) C nc c
def OdO (t : St) (T : Nat → Int) (n : Nat) (p : Nat) (cs : List OC) (x : Option (Unit × St)) : PR OC → Prop
  | .inl q => ∃ t', x = some ((), t') ∧ BdW t' T n q ∧ Fm Slw t t'
  | .inr (c, p', l') => ∃ t' C' nc', x = some ((), t') ∧ OwM t' T n p' C' nc' l' (cs ++ [c]) ∧ Fm Slw t t' ∧ (p < p' ∧ p' ≤ n) ∧ l' ≤ 50
theorem wd_5 : wdL (strB 5) := by unfold wdL; decide
theorem wd_6 : wdL (strB 6) := by unfold wdL; decide
theorem wd_7 : wdL (strB 7) := by unfold wdL; decide
theorem wd_8 : wdL (strB 8) := by unfold wdL; decide
theorem hs_5 : (239 : Int) = hsL (strB 5) := by decide
theorem hs_6 : (2328139461 : Int) = hsL (strB 6) := by decide
theorem hs_7 : (611944 : Int) = hsL (strB 7) := by decide
theorem hs_8 : (52 : Int) = hsL (strB 8) := by decide
theorem e_X5_readOrder {t : St} {T : Nat → Int} {n p : Nat} {C : CD} {nc l : Nat} {cs : List OC} (h : OwM t T n p C nc l cs) (hl : l ≤ 50) : OdO t T n p cs (F_X5_readOrder t) (ordC T n (ordV T n) cs.length p l) := by
  obtain ⟨hR, h22, h12, hcl⟩ := h
  have hpn := hR.p
  have hnx := nxt_r (T := T) hpn.1
  have hE := hR.1.1
  have hdr : headO T n p = -1 ∨ headO T n p = 0 ∨ headO T n p = 1 ∨ headO T n p = 2 := by
    unfold headO
    split
    · omega
    · split
      · omega
      · split <;> omega
  have e0 : F_X5_readOrder t = F_X5_readOrder_43 t (iI (if headO T n p = -1 then -1 else moZ (headO T n p))) := by
    unfold F_X5_readOrder headO
    rw [K_239, e_X5_isWord hE wd_5 hs_5, bnd_s]
    by_cases a : tokIs T n p (strB 5)
    · rw [if_neg (show ¬ iI (bZ (tokIs T n p (strB 5))) = 0 by rw [bZ_t a]; decide), if_pos a]
      rfl
    · rw [if_pos (show iI (bZ (tokIs T n p (strB 5))) = 0 by rw [bZ_f a]; rfl), if_neg a, K_2328139461, e_X5_isWord hE wd_6 hs_6, bnd_s]
      by_cases b : tokIs T n p (strB 6)
      · rw [if_neg (show ¬ iI (bZ (tokIs T n p (strB 6))) = 0 by rw [bZ_t b]; decide), if_pos b]
        rfl
      · rw [if_pos (show iI (bZ (tokIs T n p (strB 6))) = 0 by rw [bZ_f b]; rfl), if_neg b, K_611944, e_X5_isWord hE wd_7 hs_7, bnd_s]
        by_cases c : tokIs T n p (strB 7)
        · rw [if_neg (show ¬ iI (bZ (tokIs T n p (strB 7))) = 0 by rw [bZ_t c]; decide), if_pos c]
          rfl
        · rw [if_pos (show iI (bZ (tokIs T n p (strB 7))) = 0 by rw [bZ_f c]; rfl), if_neg c]
          rfl
  have bad : ∀ z, ∃ t', F_X5_readOrder_63 t z = some ((), t') ∧ BdW t' T n p ∧ Fm Slw t t' := fun z => by
    obtain ⟨t', e, g1, f1⟩ := e_must_0 hR.1
    unfold F_X5_readOrder_63 F_X5_readOrder_64
    rw [k_0, e, bnd_s, g1.2.1, if_neg (by decide)]
    exact ⟨t', rfl, hR.bd g1 (f1.le fun _ _ => Or.inr), f1.le fun _ _ z => Or.inl (Or.inl (Or.inr z))⟩
  rw [e0]
  unfold ordC F_X5_readOrder_43
  rw [k_m1, h22, k_12, k_1]
  by_cases a0 : headO T n p = -1
  · rw [if_pos a0, if_pos rfl, if_pos (Or.inl a0)]
    exact bad _
  · have hmr : 0 ≤ moZ (headO T n p) ∧ moZ (headO T n p) ≤ 2 := by unfold moZ; omega
    rw [if_neg a0, if_neg (by rw [iI_eq (by omega) (by omega)]; omega)]
    by_cases a1 : cs.length = 12
    · rw [if_pos (by rw [iI_le (by omega) (by omega)]; omega), if_pos (Or.inr a1)]
      exact bad _
    · rw [if_neg (by rw [iI_le (by omega) (by omega)]; omega), if_neg (by omega)]
      have hm : cs.length < 12 := by omega
      obtain ⟨hp2, hnx2, -⟩ := headO_p hpn.1 (T := T) a0
      obtain ⟨t1, e2, g1, f1⟩ := e_must_1 hR.1
      have r1 := hR.nx g1 (f1.le fun _ _ => Or.inl) hnx.1
      have k22 : si t1 0 22 = iI cs.length := by rw [f1.i _ _ (by unfold Stk; omega)]; exact h22
      have f2 : Fm (fun a j => (a = 0 ∧ j = 22) ∨ (a = 27 ∧ j = 8 * cs.length)) t1 (setI (setI t1 0 22 (iI ((cs.length + 1 : Nat) : Int))) 27 (8 * cs.length) (iI (moZ (headO T n p)))) := (Fm.set (by omega)).tr (Fm.set (by omega))
      have r2 := r1.cl (f2.le fun a j z => by unfold Scl; omega)
      have i22 : si (setI (setI t1 0 22 (iI ((cs.length + 1 : Nat) : Int))) 27 (8 * cs.length) (iI (moZ (headO T n p)))) 0 22 = iI ((cs.length + 1 : Nat) : Int) := rfl
      have ihd : si (setI (setI t1 0 22 (iI ((cs.length + 1 : Nat) : Int))) 27 (8 * cs.length) (iI (moZ (headO T n p)))) 27 (8 * cs.length) = iI (moZ (headO T n p)) := by rw [si_set, if_pos rfl, if_pos rfl]
      have pre : F_X5_readOrder_64 t (iI (moZ (headO T n p))) (iI 1) = if headO T n p = 1 then F_X5_readOrder_137 (setI (setI t1 0 22 (iI ((cs.length + 1 : Nat) : Int))) 27 (8 * cs.length) (iI (moZ (headO T n p)))) (iI ((8 * cs.length : Nat) : Int)) else bnd (F_X5_readSum (setI (setI t1 0 22 (iI ((cs.length + 1 : Nat) : Int))) 27 (8 * cs.length) (iI (moZ (headO T n p)))) (iI ((8 * cs.length + 1 : Nat) : Int))) fun _ s12 => if (si s12 0 20) = 0 then (bnd (F_X5_isWord s12 (lI 52)) fun r15 s16 => bnd (F_X5_must s16 r15) fun _ s19 => F_X5_readOrder_130 s19 (iI ((8 * cs.length : Nat) : Int))) else (F_X5_readOrder_130 s12 (iI ((8 * cs.length : Nat) : Int))) := by
        unfold F_X5_readOrder_64
        rw [e2, bnd_s, if_pos (show si t1 0 20 = 0 from g1.2.1), k22, k_8, iI_mul, show (8 * ((cs.length : Nat) : Int)) = ((8 * cs.length : Nat) : Int) by omega, iI_su, nam_v, inb_g (by omega), iI_nat (by omega), Int.toNat_natCast, nam_v, k_1, iI_add, show (((8 * cs.length : Nat) : Int) + 1) = ((8 * cs.length + 1 : Nat) : Int) by omega, k_2]
        by_cases c : headO T n p = 1
        · rw [if_pos (show iI (moZ (headO T n p)) = iI 2 by rw [c]; rfl), if_pos c]
        · rw [if_neg (show ¬ iI (moZ (headO T n p)) = iI 2 by rw [iI_eq (by omega) (by omega)]; unfold moZ; omega), if_neg c]
          rfl
      rw [pre]
      generalize setI (setI t1 0 22 (iI ((cs.length + 1 : Nat) : Int))) 27 (8 * cs.length) (iI (moZ (headO T n p))) = t2 at f2 r2 i22 ihd
      have F12 : Fm Slw t t2 := (f1.le fun _ _ => Stk_lw).tr (f2.le fun a j z => Or.inr (by unfold Scl; omega))
      have kA : ∀ j, ¬ j = 8 * cs.length → si t2 27 j = si t 27 j := fun j hj => by rw [f2.i _ _ (by omega), f1.i _ _ (by unfold Stk; omega)]
      -- what the end of the order gives
      have fin : ∀ (t3 : St) (p3 : Nat) (C3 : CD) (nc3 l3 : Nat) (o : Option (DS × DS)), RdW true t3 T n p3 C3 nc3 l3 → l3 ≤ 50 → Fm (fun a j => Sex a j ∨ (a = 27 ∧ 8 * cs.length < j ∧ j < 8 * cs.length + 5)) t2 t3 → (nc ≤ nc3 ∧ ∀ k, k < nc → C3 k = C k) → (p < p3 ∧ p3 ≤ n) → (o = none ↔ headO T n p = 1) → (∀ q, o = some q → (dok q.1 ∧ dok q.2) ∧ ∃ a b a' b' : Nat, (si t3 27 (8 * cs.length + 1) = iI a ∧ si t3 27 (8 * cs.length + 2) = iI b ∧ si t3 27 (8 * cs.length + 3) = iI a' ∧ si t3 27 (8 * cs.length + 4) = iI b') ∧ (b ≤ nc3 ∧ b' ≤ nc3) ∧ ClS true C3 a b q.1 ∧ ClS true C3 a' b' q.2) → OdO t T n p cs (F_X5_readOrder_137 t3 (iI ((8 * cs.length : Nat) : Int))) (timesS T n (ordV T n) (headO T n p) o p3 l3) := by
        intro t3 p3 C3 nc3 l3 o r3 hl3 f3 hC3 hp3 o1 o3
        have h4 := or_137 r3 hl3 (c := 8 * cs.length) (by omega) (headO T n p) o
        have F3 : Fm Slw t2 t3 := f3.le fun a j z => z.elim Or.inl fun y => Or.inr (by unfold Scl; omega)
        generalize timesS T n (ordV T n) (headO T n p) o p3 l3 = R at h4 ⊢
        rcases R with q | ⟨y, p', l'⟩
        · obtain ⟨t', e, hb, f⟩ := h4
          exact ⟨t', e, hb, (F12.tr F3).tr f⟩
        · obtain ⟨t', C', nc', e, r', f, hn, hp, hl', hy, j7, j5, j6⟩ := h4
          have kB : ∀ j, ¬ (8 * cs.length + 5 ≤ j ∧ j < 8 * cs.length + 8) → si t' 27 j = si t3 27 j := fun j hj => f.i _ _ fun z => z.elim Sex_27 (by omega)
          have kC : ∀ j, ¬ (8 * cs.length < j ∧ j < 8 * cs.length + 5) → si t3 27 j = si t2 27 j := fun j hj => f3.i _ _ fun z => z.elim Sex_27 (by omega)
          have k22' : si t' 0 22 = iI ((cs.length + 1 : Nat) : Int) := by
            rw [f.i _ _ fun z => z.elim Sex_22 (by omega), f3.i _ _ fun z => z.elim Sex_22 (by omega)]
            exact i22
          refine ⟨t', C', nc', e, ⟨r', by rw [List.length_append]; exact k22', by rw [List.length_append]; show cs.length + 1 ≤ 12; omega, fun i c ec => ?_⟩, (F12.tr F3).tr (f.le fun a j z => z.elim Or.inl fun y => Or.inr (by unfold Scl; omega)), by omega, hl'⟩
          by_cases hi : i < cs.length
          · rw [List.getElem?_append_left hi] at ec
            refine (hcl i c ec).go (fun j hj => ?_) (by omega) fun j hj => by rw [hn.2 j (by omega), hC3.2 j hj]
            rw [kB _ (by omega), kC _ (by omega), kA _ (by omega)]
          · rw [List.getElem?_append_right (by omega)] at ec
            have hi0 : i = cs.length := by
              have : i - cs.length < [y].length := (List.getElem?_eq_some_iff.mp ec).1
              have : i - cs.length < 1 := this
              omega
            subst hi0
            rw [Nat.sub_self] at ec
            have ec : some y = some c := ec
            cases ec
            refine ⟨by rw [kB _ (by omega), kC _ (by omega), ihd, hy.1], by rw [hy.1]; omega, by rw [hy.1, hy.2]; exact o1, fun q z => ?_, j7, fun z => ?_, fun f z => ?_⟩
            · obtain ⟨d, a, b, a', b', ⟨i1, i2, i3, i4⟩, i5, i6, i7⟩ := o3 q (by rw [← hy.2]; exact z)
              exact ⟨d, a, b, a', b', ⟨by rw [kB _ (by omega)]; exact i1, by rw [kB _ (by omega)]; exact i2, by rw [kB _ (by omega)]; exact i3, by rw [kB _ (by omega)]; exact i4⟩, by omega, i6.ext fun j _ j2 => hn.2 j (by omega), i7.ext fun j _ j2 => hn.2 j (by omega)⟩
            · exact ⟨nc3, (j5 z).1, (j5 z).2, by have := r3.2.2.2.1; omega⟩
            · exact ⟨nc3, nc', (j6 f z).1, (j6 f z).2.1, Nat.le_refl _, (j6 f z).2.2⟩
      by_cases c : headO T n p = 1
      · rw [if_pos c, if_pos c, ← c]
        exact fin t2 (nxt T n p) C nc l none r2 hl Fm.rf ⟨Nat.le_refl _, fun _ _ => rfl⟩ ⟨by omega, hnx.2.1⟩ ⟨fun _ => c, fun _ => rfl⟩ fun f z => by cases z
      · rw [if_neg c, if_neg c]
        have h3 := or_sum r2 hl (a := 8 * cs.length + 1) (by omega)
        have hdk := sum_dok (T := T) (n := n) (V := ordV T n) 12 0 (nxt T n p) l
        generalize sumP T n (ordV T n) 12 0 (nxt T n p) l = R at h3 hdk ⊢
        rcases R with q | ⟨f, p', l'⟩
        · obtain ⟨t3, e4, b3, f3⟩ := h3
          obtain ⟨t4, e5, b4, f4⟩ := b3.or130 (c := 8 * cs.length) (by omega)
          rw [e4, bnd_s, if_neg (show ¬ si t3 0 20 = (0 : Int32) by rw [b3.1.2.1]; decide)]
          exact ⟨t4, e5, b4, (F12.tr f3).tr f4⟩
        · obtain ⟨t3, C3, nc3, e4, r3, f3, hC, hc3, hp3, hl3, ja, jb⟩ := h3
          have F3 : Fm Slw t2 t3 := f3.le fun a j z => z.elim Or.inl fun y => Or.inr (by unfold Scl; omega)
          have hnx3 := nxt_r (T := T) hp3.2
          rw [e4, bnd_s, if_pos (show si t3 0 20 = 0 from r3.1.2.1), e_X5_isWord r3.1.1 wd_8 hs_8, bnd_s]
          show OdO t T n p cs (bnd (F_X5_must t3 (iI (bZ (tokIs T n p' (strB 8))))) fun _ s19 => F_X5_readOrder_130 s19 (iI ((8 * cs.length : Nat) : Int))) (@ite _ (tokIs T n p' (strB 8)) (Classical.propDecidable _) (match sumP T n (ordV T n) 12 0 (nxt T n p') l' with
            | .inl q => .inl q
            | .inr (g, p'', l'') => timesS T n (ordV T n) (headO T n p) (some (f, g)) p'' l'') (.inl p'))
          by_cases b : tokIs T n p' (strB 8)
          · obtain ⟨t4, e5, g4, f4⟩ := (e_must r3.1 (P := tokIs T n p' (strB 8))).1 b
            have r4 := r3.nx g4 f4 hnx3.1
            have h5 := or_sum r4 hl3 (a := 8 * cs.length + 3) (by omega)
            have hdk2 := sum_dok (T := T) (n := n) (V := ordV T n) 12 0 (nxt T n p') l'
            rw [if_pos b, e5, bnd_s]
            unfold F_X5_readOrder_130
            rw [k_3, iI_add, show (((8 * cs.length : Nat) : Int) + 3) = ((8 * cs.length + 3 : Nat) : Int) by omega]
            generalize sumP T n (ordV T n) 12 0 (nxt T n p') l' = R2 at h5 hdk2 ⊢
            rcases R2 with q | ⟨f', p2, l2⟩
            · obtain ⟨t5, e6, b5, f5⟩ := h5
              obtain ⟨t6, e7, b6, f6⟩ := b5.or137 (c := 8 * cs.length) (by omega)
              rw [e6, bnd_s]
              exact ⟨t6, e7, b6, (((F12.tr F3).tr (f4.le fun _ _ => Smu_lw)).tr f5).tr f6⟩
            · obtain ⟨t5, C5, nc5, e6, r5, f5, hC5, hc5, hp5, hl5, jc, jd⟩ := h5
              rw [e6, bnd_s]
              have kk : ∀ j, ¬ (8 * cs.length + 3 ≤ j ∧ j < 8 * cs.length + 5) → si t5 27 j = si t3 27 j := fun j hj => by rw [f5.i _ _ fun z => z.elim Sex_27 (by omega), f4.i _ _ fun z => Sex_27 (Or.inl z)]
              refine fin t5 p2 C5 nc5 l2 (some (f, f')) r5 hl5 (((f3.le fun a j z => z.elim Or.inl fun y => Or.inr (by omega)).tr (f4.le fun _ _ z => Or.inl (Or.inl z))).tr (f5.le fun a j z => z.elim Or.inl fun y => Or.inr (by omega))) ⟨by have := hc3.lt; have := hc5.lt; omega, fun k hk => by rw [hC5 k (by have := hc3.lt; omega), hC k hk]⟩ ⟨by omega, hp5.2⟩ ⟨fun z => (by cases z), fun z => absurd z c⟩ fun q z => ?_
              cases z
              have l3 := hc3.lt
              have l5 := hc5.lt
              exact ⟨⟨hdk _ _ _ rfl, hdk2 _ _ _ rfl⟩, nc, nc3, nc3, nc5, ⟨by rw [kk _ (by omega)]; exact ja, by rw [kk _ (by omega)]; exact jb, jc, jd⟩, ⟨by omega, Nat.le_refl _⟩, hc3.ext fun k _ k2 => hC5 k k2, hc5⟩
          · obtain ⟨t4, e5, g4, f4⟩ := (e_must r3.1 (P := tokIs T n p' (strB 8))).2 b
            have b4 := r3.bd g4 f4
            obtain ⟨t5, e6, b5, f5⟩ := b4.or130 (c := 8 * cs.length) (by omega)
            rw [if_neg b, e5, bnd_s]
            exact ⟨t5, e6, b5, ((F12.tr F3).tr (f4.le fun _ _ => Smu_lw)).tr f5⟩
/-! the orders' text -/
noncomputable def orK (s2 : St) : Option (Int32 × St) := if (si s2 0 20) = 0 then (bnd (F_X5_keepCells s2 (102 : Int32)) fun _ s6 => F_X5_orders_77 FU s6 (si s2 0 8) (0 : Int32)) else (bnd (F_X5_tell s2 (-6 : Int32)) fun r8 s9 => some (r8, s9))
def TxR (t : St) (x : Option (Int32 × St)) : Nat ⊕ List OC → Prop
  | .inl q => ∃ t1, x = orK t1 ∧ (si t1 0 20 = iI 1 ∧ si t1 0 19 = iI q ∧ si t1 0 21 = iI 0 ∧ si t1 0 14 = iI 0) ∧ Fm Stx t t1
  | .inr cs => ∃ t1 C nc, x = orK t1 ∧ (si t1 0 20 = iI 0 ∧ si t1 0 19 = iI (-1) ∧ si t1 0 21 = iI 0 ∧ si t1 0 14 = iI 0) ∧ Fm Stx t t1 ∧ (si t1 0 22 = iI cs.length ∧ cs.length ≤ 12) ∧ (∀ i c, cs[i]? = some c → OrN t1 (8 * i) C nc c) ∧ CodR t1 C nc ∧ nc ≤ 400
theorem TxR.after {t t1 : St} {x : Option (Int32 × St)} {r : Nat ⊕ List OC} (h : TxR t1 x r) (f : Fm Stx t t1) : TxR t x r := by
  rcases r with q | cs
  · obtain ⟨t2, e, a, f2⟩ := h
    exact ⟨t2, e, a, f.tr f2⟩
  · obtain ⟨t2, C, nc, e, a, f2, b⟩ := h
    exact ⟨t2, C, nc, e, a, f.tr f2, b⟩
theorem tr_bad {t : St} {T : Nat → Int} {n q : Nat} (h : BdW t T n q) {fu : Nat} (hfu : 0 < fu) : TxR t (F_X5_orders_19 fu t) (.inl q) := by
  obtain ⟨g, rfl⟩ : ∃ g, fu = g + 1 := ⟨fu - 1, by omega⟩
  obtain ⟨t1, e, f, a⟩ := e_X5_endText_b h
  refine ⟨t1, ?_, ⟨a.2.2.1, a.2.2.2, a.1, a.2.1⟩, f.le fun _ _ => Or.inr⟩
  simp only [F_X5_orders_19]
  rw [if_neg (show ¬ si t 0 20 = (0 : Int32) by rw [h.1.2.1]; decide)]
  unfold F_X5_orders_46
  rw [e, bnd_s]
  rfl
theorem e_X5_orders_19 {T : Nat → Int} {n : Nat} : ∀ (k p l : Nat) (cs : List OC) (t : St) (C : CD) (nc : Nat), n - p < k → OwM t T n p C nc l cs → l ≤ 50 → ∀ fu, k < fu → TxR t (F_X5_orders_19 fu t) (readL T n (ordC T n (ordV T n)) k cs p l) := by
  intro k
  induction k with
  | zero => intro p l cs t C nc hk; omega
  | succ k ih =>
    intro p l cs t C nc hk h hl fu hfu
    obtain ⟨g, rfl⟩ : ∃ g, fu = g + 1 := ⟨fu - 1, by omega⟩
    obtain ⟨hR, h22, h12, hcl⟩ := h
    have hpn := hR.p
    have hnx := nxt_r (T := T) hpn.1
    have e0 : F_X5_orders_19 (g + 1) t = if iI (bZ (tokIs T n p (strB 26))) = 0 then F_X5_orders_46 t else bnd (F_X5_next t) fun _ s7 => bnd (F_X5_readOrder s7) fun _ s10 => F_X5_orders_19 g s10 := by
      rw [F_X5_orders_19]
      show (if si t 0 20 = 0 then _ else _) = _
      rw [if_pos (show si t 0 20 = 0 from hR.1.2.1), show (59 : Int32) = iI 59 from rfl, e_X5_isSign hR.1.1 (by unfold sgC; omega), bnd_s]
      rfl
    rw [e0, readL]
    by_cases a : tokIs T n p (strB 26)
    · have hlt := tok_lt hpn.1 (by show 1 ≤ 1; omega) a
      have hn' := hnx.2.2 hlt
      obtain ⟨t1, e1, g1, f1⟩ := g_next hR.1
      have f1s : Fm Slw t t1 := f1.le fun _ _ => Stk_lw
      have h1 : OwM t1 T n (nxt T n p) C nc l cs := ⟨hR.nx g1 (f1.le fun _ _ => Or.inl) hnx.1, by rw [f1.i _ _ (by unfold Stk; omega)]; exact h22, h12, fun i c e => (hcl i c e).go (fun j _ => f1.i _ _ (by unfold Stk; omega)) (Nat.le_refl _) fun _ _ => rfl⟩
      have h2 := e_X5_readOrder h1 hl
      rw [if_pos a, if_neg (show ¬ iI (bZ (tokIs T n p (strB 26))) = 0 by rw [bZ_t a]; decide), e1, bnd_s]
      generalize ordC T n (ordV T n) cs.length (nxt T n p) l = R at h2 ⊢
      rcases R with q | ⟨c, p', l'⟩
      · obtain ⟨t2, e2, b2, f2⟩ := h2
        rw [e2, bnd_s]
        exact (tr_bad b2 (by omega)).after ((f1s.tr f2).le fun _ _ => Or.inl)
      · obtain ⟨t2, C2, nc2, e2, r2, f2, hp2, hl2⟩ := h2
        rw [e2, bnd_s]
        exact (ih p' l' (cs ++ [c]) t2 C2 nc2 (by omega) r2 hl2 g (by omega)).after ((f1s.tr f2).le fun _ _ => Or.inl)
    · rw [if_neg a, if_pos (show iI (bZ (tokIs T n p (strB 26))) = 0 by rw [bZ_f a]; rfl)]
      obtain ⟨t1, e1, f1, g21, g14, hh⟩ := e_X5_endText_g hR
      have e2 : F_X5_orders_46 t = orK t1 := by
        unfold F_X5_orders_46
        rw [e1, bnd_s]
        rfl
      rw [e2]
      rcases hh with ⟨hp, g20, g19⟩ | ⟨hp, g20, g19⟩
      · rw [if_neg (by omega)]
        exact ⟨t1, C, nc, rfl, ⟨g20, g19, g21, g14⟩, f1.le fun _ _ => Or.inr, ⟨by rw [f1.i _ _ (by unfold Sen; omega)]; exact h22, h12⟩, fun i c e => (hcl i c e).go (fun j _ => f1.i _ _ (by unfold Sen; omega)) (Nat.le_refl _) fun _ _ => rfl, hR.2.1.go f1 ⟨by unfold Sen; omega, fun k => by unfold Sen; omega⟩, by have := hR.2.2.2.1; omega⟩
      · rw [if_pos hp]
        exact ⟨t1, rfl, ⟨g20, g19, g21, g14⟩, f1.le fun _ _ => Or.inr⟩
theorem e_ordText {t : St} {T : Nat → Int} {n : Nat} (hB : TkB t T n) (hw : WrdE t) : TxR t (bnd (F_X5_beginText t (1 : Int32)) fun _ s6 => bnd (F_X5_readOrder s6) fun _ s9 => F_X5_orders_19 FU s9) (readP T n (ordC T n (ordV T n))) := by
  obtain ⟨t1, e1, r1, g22, f1⟩ := e_X5_beginText (ord := true) hB hw (C := fun _ => (0, 0))
  have f1' : Fm Stx t t1 := f1.le fun a j z => z.elim Or.inl fun y => Or.inr (by unfold Sen; omega)
  have h1 : OwM t1 T n (skp T n 0) (fun _ => (0, 0)) 0 0 [] := ⟨r1, g22, by show 0 ≤ 12; omega, fun i c e => by rw [List.getElem?_nil] at e; cases e⟩
  have h2 := e_X5_readOrder h1 (by omega)
  have hpn := r1.p
  unfold readP
  rw [show F_X5_beginText t (1 : Int32) = some ((), t1) from e1, bnd_s]
  have h2 : OdO t1 T n (skp T n 0) [] (F_X5_readOrder t1) (ordC T n (ordV T n) 0 (skp T n 0) 0) := h2
  generalize ordC T n (ordV T n) 0 (skp T n 0) 0 = R at h2 ⊢
  rcases R with q | ⟨c, p', l'⟩
  · obtain ⟨t2, e2, b2, f2⟩ := h2
    rw [e2, bnd_s]
    exact (tr_bad b2 (FU_ge (by omega))).after (f1'.tr (f2.le fun _ _ => Or.inl))
  · obtain ⟨t2, C2, nc2, e2, r2, f2, hp2, hl2⟩ := h2
    rw [e2, bnd_s]
    exact (e_X5_orders_19 401 p' l' [c] t2 C2 nc2 (by omega) r2 hl2 FU (FU_ge (by omega))).after (f1'.tr (f2.le fun _ _ => Or.inl))
