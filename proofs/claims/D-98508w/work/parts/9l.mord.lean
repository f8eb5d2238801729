set_option maxRecDepth 100000
/-! ===== the model's reader: orders ===== -/
theorem i27 {t : St} {c k : Nat} (hc : c + k < 96) {v : Int32} {f : St → Option (Unit × St)} : (gd (inb (iI (c : Int) + iI (k : Int)) 96) <| nam (setI t 27 (iI (c : Int) + iI (k : Int)).toNatClampNeg v) f) = f (setI t 27 (c + k) v) := by
  rw [iI_add, inb_g (by omega), iI_nat (by omega), show ((c : Int) + (k : Int)).toNat = c + k by omega, nam_v]
theorem or_223 {t : St} {c : Nat} (hc : c + 8 ≤ 96) : F_X5_readOrder_223 t (iI c) = some ((), setI t 27 (c + 6) (si t 0 24)) := by
  unfold F_X5_readOrder_223
  rw [show (6 : Int32) = iI ((6 : Nat) : Int) from rfl]
  exact i27 (by omega)
theorem f27 {t : St} {j : Nat} {v : Int32} : Fm Scl t (setI t 27 j v) := Fm.set (by unfold Scl; omega)
theorem Scl_lw {a j : Nat} (h : Scl a j) : Slw a j := Or.inr h
theorem Sex_lw {a j : Nat} (h : Sex a j) : Slw a j := Or.inl h
theorem Stk_lw {a j : Nat} (h : Stk a j) : Slw a j := Or.inl (Or.inl (Or.inl h))
theorem Smu_lw {a j : Nat} (h : Smu a j) : Slw a j := Or.inl (Or.inl h)
theorem Sex_27 {j : Nat} : ¬ Sex 27 j := by unfold Sex Smu Stk Spc; omega
theorem Sex_22 : ¬ Sex 0 22 := by unfold Sex Smu Stk Spc; omega
/-- what is known at the end of an order -/
def OwO (t : St) (T : Nat → Int) (n p : Nat) (C : CD) (nc c : Nat) (h : Int) (o : Option (DS × DS)) (x : Option (Unit × St)) : PR OC → Prop
  | .inl q => ∃ t', x = some ((), t') ∧ BdW t' T n q ∧ Fm Slw t t'
  | .inr (y, p', l') => ∃ t' C' nc', x = some ((), t') ∧ RdW true t' T n p' C' nc' l' ∧ Fm (fun a j => Sex a j ∨ (a = 27 ∧ c + 5 ≤ j ∧ j < c + 8)) t t' ∧ (nc ≤ nc' ∧ ∀ k, k < nc → C' k = C k) ∧ (p ≤ p' ∧ p' ≤ n) ∧ l' ≤ 50 ∧ (y.1 = h ∧ y.2.1 = o) ∧ (si t' 27 (c + 7) = iI y.2.2.1 ∧ 1 ≤ y.2.2.1 ∧ y.2.2.1 ≤ 20) ∧ ((y.2.2.2 = none → si t' 27 (c + 5) = iI nc ∧ si t' 27 (c + 6) = iI nc) ∧ ∀ f, y.2.2.2 = some f → si t' 27 (c + 5) = iI nc ∧ si t' 27 (c + 6) = iI nc' ∧ ClT true C' nc nc' f)
theorem or_185 {t : St} {T : Nat → Int} {n p : Nat} {C : CD} {nc l c : Nat} (h : RdW true t T n p C nc l) (hl : l ≤ 50) (hc : c + 8 ≤ 96) {tm : Int} (htm : si t 27 (c + 7) = iI tm) (htr : 1 ≤ tm ∧ tm ≤ 20) (hd : Int) (o : Option (DS × DS)) : OwO t T n p C nc c hd o (F_X5_readOrder_185 t (iI c)) (oWhen T n (ordV T n) hd o tm p l) := by
  have hpn := h.p
  have hnx := nxt_r (T := T) hpn.1
  have n24 : si t 0 24 = iI nc := h.2.1.1
  have f1 : Fm (fun a j => a = 27 ∧ j = c + 5) t (setI t 27 (c + 5) (iI nc)) := Fm.set ⟨rfl, rfl⟩
  have r1 := h.cl (f27 (t := t) (j := c + 5) (v := iI nc))
  have g5 : si (setI t 27 (c + 5) (iI nc)) 27 (c + 5) = iI nc := by rw [si_set, if_pos rfl, if_pos rfl]
  have g7 : si (setI t 27 (c + 5) (iI nc)) 27 (c + 7) = iI tm := by rw [f1.i _ _ (by omega)]; exact htm
  have pre : F_X5_readOrder_185 t (iI c) = bnd (F_X5_isWord (setI t 27 (c + 5) (iI nc)) (294 : Int64)) fun r5 s6 => if r5 = 0 then (F_X5_readOrder_223 s6 (iI c)) else (bnd (F_X5_next s6) fun _ s10 => bnd (F_X5_readExpression s10 (1 : Int32)) fun _ s13 => F_X5_readOrder_223 s13 (iI c)) := by
    unfold F_X5_readOrder_185
    rw [n24, show (5 : Int32) = iI ((5 : Nat) : Int) from rfl, i27 (by omega), if_pos (show si (setI t 27 (c + 5) (iI nc)) 0 20 = 0 from r1.1.2.1)]
  rw [pre]
  generalize setI t 27 (c + 5) (iI nc) = t1 at f1 r1 g5 g7 ⊢
  unfold oWhen
  rw [K_294, e_X5_isWord r1.1.1 wd_10 hs_10, bnd_s]
  have fs : ∀ {t a : St}, Fm Sex t a → Fm (fun a j => Sex a j ∨ (a = 27 ∧ c + 5 ≤ j ∧ j < c + 8)) t a := fun f => f.le fun _ _ => Or.inl
  have f1' : Fm (fun a j => Sex a j ∨ (a = 27 ∧ c + 5 ≤ j ∧ j < c + 8)) t t1 := f1.le fun a j z => Or.inr (by omega)
  have toS : ∀ {t a : St}, Fm (fun a j => Sex a j ∨ (a = 27 ∧ c + 5 ≤ j ∧ j < c + 8)) t a → Fm Slw t a := fun f => f.le fun a j z => z.elim Or.inl fun y => Or.inr (by unfold Scl; omega)
  by_cases a : tokIs T n p (strB 10)
  · have hlt := tok_lt hpn.1 wd_10.1.1 a
    have hn' := hnx.2.2 hlt
    obtain ⟨t2, e2, g2, f2⟩ := g_next r1.1
    have r2 := r1.nx g2 (f2.le fun _ _ => Or.inl) hnx.1
    have h3 := e_exprT r2 hl
    rw [if_pos a, if_neg (show ¬ iI (bZ (tokIs T n p (strB 10))) = 0 by rw [bZ_t a]; decide), e2, bnd_s]
    have h3 : ExT true t2 T n (nxt T n p) C nc (F_X5_readExpression t2 (iI 1)) (testP T n (ordV T n) 12 0 (nxt T n p) l) := h3
    generalize testP T n (ordV T n) 12 0 (nxt T n p) l = R at h3 ⊢
    rcases R with q | ⟨f, p', l'⟩
    · obtain ⟨t3, e3, b3, f3⟩ := h3
      have f4 : Fm (fun a j => a = 27 ∧ c + 5 ≤ j ∧ j < c + 8) t3 (setI t3 27 (c + 6) (si t3 0 24)) := Fm.set (by omega)
      show ∃ t', (bnd (F_X5_readExpression t2 (1 : Int32)) fun _ s16 => F_X5_readOrder_223 s16 (iI c)) = some ((), t') ∧ BdW t' T n q ∧ Fm Slw t t'
      rw [show F_X5_readExpression t2 (1 : Int32) = some ((), t3) from e3, bnd_s, or_223 hc]
      exact ⟨_, rfl, b3.cl f27, toS (((f1'.tr (fs (f2.le fun _ _ z => Or.inl (Or.inl z)))).tr (fs f3)).tr (f4.le fun _ _ => Or.inr))⟩
    · obtain ⟨t3, C3, nc3, e3, r3, f3, hC, hcl, hp, hl3⟩ := h3
      have f4 : Fm (fun a j => a = 27 ∧ c + 5 ≤ j ∧ j < c + 8) t3 (setI t3 27 (c + 6) (iI nc3)) := Fm.set (by omega)
      have f4' : Fm (fun a j => a = 27 ∧ j = c + 6) t3 (setI t3 27 (c + 6) (iI nc3)) := Fm.set ⟨rfl, rfl⟩
      have n3 : si t3 0 24 = iI nc3 := r3.2.1.1
      have k5 : ∀ j, si t3 27 j = si t1 27 j := fun j => by rw [f3.i _ _ Sex_27, f2.i _ _ (by unfold Stk; omega)]
      show ∃ t' C' nc', (bnd (F_X5_readExpression t2 (1 : Int32)) fun _ s16 => F_X5_readOrder_223 s16 (iI c)) = some ((), t') ∧ _
      rw [show F_X5_readExpression t2 (1 : Int32) = some ((), t3) from e3, bnd_s, or_223 hc, n3]
      refine ⟨_, C3, nc3, rfl, r3.cl f27, ((f1'.tr (fs (f2.le fun _ _ z => Or.inl (Or.inl z)))).tr (fs f3)).tr (f4.le fun _ _ => Or.inr), ⟨by have := hcl.lt; omega, hC⟩, by omega, hl3, ⟨rfl, rfl⟩, ⟨?_, htr⟩, fun z => (by cases z), fun g z => ?_⟩
      · rw [f4'.i _ _ (by omega), k5]; exact g7
      · have z : some f = some g := z
        cases z
        refine ⟨by rw [f4'.i _ _ (by omega), k5]; exact g5, by rw [si_set, if_pos rfl, if_pos rfl], hcl⟩
  · have f4 : Fm (fun a j => a = 27 ∧ c + 5 ≤ j ∧ j < c + 8) t1 (setI t1 27 (c + 6) (iI nc)) := Fm.set (by omega)
    have f4' : Fm (fun a j => a = 27 ∧ j = c + 6) t1 (setI t1 27 (c + 6) (iI nc)) := Fm.set ⟨rfl, rfl⟩
    have n1 : si t1 0 24 = iI nc := r1.2.1.1
    rw [if_neg a, if_pos (show iI (bZ (tokIs T n p (strB 10))) = 0 by rw [bZ_f a]; rfl)]
    show ∃ t' C' nc', F_X5_readOrder_223 t1 (iI c) = some ((), t') ∧ _
    rw [or_223 hc, n1]
    refine ⟨_, C, nc, rfl, r1.cl f27, f1'.tr (f4.le fun _ _ => Or.inr), ⟨Nat.le_refl _, fun _ _ => rfl⟩, by omega, hl, ⟨rfl, rfl⟩, ⟨?_, htr⟩, fun _ => ⟨?_, ?_⟩, fun g z => by cases z⟩
    · rw [f4'.i _ _ (by omega)]; exact g7
    · rw [f4'.i _ _ (by omega)]; exact g5
    · rw [si_set, if_pos rfl, if_pos rfl]
/-! on a bad text -/
theorem BdW.or185 {t : St} {T : Nat → Int} {n q c : Nat} (h : BdW t T n q) (hc : c + 8 ≤ 96) : ∃ t', F_X5_readOrder_185 t (iI c) = some ((), t') ∧ BdW t' T n q ∧ Fm Slw t t' := by
  unfold F_X5_readOrder_185
  rw [show (5 : Int32) = iI ((5 : Nat) : Int) from rfl, i27 (by omega), if_neg (show ¬ si (setI t 27 (c + 5) _) 0 20 = (0 : Int32) by rw [si_set, if_neg (by omega), h.1.2.1]; decide), or_223 hc]
  exact ⟨_, rfl, (h.cl f27).cl f27, (f27.tr f27).le fun _ _ => Scl_lw⟩
theorem BdW.or137 {t : St} {T : Nat → Int} {n q c : Nat} (h : BdW t T n q) (hc : c + 8 ≤ 96) : ∃ t', F_X5_readOrder_137 t (iI c) = some ((), t') ∧ BdW t' T n q ∧ Fm Slw t t' := by
  unfold F_X5_readOrder_137
  rw [show (7 : Int32) = iI ((7 : Nat) : Int) from rfl, i27 (by omega), if_neg (show ¬ si (setI t 27 (c + 7) _) 0 20 = (0 : Int32) by rw [si_set, if_neg (by omega), h.1.2.1]; decide)]
  obtain ⟨t', e, b, f⟩ := BdW.or185 (h.cl f27) hc
  exact ⟨t', e, b, (f27.le fun _ _ => Scl_lw).tr f⟩
theorem sum_22 {t : St} {a : Nat} (ha : a + 1 < 96) : F_X5_readSum_22 t (iI a) = some ((), setI t 27 (a + 1) (si t 0 24)) := by
  unfold F_X5_readSum_22
  rw [show (1 : Int32) = iI ((1 : Nat) : Int) from rfl]
  exact i27 (by omega)
theorem BdW.orSum {t : St} {T : Nat → Int} {n q a : Nat} (h : BdW t T n q) (ha : a + 1 < 96) : ∃ t', F_X5_readSum t (iI a) = some ((), t') ∧ BdW t' T n q ∧ Fm Slw t t' := by
  unfold F_X5_readSum
  rw [inb_g (by omega), iI_nat (by omega), Int.toNat_natCast, nam_v, if_neg (show ¬ si (setI t 27 a _) 0 20 = (0 : Int32) by rw [si_set, if_neg (by omega), h.1.2.1]; decide), sum_22 ha]
  exact ⟨_, rfl, (h.cl f27).cl f27, (f27.tr f27).le fun _ _ => Scl_lw⟩
theorem BdW.or130 {t : St} {T : Nat → Int} {n q c : Nat} (h : BdW t T n q) (hc : c + 8 ≤ 96) : ∃ t', F_X5_readOrder_130 t (iI c) = some ((), t') ∧ BdW t' T n q ∧ Fm Slw t t' := by
  obtain ⟨t1, e1, b1, f1⟩ := h.orSum (a := c + 3) (by omega)
  obtain ⟨t2, e2, b2, f2⟩ := b1.or137 hc
  unfold F_X5_readOrder_130
  rw [k_3, iI_add, show ((c : Int) + 3) = ((c + 3 : Nat) : Int) by omega, e1, bnd_s]
  exact ⟨t2, e2, b2, f1.tr f2⟩
/-- a sum of an order -/
def SmO (t : St) (T : Nat → Int) (n p : Nat) (C : CD) (nc a : Nat) (x : Option (Unit × St)) : PR DS → Prop
  | .inl q => ∃ t', x = some ((), t') ∧ BdW t' T n q ∧ Fm Slw t t'
  | .inr (f, p', l') => ∃ t' C' nc', x = some ((), t') ∧ RdW true t' T n p' C' nc' l' ∧ Fm (fun b j => Sex b j ∨ (b = 27 ∧ a ≤ j ∧ j < a + 2)) t t' ∧ (∀ k, k < nc → C' k = C k) ∧ ClS true C' nc nc' f ∧ (p < p' ∧ p' ≤ n) ∧ l' ≤ 50 ∧ si t' 27 a = iI nc ∧ si t' 27 (a + 1) = iI nc'
theorem or_sum {t : St} {T : Nat → Int} {n p : Nat} {C : CD} {nc l a : Nat} (h : RdW true t T n p C nc l) (hl : l ≤ 50) (ha : a + 1 < 96) : SmO t T n p C nc a (F_X5_readSum t (iI a)) (sumP T n (ordV T n) 12 0 p l) := by
  have n24 : si t 0 24 = iI nc := h.2.1.1
  have r1 := h.cl (f27 (t := t) (j := a) (v := iI nc))
  have f1 : Fm (fun b j => b = 27 ∧ j = a) t (setI t 27 a (iI nc)) := Fm.set ⟨rfl, rfl⟩
  have ga : si (setI t 27 a (iI nc)) 27 a = iI nc := by rw [si_set, if_pos rfl, if_pos rfl]
  have h3 := e_exprS r1 hl
  have h3 : ExS true (setI t 27 a (iI nc)) T n p C nc (F_X5_readExpression (setI t 27 a (iI nc)) (iI 0)) (sumP T n (ordV T n) 12 0 p l) := h3
  unfold F_X5_readSum
  rw [inb_g (by omega), iI_nat (by omega), Int.toNat_natCast, n24, nam_v, if_pos (show si (setI t 27 a (iI nc)) 0 20 = 0 from r1.1.2.1), k_0]
  generalize setI t 27 a (iI nc) = t1 at f1 r1 ga h3 ⊢
  generalize sumP T n (ordV T n) 12 0 p l = R at h3 ⊢
  rcases R with q | ⟨f, p', l'⟩
  · obtain ⟨t2, e2, b2, f2⟩ := h3
    rw [e2, bnd_s, sum_22 ha]
    exact ⟨_, rfl, b2.cl f27, ((f1.le fun b j z => Scl_lw (by unfold Scl; omega)).tr (f2.le fun _ _ => Sex_lw)).tr (f27.le fun _ _ => Scl_lw)⟩
  · obtain ⟨t2, C2, nc2, e2, r2, f2, hC, hcl, hp, hl2⟩ := h3
    have n2 : si t2 0 24 = iI nc2 := r2.2.1.1
    have f3 : Fm (fun b j => b = 27 ∧ j = a + 1) t2 (setI t2 27 (a + 1) (iI nc2)) := Fm.set ⟨rfl, rfl⟩
    rw [e2, bnd_s, sum_22 ha, n2]
    refine ⟨_, C2, nc2, rfl, r2.cl f27, ((f1.le fun b j z => Or.inr (by omega)).tr (f2.le fun _ _ => Or.inl)).tr (f3.le fun b j z => Or.inr (by omega)), hC, hcl, hp, hl2, ?_, ?_⟩
    · rw [f3.i _ _ (by omega), f2.i _ _ Sex_27]; exact ga
    · rw [si_set, if_pos rfl, if_pos rfl]
theorem wd_9 : wdL (strB 9) := by unfold wdL; decide
theorem hs_9 : (21279923 : Int) = hsL (strB 9) := by decide
theorem or_137 {t : St} {T : Nat → Int} {n p : Nat} {C : CD} {nc l c : Nat} (h : RdW true t T n p C nc l) (hl : l ≤ 50) (hc : c + 8 ≤ 96) (hd : Int) (o : Option (DS × DS)) : OwO t T n p C nc c hd o (F_X5_readOrder_137 t (iI c)) (timesS T n (ordV T n) hd o p l) := by
  have hpn := h.p
  have hnx := nxt_r (T := T) hpn.1
  have r1 := h.cl (f27 (t := t) (j := c + 7) (v := iI 1))
  have f1 : Fm (fun b j => b = 27 ∧ j = c + 7) t (setI t 27 (c + 7) (iI 1)) := Fm.set ⟨rfl, rfl⟩
  have g7 : si (setI t 27 (c + 7) (iI 1)) 27 (c + 7) = iI 1 := by rw [si_set, if_pos rfl, if_pos rfl]
  have pre : F_X5_readOrder_137 t (iI c) = bnd (F_X5_isWord (setI t 27 (c + 7) (iI 1)) (21279923 : Int64)) fun r5 s6 => if r5 = 0 then (F_X5_readOrder_185 s6 (iI c)) else (bnd (F_X5_next s6) fun _ s10 => bnd (F_X5_number s10 (1 : Int64) (20 : Int64)) fun r12 s13 => gd (inb (iI (c : Int) + (7 : Int32)) 96) <| nam (setI s13 27 (iI (c : Int) + (7 : Int32)).toNatClampNeg r12) fun s16 => F_X5_readOrder_185 s16 (iI c)) := by
    unfold F_X5_readOrder_137
    rw [k_1, show (7 : Int32) = iI ((7 : Nat) : Int) from rfl, i27 (by omega), if_pos (show si (setI t 27 (c + 7) (iI 1)) 0 20 = 0 from r1.1.2.1)]
  rw [pre]
  generalize setI t 27 (c + 7) (iI 1) = t1 at f1 r1 g7 ⊢
  have F1 : Fm (fun a j => Sex a j ∨ (a = 27 ∧ c + 5 ≤ j ∧ j < c + 8)) t t1 := f1.le fun a j z => Or.inr (by omega)
  have toS : ∀ {t a : St}, Fm (fun a j => Sex a j ∨ (a = 27 ∧ c + 5 ≤ j ∧ j < c + 8)) t a → Fm Slw t a := fun f => f.le fun a j z => z.elim Or.inl fun y => Or.inr (by unfold Scl; omega)
  -- behind the times
  have aft : ∀ {t2 : St} {p2 : Nat} {R : PR OC} {x : Option (Unit × St)}, Fm (fun a j => Sex a j ∨ (a = 27 ∧ c + 5 ≤ j ∧ j < c + 8)) t t2 → p ≤ p2 → OwO t2 T n p2 C nc c hd o x R → OwO t T n p C nc c hd o x R := by
    intro t2 p2 R x f hp2 h
    rcases R with q | ⟨y, p', l'⟩
    · obtain ⟨t', e, b, f'⟩ := h
      exact ⟨t', e, b, (toS f).tr f'⟩
    · obtain ⟨t', C', nc', e, r, f', hn, hp, rest⟩ := h
      exact ⟨t', C', nc', e, r, f.tr f', hn, ⟨by omega, hp.2⟩, rest⟩
  unfold timesS
  rw [K_21279923, e_X5_isWord r1.1.1 wd_9 hs_9, bnd_s]
  by_cases a : tokIs T n p (strB 9)
  · obtain ⟨t2, e2, g2, f2⟩ := g_next r1.1
    have r2 := r1.nx g2 (f2.le fun _ _ => Or.inl) hnx.1
    have F2 := F1.tr (f2.le fun _ _ z => Or.inl (Or.inl (Or.inl z)))
    have hnx2 := nxt_r (T := T) hnx.2.1
    obtain ⟨n1, n2⟩ := e_X5_number g2 (lo := 1) (hi := 20) (by omega) (by omega)
    rw [if_pos a, if_neg (show ¬ iI (bZ (tokIs T n p (strB 9))) = 0 by rw [bZ_t a]; decide), e2, bnd_s, K_1, K_20, show (7 : Int32) = iI ((7 : Nat) : Int) from rfl]
    by_cases b : numP T n (nxt T n p) 1 20
    · obtain ⟨t3, e3, g3, f3⟩ := n1 b
      have r3 := r2.nx g3 f3 hnx2.1
      have F3 := F2.tr (f3.le fun _ _ z => Or.inl (Or.inl z))
      rw [if_pos b, e3, bnd_s, i27 (by omega)]
      refine aft (F3.tr (Fm.set (Or.inr ⟨rfl, by omega, by omega⟩))) (by omega) (or_185 (r3.cl f27) hl hc (tm := numZ T n (nxt T n p)) ?_ b.2 hd o)
      rw [si_set, if_pos rfl, if_pos rfl]
    · obtain ⟨t3, v, e3, g3, f3⟩ := n2 b
      have b3 := r2.bd g3 f3
      rw [if_neg b, e3, bnd_s, i27 (by omega)]
      obtain ⟨t4, e4, b4, f4⟩ := BdW.or185 (b3.cl (f27 (t := t3) (j := c + 7) (v := v))) hc
      exact ⟨t4, e4, b4, (((toS F2).tr (f3.le fun _ _ => Smu_lw)).tr (f27.le fun _ _ => Scl_lw)).tr f4⟩
  · rw [if_neg a, if_pos (show iI (bZ (tokIs T n p (strB 9))) = 0 by rw [bZ_f a]; rfl)]
    exact aft F1 (Nat.le_refl _) (or_185 r1 hl hc g7 (by omega) hd o)
