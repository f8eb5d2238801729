set_option maxRecDepth 100000
/-! ===== the model's reader: expressions ===== -/
theorem unwind : ∀ (P : List (Int × Nat)), ∃ q P0, P = q ++ P0 ∧ (∀ y ∈ q, 1 ≤ bindZ y.1) ∧ topB P0 < 1
  | [] => ⟨[], [], rfl, fun y hy => absurd hy List.not_mem_nil, by show (-1 : Int) < 1; omega⟩
  | x :: r => by
    by_cases c : 1 ≤ bindZ x.1
    · obtain ⟨q, P0, e, h1, h2⟩ := unwind r
      refine ⟨x :: q, P0, by rw [e]; rfl, fun y hy => ?_, h2⟩
      rcases List.mem_cons.mp hy with rfl | hy
      · exact c
      · exact h1 y hy
    · exact ⟨[], x :: r, rfl, fun y hy => absurd hy List.not_mem_nil, by show bindZ x.1 < 1; omega⟩
theorem BdM.settle {ord : Bool} {t : St} {T : Nat → Int} {n q : Nat} (h : BdM ord t T n q) : ∃ t', F_X5_settle t (iI 1) = some ((), t') ∧ BdM ord t' T n q ∧ Fm Sex t t' := by
  obtain ⟨h1, h2, P, C, nc, l, d, h3⟩ := h
  obtain ⟨qq, P0, rfl, hq, hP⟩ := unwind P
  obtain ⟨t', e, hp, f⟩ := e_X5_settle (k := 1) (by omega) hP h3 hq
  have f' : Fm Sex t t' := f.sst.le fun _ _ => Or.inr
  exact ⟨t', e, ⟨h1.pc f.sst, h2.ex f', P0, _, _, l, d, hp⟩, f'⟩
/-- the reader between expressions -/
def RdW (ord : Bool) (t : St) (T : Nat → Int) (n p : Nat) (C : CD) (nc l : Nat) : Prop := TkG t T n p ∧ CodR t C nc ∧ WrdE t ∧ (nc ≤ p ∧ si t 0 27 = iI l ∧ si t 0 21 = iI (ordI ord))
def BdW (t : St) (T : Nat → Int) (n q : Nat) : Prop := TkF t T n q ∧ WrdE t
theorem RdM.w {ord : Bool} {t : St} {T : Nat → Int} {n p : Nat} {P : List (Int × Nat)} {C : CD} {nc l d : Nat} (h : RdM ord t T n p P C nc l d) : RdW ord t T n p C nc l := ⟨h.1, h.2.1.2.2.1, h.2.2.1, by have := h.2.2.2; omega, h.2.1.2.2.2.1.1, h.2.1.2.2.2.1.2.2⟩
theorem BdM.w {ord : Bool} {t : St} {T : Nat → Int} {n q : Nat} (h : BdM ord t T n q) : BdW t T n q := ⟨h.1, h.2.1⟩
theorem RdW.p {ord : Bool} {t : St} {T : Nat → Int} {n p : Nat} {C : CD} {nc l : Nat} (h : RdW ord t T n p C nc l) : p ≤ n ∧ n ≤ 400 := ⟨h.1.1.2.1, h.1.1.1.2.2.1⟩
theorem Smu_w {a j : Nat} (h : Smu a j) : ¬ (a = 0 ∧ 21 ≤ j ∧ j ≤ 31) ∧ ¬ (a = 12 ∨ a = 13) := by unfold Smu Stk at h; omega
theorem RdW.nx {ord : Bool} {t t' : St} {T : Nat → Int} {n p p' : Nat} {C : CD} {nc l : Nat} (h : RdW ord t T n p C nc l) (h' : TkG t' T n p') (hf : Fm Smu t t') (hp : p ≤ p') : RdW ord t' T n p' C nc l := ⟨h', h.2.1.go hf ⟨fun z => (Smu_w z).1 (by omega), fun k => ⟨fun z => (Smu_w z).2 (by omega), fun z => (Smu_w z).2 (by omega)⟩⟩, h.2.2.1.ex (hf.le fun _ _ => Or.inl), by have := h.2.2.2.1; omega, by rw [hf.i _ _ fun z => (Smu_w z).1 (by omega)]; exact h.2.2.2.2.1, by rw [hf.i _ _ fun z => (Smu_w z).1 (by omega)]; exact h.2.2.2.2.2⟩
theorem RdW.bd {ord : Bool} {t t' : St} {T : Nat → Int} {n p q : Nat} {C : CD} {nc l : Nat} (h : RdW ord t T n p C nc l) (h' : TkF t' T n q) (hf : Fm Smu t t') : BdW t' T n q := ⟨h', h.2.2.1.ex (hf.le fun _ _ => Or.inl)⟩
theorem RdW.clear {ord : Bool} {t : St} {T : Nat → Int} {n p : Nat} {C : CD} {nc l : Nat} (h : RdW ord t T n p C nc l) : RdM ord (setI (setI t 0 30 (iI 0)) 0 31 (iI 0)) T n p [] C nc l 0 ∧ Fm Sex t (setI (setI t 0 30 (iI 0)) 0 31 (iI 0)) := by
  have hpn := h.p
  obtain ⟨h1, b4, h3, h4⟩ := h
  have f : Fm (fun a j => a = 0 ∧ (j = 30 ∨ j = 31)) t (setI (setI t 0 30 (iI 0)) 0 31 (iI 0)) := (Fm.set (by omega)).tr (Fm.set (by omega))
  have f' : Fm Spc t (setI (setI t 0 30 (iI 0)) 0 31 (iI 0)) := f.le fun a j z => by unfold Spc; omega
  exact ⟨⟨h1.pc f', ⟨⟨trivial, by rw [si_set, if_pos rfl, if_neg (by omega), si_set, if_pos rfl, if_pos rfl]; rfl⟩, fun x hx => absurd hx List.not_mem_nil, b4.go f ⟨by omega, fun k => by omega⟩, ⟨by rw [f.i _ _ (by omega)]; exact h4.2.1, by rw [si_set, if_pos rfl, if_pos rfl]; rfl, by rw [f.i _ _ (by omega)]; exact h4.2.2⟩, by show nc + 0 ≤ 400; omega, by show 0 ≤ 400; omega⟩, h3.ex (f'.le fun _ _ => Or.inr), by show nc + 0 ≤ p; omega, by show 0 ≤ p; omega⟩, f'.le fun _ _ => Or.inr⟩
/-- the end of an expression -/
theorem go_end {x1 : Int32} {t t' : St} {u u' : Int} {j : Nat} (g : Go x1 t u t' u' j) (hj : j ≤ 1000) : F_X5_readExpression_20 FU t x1 (iI u) = F_X5_readExpression_20 (FU - 1 - j + 1) t' x1 (iI u') := by
  rw [← g (FU - 1 - j + 1)]
  congr 1
  have := FU_ge (n := 1001) (by omega)
  omega
theorem end_bad {ord : Bool} {x1 : Int32} {t : St} {u : Int} {T : Nat → Int} {n p q : Nat} (hn : n ≤ 400) (h : BadI ord x1 t u T n p q) : ∃ t', F_X5_readExpression_20 FU t x1 (iI u) = some ((), t') ∧ BdM ord t' T n q ∧ Fm Sex t t' := by
  obtain ⟨t1, u1, j, g, hj, hb, f⟩ := h
  obtain ⟨t2, e2, hb2, f2⟩ := hb.settle
  rw [go_end g (by omega)]
  simp only [F_X5_readExpression_20]
  unfold F_X5_readExpression_76
  rw [hb.1.2.1, if_neg (show ¬ iI 1 = (0 : Int32) by decide), show F_X5_settle t1 (1 : Int32) = some ((), t2) from e2, bnd_s]
  exact ⟨t2, rfl, hb2, f.tr f2⟩
theorem end_over {ord : Bool} {x1 : Int32} {t t1 : St} {u : Int} {T : Nat → Int} {n p : Nat} {q : List (Int × Nat)} {C : CD} {nc l d j : Nat} (g : Go x1 t u t1 4 j) (hj : j ≤ 1000) (h : RdM ord t1 T n p (q ++ []) C nc l d) (hq : ∀ y ∈ q, 1 ≤ bindZ y.1) (f : Fm Sex t t1) : ∃ t', F_X5_readExpression_20 FU t x1 (iI u) = some ((), t') ∧ RdM ord t' T n p [] (stC q (C, nc)).1 (stC q (C, nc)).2 l d ∧ Fm Sex t t' := by
  obtain ⟨t2, e2, r2, f2⟩ := h.settle (k := 1) (by omega) (by show (-1 : Int) < 1; omega) hq
  have h0 : si t1 0 20 = 0 := h.1.2.1
  rw [go_end g hj]
  simp only [F_X5_readExpression_20]
  unfold F_X5_readExpression_76
  rw [if_pos h0, if_pos (show iI 4 = (4 : Int32) from rfl), show F_X5_settle t1 (1 : Int32) = some ((), t2) from e2, bnd_s]
  exact ⟨t2, rfl, r2, f.tr (f2.le fun _ _ => Or.inr)⟩
/-- a sum, whole -/
def ExS (ord : Bool) (t : St) (T : Nat → Int) (n p : Nat) (C : CD) (nc : Nat) (x : Option (Unit × St)) : PR DS → Prop
  | .inl q => ∃ t', x = some ((), t') ∧ BdW t' T n q ∧ Fm Sex t t'
  | .inr (f, p', l') => ∃ t' C' nc', x = some ((), t') ∧ RdW ord t' T n p' C' nc' l' ∧ Fm Sex t t' ∧ (∀ k, k < nc → C' k = C k) ∧ ClS ord C' nc nc' f ∧ (p < p' ∧ p' ≤ n) ∧ l' ≤ 50
def ExT (ord : Bool) (t : St) (T : Nat → Int) (n p : Nat) (C : CD) (nc : Nat) (x : Option (Unit × St)) : PR DT → Prop
  | .inl q => ∃ t', x = some ((), t') ∧ BdW t' T n q ∧ Fm Sex t t'
  | .inr (f, p', l') => ∃ t' C' nc', x = some ((), t') ∧ RdW ord t' T n p' C' nc' l' ∧ Fm Sex t t' ∧ (∀ k, k < nc → C' k = C k) ∧ ClT ord C' nc nc' f ∧ (p < p' ∧ p' ≤ n) ∧ l' ≤ 50
theorem e_exprS {ord : Bool} {t : St} {T : Nat → Int} {n p : Nat} {C : CD} {nc l : Nat} (h : RdW ord t T n p C nc l) (hl : l ≤ 50) : ExS ord t T n p C nc (F_X5_readExpression t (iI 0)) (sumP T n (valV ord T n) 12 0 p l) := by
  obtain ⟨h0, f0⟩ := h.clear
  have hpn := h.p
  have h1 := e_sum (ord := ord) (x1 := iI 0) (T := T) (n := n) 12 0 (by omega) (by omega) _ p l [] C nc h0 hl (by show (-1 : Int) < 5; omega)
  have en := sum_end (T := T) (n := n) (V := valV ord T n) 12 0 p l
  unfold F_X5_readExpression
  rw [k_0, nam_v, nam_v, if_pos rfl, k_1]
  generalize sumP T n (valV ord T n) 12 0 p l = R at h1 en ⊢
  rcases R with q | ⟨f, p', l'⟩
  · obtain ⟨t', e, hb, f1⟩ := end_bad hpn.2 h1
    exact ⟨t', e, hb.w, f0.tr f1⟩
  · obtain ⟨t1, j, q, C1, nc1, g1, hj, r1, f1, hq, hC, hn, hcl, hp', hl'⟩ := h1
    have hi : innZ (q ++ []) = -1 := (innZ_q fun y hy => by have := hq y hy; omega).trans rfl
    have g2 : Go (iI 0) t1 3 t1 4 1 := Go.one r1.1.2.1 (by omega) (by
      rw [tu3, e_bs r1.1.1, en f p' l' rfl]
      unfold F_X5_behindSum_71
      rw [k_m1, if_pos rfl, e_X5_inner r1.2.1, bnd_s, hi, if_neg (show ¬ iI (-1) = (32 : Int32) by decide), if_pos rfl, if_pos (show iI 0 = (0 : Int32) from rfl)]
      rfl)
    obtain ⟨t', e, r', f2⟩ := end_over (g1.tr g2) (by omega) r1 (fun y hy => by have := hq y hy; omega) f1
    have hlo := stC_lo (lo := nc1) q C1 nc1 (Nat.le_refl _) (fun y hy z => by have := hq y hy; unfold jmpO at z; omega)
    exact ⟨t', _, _, e, r'.w, f0.tr f2, fun k hk => by rw [hlo.2 k (by omega), hC k hk], hcl, hp', hl'⟩
theorem e_exprT {ord : Bool} {t : St} {T : Nat → Int} {n p : Nat} {C : CD} {nc l : Nat} (h : RdW ord t T n p C nc l) (hl : l ≤ 50) : ExT ord t T n p C nc (F_X5_readExpression t (iI 1)) (testP T n (valV ord T n) 12 0 p l) := by
  obtain ⟨h0, f0⟩ := h.clear
  have hpn := h.p
  have h1 := e_test (ord := ord) (T := T) (n := n) 12 0 (by omega) (by omega) _ p l [] C nc h0 hl (by show (-1 : Int) < 1; omega) (by show (-1 : Int) ≠ 32; omega)
  have en := test_end (T := T) (n := n) (V := valV ord T n) 12 0 p l
  unfold F_X5_readExpression
  rw [k_0, nam_v, nam_v, if_neg (by decide)]
  generalize testP T n (valV ord T n) 12 0 p l = R at h1 en ⊢
  rcases R with q | ⟨f, p', l'⟩
  · obtain ⟨t', e, hb, f1⟩ := end_bad hpn.2 h1
    exact ⟨t', e, hb.w, f0.tr f1⟩
  · obtain ⟨t1, j, q, C1, nc1, g1, hj, r1, f1, hq, hC, hn, hcl, hp', hl'⟩ := h1
    have hi : innZ (q ++ []) = -1 := (innZ_q fun y hy => by have := hq y hy; omega).trans rfl
    have en := en f p' l' rfl
    have g2 : Go (iI 1) t1 2 t1 4 1 := Go.one r1.1.2.1 (by omega) (by
      rw [tu2]
      unfold F_X5_behindTest
      rw [K_1476, e_X5_isWord r1.1.1 wd_24 hs_24, bnd_s, if_pos (show iI (bZ (tokIs T n p' (strB 24))) = 0 by rw [bZ_f en.1]; rfl), K_498, e_X5_isWord r1.1.1 wd_25 hs_25, bnd_s, if_pos (show iI (bZ (tokIs T n p' (strB 25))) = 0 by rw [bZ_f en.2]; rfl), e_X5_inner r1.2.1, bnd_s, hi, if_pos (show iI (-1) = (-1 : Int32) from rfl)]
      rfl)
    obtain ⟨t', e, r', f2⟩ := end_over (g1.tr g2) (by omega) r1 (fun y hy => by have := hq y hy; omega) f1
    have hlo := stC_lo (lo := nc) q C1 nc1 (by omega) (fun y hy z => (hq y hy).2.2 z)
    exact ⟨t', _, _, e, r'.w, f0.tr f2, fun k hk => by rw [hlo.2 k (by omega), hC k hk], hcl, hp', hl'⟩
